/-! Bounds, trials: a window's potential of a view, event by event; the window is Tw + 1 .. a0, a0 - Tw the way to the server and back -/
def pOn (Tw : Int) (o : List Int) : Nat := o.countP (fun t => decide (Tw < t))
def pLn (a0 : Int) (l : List NtM) : Nat := l.countP (fun n => decide (¬ n.2.2.1 = 0 ∧ a0 < n.1))
def oLn (rc a0 : Int) (l : List NtM) : Nat := l.countP (fun n => decide ((¬ n.2.2.1 = 0 ∧ rc ≤ n.2.2.2) ∧ n.1 ≤ a0))
/-- packets of the window, in the queue or lost; fresh losses from before -/
abbrev pNv (Tw a0 : Int) (v : SV) : Nat := pOn Tw v.2.1 + pLn a0 v.2.2
abbrev LoN (a0 : Int) (v : SV) : Nat := oLn (v.1.1 9) a0 v.2.2
theorem pLn_mid {a0 : Int} {l1 l2 : List NtM} {n : NtM} : pLn a0 (l1 ++ n :: l2) = pLn a0 (l1 ++ l2) + if ¬ n.2.2.1 = 0 ∧ a0 < n.1 then 1 else 0 := by
  unfold pLn
  rw [List.countP_append, List.countP_append, List.countP_cons]
  simp only [decide_eq_true_eq]
  omega
theorem oLn_mid {rc a0 : Int} {l1 l2 : List NtM} {n : NtM} : oLn rc a0 (l1 ++ n :: l2) = oLn rc a0 (l1 ++ l2) + if (¬ n.2.2.1 = 0 ∧ rc ≤ n.2.2.2) ∧ n.1 ≤ a0 then 1 else 0 := by
  unfold oLn
  rw [List.countP_append, List.countP_append, List.countP_cons]
  simp only [decide_eq_true_eq]
  omega
theorem pLn_app {a0 : Int} {l : List NtM} {n : NtM} : pLn a0 (l ++ [n]) = pLn a0 l + if ¬ n.2.2.1 = 0 ∧ a0 < n.1 then 1 else 0 := by
  unfold pLn
  rw [List.countP_append, List.countP_singleton]
  simp only [decide_eq_true_eq]
theorem oLn_app {rc a0 : Int} {l : List NtM} {n : NtM} : oLn rc a0 (l ++ [n]) = oLn rc a0 l + if (¬ n.2.2.1 = 0 ∧ rc ≤ n.2.2.2) ∧ n.1 ≤ a0 then 1 else 0 := by
  unfold oLn
  rw [List.countP_append, List.countP_singleton]
  simp only [decide_eq_true_eq]
theorem po_len (rc a0 : Int) : ∀ l : List NtM, pLn a0 l + oLn rc a0 l ≤ l.length ∧ oLn rc a0 l ≤ lFl rc l := by
  intro l
  induction l with
  | nil => exact ⟨Nat.le_refl _, Nat.le_refl _⟩
  | cons n l ih =>
    unfold pLn oLn lFl at *
    rw [List.countP_cons, List.countP_cons, List.countP_cons, List.length_cons]
    simp only [decide_eq_true_eq]
    by_cases h1 : ¬ n.2.2.1 = 0 ∧ a0 < n.1
    · rw [if_pos h1, if_neg (fun q : (¬ n.2.2.1 = 0 ∧ rc ≤ n.2.2.2) ∧ n.1 ≤ a0 => by have := q.2; omega)]
      omega
    · rw [if_neg h1]
      by_cases h2 : (¬ n.2.2.1 = 0 ∧ rc ≤ n.2.2.2) ∧ n.1 ≤ a0
      · rw [if_pos h2, if_pos h2.1]
        omega
      · rw [if_neg h2]
        omega
theorem FI.pl {Tw a0 : Int} {v : SV} (h : FI v) : pNv Tw a0 v + LoN a0 v ≤ (v.1.1 5).toNat ∧ LoN a0 v ≤ vF v := by
  have a := po_len (v.1.1 9) a0 v.2.2
  have b : pOn Tw v.2.1 ≤ v.2.1.length := List.countP_le_length
  rw [h.1]
  show pOn Tw v.2.1 + pLn a0 v.2.2 + oLn (v.1.1 9) a0 v.2.2 ≤ _ ∧ oLn (v.1.1 9) a0 v.2.2 ≤ lFl (v.1.1 9) v.2.2
  omega
/-- nothing of the window yet -/
theorem pN_0 {Tw a0 : Int} {v : SV} (ho : ∀ x ∈ v.2.1, x ≤ Tw) (hl : ∀ n ∈ v.2.2, n.1 ≤ a0) : pNv Tw a0 v = 0 ∧ LoN a0 v = vF v := by
  constructor
  · have a : pOn Tw v.2.1 = 0 := by
      unfold pOn
      rw [List.countP_eq_zero]
      intro x hx
      have := ho x hx
      simp
      omega
    have b : pLn a0 v.2.2 = 0 := by
      unfold pLn
      rw [List.countP_eq_zero]
      intro n hn
      have := hl n hn
      simp
      omega
    show pOn Tw v.2.1 + pLn a0 v.2.2 = 0
    omega
  · show oLn (v.1.1 9) a0 v.2.2 = lFl (v.1.1 9) v.2.2
    unfold oLn lFl
    apply List.countP_congr
    intro n hn
    have := hl n hn
    simp
    omega
def tAq (W : Nat → Nat → Int → Int) (X D : Int) (j : Nat) (s : SdM) (p Lf Lo : Nat) : Int := 16 * qS s p Lf Lo + W j 0 (dvL X D (lvS s))
def tBq (W : Nat → Nat → Int → Int) (X D : Int) (j : Nat) (s : SdM) (p : Nat) : Int := 16 * max 0 (256 * s.1 5 - 512 * (p : Int)) + W j 1 (dvL X D (lvS s))
def tqPot (W : Nat → Nat → Int → Int) (X D Tw a0 now : Int) (v : SV) (L : List EnF) : Int := if dI v.1 (vF v) = 1 then max (tAq W X D (cdP now L) v.1 (pNv Tw a0 v) (vF v) (LoN a0 v)) (tBq W X D (cdP now L) v.1 (pNv Tw a0 v)) else tAq W X D (cdP now L) v.1 (pNv Tw a0 v) (vF v) (LoN a0 v)
section TQX
variable {W : Nat → Nat → Int → Int} {X D Tw a0 now x : Int} {v : SV} {L : List EnF}
theorem tq_A : tAq W X D (cdP now L) v.1 (pNv Tw a0 v) (vF v) (LoN a0 v) ≤ tqPot W X D Tw a0 now v L := by
  unfold tqPot
  split <;> omega
theorem tq_B (hd : dI v.1 (vF v) = 1) : tBq W X D (cdP now L) v.1 (pNv Tw a0 v) ≤ tqPot W X D Tw a0 now v L := by
  unfold tqPot
  rw [if_pos hd]
  omega
theorem tq_le (hA : tAq W X D (cdP now L) v.1 (pNv Tw a0 v) (vF v) (LoN a0 v) ≤ x) (hB : dI v.1 (vF v) = 1 → tBq W X D (cdP now L) v.1 (pNv Tw a0 v) ≤ x) : tqPot W X D Tw a0 now v L ≤ x := by
  unfold tqPot
  split
  · rename_i q
    have := hB q
    omega
  · exact hA
end TQX
section TQS
variable {now c dl R lo1 lo2 hi Tw a0 : Int} {s : SdM} {o : List Int} {l l1 l2 : List NtM} {n : NtM} {g : Gh} {K X D : Int} {ee : Nat → Int} {W : Nat → Nat → Int → Int}
theorem tq_lost (hP : TPc K X D ee W) (h : GB now c dl R lo1 lo2 hi s o (l1 ++ n :: l2) g) (hn : ¬ isA n) (ha : n.1 ≤ a0) : tqPot W X D Tw a0 now (lostM s n.2.2.2, o, l1 ++ l2) g.2.1 ≤ tqPot W X D Tw a0 now (s, o, l1 ++ n :: l2) g.2.1 + (if n.2.2.2 < s.1 9 then 0 else 65536) := by
  have hV := h.1
  have hF := hV.1
  have hI := hV.2.2.2.2
  have hk := hV.2.2.2.1
  have hD := hP.2.1
  have ht := tE_lost hF hI hk hn
  have hn' : ¬ n.2.2.1 = 0 := hn
  have e5 : (lostM s n.2.2.2).1 5 = s.1 5 - 1 := lost_5
  have hd := dI_le (s := s) (s2 := lostM s n.2.2.2) (Lf := vF (s, o, l1 ++ n :: l2)) (Lf2 := vF (lostM s n.2.2.2, o, l1 ++ l2)) ht (by omega)
  have ep : pNv Tw a0 (lostM s n.2.2.2, o, l1 ++ l2) = pNv Tw a0 (s, o, l1 ++ n :: l2) := by
    show pOn Tw o + pLn a0 (l1 ++ l2) = pOn Tw o + pLn a0 (l1 ++ n :: l2)
    rw [pLn_mid, if_neg (fun w => by have := w.2; omega)]
    rfl
  have hx := hF.pl (Tw := Tw) (a0 := a0)
  have b0 : (0 : Int) ≤ (if n.2.2.2 < s.1 9 then 0 else 65536) := by split <;> omega
  have gA := tq_A (W := W) (X := X) (D := D) (Tw := Tw) (a0 := a0) (now := now) (v := (s, o, l1 ++ n :: l2)) (L := g.2.1)
  have gB := fun q => tq_B (W := W) (X := X) (D := D) (Tw := Tw) (a0 := a0) (now := now) (v := (s, o, l1 ++ n :: l2)) (L := g.2.1) q
  have el : LoN a0 (s, o, l1 ++ n :: l2) = oLn (s.1 9) a0 (l1 ++ l2) + if (¬ n.2.2.1 = 0 ∧ s.1 9 ≤ n.2.2.2) ∧ n.1 ≤ a0 then 1 else 0 := oLn_mid
  have main : qS (lostM s n.2.2.2) (pNv Tw a0 (s, o, l1 ++ n :: l2)) (vF (lostM s n.2.2.2, o, l1 ++ l2)) (LoN a0 (lostM s n.2.2.2, o, l1 ++ l2)) ≤ qS s (pNv Tw a0 (s, o, l1 ++ n :: l2)) (vF (s, o, l1 ++ n :: l2)) (LoN a0 (s, o, l1 ++ n :: l2)) + (if n.2.2.2 < s.1 9 then 0 else 4096) ∧ lvS (lostM s n.2.2.2) ≤ lvS s := by
    by_cases z : n.2.2.2 < s.1 9
    · rw [if_pos z]
      have ef := vF_stale (o := o) (l1 := l1) (l2 := l2) z
      rw [if_neg (fun w => by have := w.1.2; omega)] at el
      have e2 : LoN a0 (lostM s n.2.2.2, o, l1 ++ l2) = oLn (s.1 9) a0 (l1 ++ l2) := by
        show oLn ((lostM s n.2.2.2).1 9) a0 (l1 ++ l2) = _
        rw [lost_9s z]
      rw [← ef, el, e2]
      have r := qs_stale (p := pNv Tw a0 (s, o, l1 ++ n :: l2)) (Lf := vF (s, o, l1 ++ n :: l2)) (Lo := oLn (s.1 9) a0 (l1 ++ l2)) z
      have r2 := (rs_stale (U := 0) (Lf := 0) z).2
      simp only [Nat.add_zero]
      exact ⟨by omega, r2⟩
    · rw [if_neg z]
      have ef := vF_fresh hF hn z
      rw [if_pos ⟨⟨hn', by omega⟩, ha⟩] at el
      have e2 : LoN a0 (lostM s n.2.2.2, o, l1 ++ l2) = 0 := by
        have a := (po_len ((lostM s n.2.2.2).1 9) a0 (l1 ++ l2)).2
        have b : lFl ((lostM s n.2.2.2).1 9) (l1 ++ l2) = 0 := ef.1
        show oLn ((lostM s n.2.2.2).1 9) a0 (l1 ++ l2) = 0
        omega
      have hx1 := hx.1
      rw [el] at hx1
      have r := qs_fresh (p := pNv Tw a0 (s, o, l1 ++ n :: l2)) (Lf := vF (s, o, l1 ++ n :: l2)) (Lo := oLn (s.1 9) a0 (l1 ++ l2)) hI hk z (by omega) (by dsimp only at hx1; omega)
      have r2 := rs_fresh (U := 0) (Lf := 0) hI hk z (by dsimp only at hx1; omega)
      rw [ef.1, el, e2]
      have : (if mW s < 8192 then (4096 : Int) else 0) ≤ 4096 := by split <;> omega
      exact ⟨by omega, r2.2⟩
  have hz : dvL X D (lvS (lostM s n.2.2.2)) ≤ dvL X D (lvS s) := by
    have := main.2
    unfold dvL
    omega
  have w := fun (e : Nat) (he : e ≤ 1) => hP.mono (j := cdP now g.2.1) cdP_4 he dvL_0 (dvL_D hD) dvL_0 hz
  have c4 : 16 * (if n.2.2.2 < s.1 9 then (0 : Int) else 4096) = (if n.2.2.2 < s.1 9 then 0 else 65536) := by split <;> rfl
  refine tq_le ?_ (fun q => ?_)
  · rw [ep]
    have w0 := w 0 (by decide)
    unfold tAq at gA ⊢
    dsimp only at *
    omega
  · have gB := gB (hd q)
    have w1 := w 1 (by decide)
    rw [ep]
    unfold tBq at gB ⊢
    dsimp only at *
    omega
theorem tq_ack (hP : TPc K X D ee W) (h : GB now c dl R lo1 lo2 hi s o (l1 ++ n :: l2) g) (hn : isA n) (ht : n.1 = now) (hK : hi - lo1 + 1 ≤ K) (hcap : 256 * s.1 5 ≤ X + D) (hdp : 1 ≤ nuP now g.2.1 → tE s (vF (s, o, l1 ++ n :: l2)) ≤ ee (nuP now g.2.1)) : tqPot W X D Tw a0 now (ackM s n.2.2.2 (now / 200), o, l1 ++ l2) (stepG tqB T0B now s.2.1 g n).2.1 ≤ tqPot W X D Tw a0 now (s, o, l1 ++ n :: l2) g.2.1 + 4096 := by
  obtain ⟨hV, hR⟩ := h
  have hF := hV.1
  have hI := hV.2.2.2.2
  have hk := hV.2.2.2.1
  have hS := hV.2.2.1
  have hst := (hV.stor hn ht).1
  have rq := hR.q hn
  have h12 := hR.2.2.2
  have hF1 := fl_mid hF
  obtain ⟨hX, hD, hee, hW01, hLip, hAck, hNeg, hC0, hCE, hTop, hW0⟩ := hP
  obtain ⟨-, ef⟩ := ack_uf (s := s) (o := o) (l1 := l1) (l2 := l2) (mi := now / 200) hn
  have eg : stepG tqB T0B now s.2.1 g n = (kaN tqB now g.1 n, ackL tqB T0B now n.2.2.2 g.2.1, ackF tqB T0B now s.2.1 g.2.2) := if_pos ⟨ht, hn⟩
  rw [eg] at hst ⊢
  dsimp only at hst ⊢
  obtain ⟨hcA, hcN⟩ := cd_ack (d := n.2.2.2) hS
  have hj4 := cdP_4 (now := now) (L := g.2.1)
  have hi4 := cdP_4 (now := now) (L := ackL tqB T0B now n.2.2.2 g.2.1)
  have gA := tq_A (W := W) (X := X) (D := D) (Tw := Tw) (a0 := a0) (now := now) (v := (s, o, l1 ++ n :: l2)) (L := g.2.1)
  have gB := fun q => tq_B (W := W) (X := X) (D := D) (Tw := Tw) (a0 := a0) (now := now) (v := (s, o, l1 ++ n :: l2)) (L := g.2.1) q
  generalize tqPot W X D Tw a0 now (s, o, l1 ++ n :: l2) g.2.1 = P at *
  dsimp only at gA gB
  have ep : pNv Tw a0 (s, o, l1 ++ n :: l2) = pNv Tw a0 (ackM s n.2.2.2 (now / 200), o, l1 ++ l2) := by
    show pOn Tw o + pLn a0 (l1 ++ n :: l2) = pOn Tw o + pLn a0 (l1 ++ l2)
    rw [pLn_mid, if_neg (fun w => w.1 hn)]
    rfl
  have el : LoN a0 (s, o, l1 ++ n :: l2) = LoN a0 (ackM s n.2.2.2 (now / 200), o, l1 ++ l2) := by
    show oLn (s.1 9) a0 (l1 ++ n :: l2) = oLn ((ackM s n.2.2.2 (now / 200)).1 9) a0 (l1 ++ l2)
    rw [oLn_mid, if_neg (fun w => w.1.1 hn), ack_o (by decide) (by decide) (by decide)]
    rfl
  rw [ep, ef, el] at gA
  rw [ep, ef] at gB
  rw [ef] at hdp
  have e5 : (ackM s n.2.2.2 (now / 200)).1 5 = s.1 5 - 1 := ack_5
  have hin : s.1 11 = -1 ∧ queueM (enterM s n.2.2.2 (now / 200)) (now / 200) < 0 → (mn2 now g.2.1 < mn0 now g.2.1 ∨ mn2 now g.2.1 + 5 ≤ now / 200) := fun z => neg_in hS hst z.2
  generalize cdP now g.2.1 = j at *
  generalize hcd : cdP now (ackL tqB T0B now n.2.2.2 g.2.1) = i at *
  have goal2 : tAq W X D i (ackM s n.2.2.2 (now / 200)) (pNv Tw a0 (ackM s n.2.2.2 (now / 200), o, l1 ++ l2)) (vF (ackM s n.2.2.2 (now / 200), o, l1 ++ l2)) (LoN a0 (ackM s n.2.2.2 (now / 200), o, l1 ++ l2)) ≤ P + 4096 ∧ (dI (ackM s n.2.2.2 (now / 200)) (vF (ackM s n.2.2.2 (now / 200), o, l1 ++ l2)) = 1 → tBq W X D i (ackM s n.2.2.2 (now / 200)) (pNv Tw a0 (ackM s n.2.2.2 (now / 200), o, l1 ++ l2)) ≤ P + 4096) := by
    generalize pNv Tw a0 (ackM s n.2.2.2 (now / 200), o, l1 ++ l2) = U at *
    generalize LoN a0 (ackM s n.2.2.2 (now / 200), o, l1 ++ l2) = Lo at *
    generalize vF (ackM s n.2.2.2 (now / 200), o, l1 ++ l2) = Lf at *
    have h5 : 1 ≤ s.1 5 := by omega
    have z0 := dvL_0 (X := X) (D := D) (lv := lvS s)
    have zD := dvL_D (X := X) (lv := lvS s) hD
    have y0 := dvL_0 (X := X) (D := D) (lv := lvS (ackM s n.2.2.2 (now / 200)))
    have yD := dvL_D (X := X) (lv := lvS (ackM s n.2.2.2 (now / 200))) hD
    have rF := qs_F s U Lf Lo
    -- deep behind it: the level is the flight
    have hdz : dpF (ackM s n.2.2.2 (now / 200)) Lf → dvL X D (lvS (ackM s n.2.2.2 (now / 200))) ≤ dvL X D (lvS s) := by
      intro hp
      have hm : 256 ≤ mW (ackM s n.2.2.2 (now / 200)) := by
        by_cases q : s.1 11 = -1
        · rw [mW_ackn q]
          exact (ack_4 (d := n.2.2.2) (mi := now / 200) (g := (-(queueM (enterM s n.2.2.2 (now / 200)) (now / 200))).toNat) hI q (by omega) (by omega)).1
        · rw [mW_acks q]
          exact mW_256 hI hk
      have h1 := hp.1
      unfold tE at h1
      have p := eE_pos (by omega) h1
      have le : mW (ackM s n.2.2.2 (now / 200)) ≤ 256 * (ackM s n.2.2.2 (now / 200)).1 5 := by
        by_cases hl : Lf = 0
        · have := p.2.1 hl
          omega
        · have := p.2.2.1 (by omega)
          omega
      unfold lvS dvL
      rw [e5] at le ⊢
      omega
    by_cases hneg : s.1 11 = -1 ∧ queueM (enterM s n.2.2.2 (now / 200)) (now / 200) < 0
    · have hcN := hcN (hin hneg)
      have hn1 : 1 ≤ nuP now g.2.1 := by
        unfold cNeg at hcN
        omega
      have hdp := hdp hn1
      obtain ⟨c0, hc0, hw0⟩ := hC0 j i _ hcN
      obtain ⟨q1, q2, q3, q4, q5⟩ := qs_neg (p := U) (Lf := Lf) (Lo := Lo) (g := (hi - lo1).toNat) hc0 hI hk hneg.1 h5 hneg.2 (by omega) (by omega)
      have hz2 := dvL_add (X := X) (D := D) q5 (by omega)
      have w0 := hNeg j i _ _ _ hcN z0 zD y0 yD hz2
      refine ⟨?_, fun hd => ?_⟩
      · unfold tAq at gA ⊢
        by_cases hl : 1 ≤ Lf
        · have r := q1 hl
          have := w0.1
          omega
        · have hl0 : Lf = 0 := by omega
          by_cases d1 : dpF (ackM s n.2.2.2 (now / 200)) Lf
          · have r := (q2 d1).2
            have := w0.1
            omega
          · rcases dI_c s Lf with ⟨b1, b2⟩ | ⟨b1, b2⟩
            · have gB := gB b2
              unfold tBq at gB
              have b3 := b1.1
              obtain ⟨cE, hcE, hwE⟩ := hCE j i _ hcN (by omega)
              have r := q4 _ cE hcE hl0 b1 hdp hcap
              have w := hwE _ _ z0 zD y0 yD hz2
              omega
            · have r := q3 hl0 b1
              have w := hw0 _ _ z0 zD y0 yD hz2
              omega
      · have hp : dpF (ackM s n.2.2.2 (now / 200)) Lf := by
          rcases dI_c (ackM s n.2.2.2 (now / 200)) Lf with ⟨a, b⟩ | ⟨a, b⟩
          · exact a
          · omega
        have hs := (q2 hp).1
        rcases dI_c s Lf with ⟨a, b⟩ | ⟨a, b⟩
        · have gB := gB b
          have := w0.2
          unfold tBq at gB ⊢
          rw [e5]
          omega
        · exact absurd hs a
    · have hq : s.1 11 = -1 → 0 ≤ queueM (enterM s n.2.2.2 (now / 200)) (now / 200) := by
        intro z
        have : ¬ queueM (enterM s n.2.2.2 (now / 200)) (now / 200) < 0 := fun y => hneg ⟨z, y⟩
        omega
      obtain ⟨a1, a2, a3⟩ := hAck j i _ hcA z0 zD
      refine ⟨?_, fun hd => ?_⟩
      · unfold tAq at gA ⊢
        rcases qs_ack (p := U) (Lf := Lf) (Lo := Lo) (D := D) (d := n.2.2.2) (mi := now / 200) hI hk hq hX with ⟨r1, r2⟩ | ⟨r1, r2⟩
        · have l := hLip i 0 _ _ 0 hi4 (by decide) z0 zD y0 yD (Int.le_refl 0) (by omega)
          omega
        · have l := hLip i 0 _ _ 14 hi4 (by decide) z0 zD y0 yD (by decide) r2
          omega
      · have hp : dpF (ackM s n.2.2.2 (now / 200)) Lf := by
          rcases dI_c (ackM s n.2.2.2 (now / 200)) Lf with ⟨a, b⟩ | ⟨a, b⟩
          · exact a
          · omega
        have hz := hdz hp
        have l := hLip i 1 _ _ 0 hi4 (by decide) z0 zD y0 yD (Int.le_refl 0) (by omega)
        rcases dI_c s Lf with ⟨a, b⟩ | ⟨a, b⟩
        · have gB := gB b
          unfold tBq at gB ⊢
          rw [e5]
          omega
        · unfold tAq at gA
          unfold tBq
          rw [e5]
          omega
  refine tq_le ?_ (fun q => ?_)
  · dsimp only
    rw [hcd]
    exact goal2.1
  · have q2 := goal2.2 q
    dsimp only
    rw [hcd]
    exact q2
theorem tq_snd {k : Nat} {b : Bool} {ar : Int} (hP : TPc K X D ee W) (h : GB now c dl R lo1 lo2 hi s o l g) (hw : wantsM s) (hn : Tw < now) (har : a0 < ar) : tqPot W X D Tw a0 now (snd1 now ar k b (s, o, l)) g.2.1 + 8192 ≤ tqPot W X D Tw a0 now (s, o, l) g.2.1 := by
  have hV := h.1
  have hF := hV.1
  have hI := hV.2.2.2.2
  have hk := hV.2.2.2.1
  have hX := hP.1
  have hD := hP.2.1
  have hx := hF.pl (Tw := Tw) (a0 := a0)
  have h0 : 0 ≤ s.1 5 := by
    have := hI
    unfold sdB at this
    omega
  have u := snd1_uf (now := now) (ar := ar) (k := k) (b := b) hF
  have e9 : (sentM s).1 9 = s.1 9 := sent_o (by decide) (by decide)
  have ep : pNv Tw a0 (snd1 now ar k b (s, o, l)) = pNv Tw a0 (s, o, l) + 1 ∧ LoN a0 (snd1 now ar k b (s, o, l)) = LoN a0 (s, o, l) := by
    cases b with
    | true =>
      refine ⟨?_, ?_⟩
      · show pOn Tw (o ++ [now]) + pLn a0 l = pOn Tw o + pLn a0 l + 1
        have : pOn Tw (o ++ [now]) = pOn Tw o + 1 := by
          unfold pOn
          rw [List.countP_append, List.countP_singleton, if_pos (decide_eq_true hn)]
        omega
      · show oLn ((sentM s).1 9) a0 l = oLn (s.1 9) a0 l
        rw [e9]
    | false =>
      refine ⟨?_, ?_⟩
      · show pOn Tw o + pLn a0 (l ++ [(ar, k, 1, s.1 6)]) = pOn Tw o + pLn a0 l + 1
        rw [pLn_app, if_pos (show ¬ (1 : Int) = 0 ∧ a0 < ar from ⟨by decide, har⟩)]
        omega
      · show oLn ((sentM s).1 9) a0 (l ++ [(ar, k, 1, s.1 6)]) = oLn (s.1 9) a0 l
        rw [e9, oLn_app, if_neg (fun w => by have w2 : ar ≤ a0 := w.2; omega)]
        rfl
  have p := qs_send (p := pNv Tw a0 (s, o, l)) (Lf := vF (s, o, l)) (Lf2 := vF (snd1 now ar k b (s, o, l))) (Lo := LoN a0 (s, o, l)) hk hw h0 hx.1 (by rw [u.2]; omega) hx.2
  have r := rs_send (U := 0) (Lf := 0) hk hw h0 (by omega)
  have t1 : tE (sentM s) (vF (snd1 now ar k b (s, o, l))) = 0 := tE_sent hk hw h0
  have hz : dvL X D (lvS (sentM s)) ≤ dvL X D (lvS s) := by
    unfold dvL
    omega
  have w := hP.mono (j := cdP now g.2.1) (e := 0) cdP_4 (by decide) dvL_0 (dvL_D hD) dvL_0 hz
  have gA := tq_A (W := W) (X := X) (D := D) (Tw := Tw) (a0 := a0) (now := now) (v := (s, o, l)) (L := g.2.1)
  have es : (snd1 now ar k b (s, o, l)).1 = sentM s := rfl
  have key : tqPot W X D Tw a0 now (snd1 now ar k b (s, o, l)) g.2.1 ≤ tqPot W X D Tw a0 now (s, o, l) g.2.1 - 8192 := by
    refine tq_le ?_ (fun q => ?_)
    · rw [es, ep.1, ep.2]
      unfold tAq at gA ⊢
      dsimp only at *
      omega
    · rw [es] at q
      unfold dI at q
      rw [if_neg (by omega)] at q
      exact absurd q (by decide)
  omega
theorem tq_fin {k : Nat} {z : Bool} {fw bk : Int} (hz : z = true → o ≠ []) : tqPot W X D Tw a0 now (finV (now + fw) (now + fw + bk) k z (s, o, l)) g.2.1 ≤ tqPot W X D Tw a0 now (s, o, l) g.2.1 + (if z = true then 8192 else 0) := by
  cases z with
  | false =>
    rw [if_neg (by decide)]
    show tqPot W X D Tw a0 now (s, o, l) g.2.1 ≤ _
    omega
  | true =>
    rw [if_pos rfl]
    cases ho : o with
    | nil => exact absurd ho (hz rfl)
    | cons x t =>
      have ef := fin_t (du := now + fw) (ar := now + fw + bk) (k := k) (x := x) (t := t) (v := (s, x :: t, l)) rfl
      rw [ef]
      have e2 : vF (s, t, l ++ [(now + fw + bk, k, 0, now + fw - x + s.1 2)]) = vF (s, x :: t, l) := by
        show lFl (s.1 9) (l ++ [(now + fw + bk, k, 0, now + fw - x + s.1 2)]) = lFl (s.1 9) l
        rw [lFl_app, if_neg (fun w => w.1 rfl)]
        rfl
      have e3 : LoN a0 (s, t, l ++ [(now + fw + bk, k, 0, now + fw - x + s.1 2)]) = LoN a0 (s, x :: t, l) := by
        show oLn (s.1 9) a0 (l ++ [(now + fw + bk, k, 0, now + fw - x + s.1 2)]) = oLn (s.1 9) a0 l
        rw [oLn_app, if_neg (fun w => w.1.1 rfl)]
        rfl
      have e4 : pNv Tw a0 (s, x :: t, l) ≤ pNv Tw a0 (s, t, l ++ [(now + fw + bk, k, 0, now + fw - x + s.1 2)]) + 1 := by
        show pOn Tw (x :: t) + pLn a0 l ≤ pOn Tw t + pLn a0 (l ++ [(now + fw + bk, k, 0, now + fw - x + s.1 2)]) + 1
        rw [pLn_app, if_neg (fun w => w.1 rfl)]
        unfold pOn
        rw [List.countP_cons]
        split <;> omega
      have gA := tq_A (W := W) (X := X) (D := D) (Tw := Tw) (a0 := a0) (now := now) (v := (s, x :: t, l)) (L := g.2.1)
      have gB := fun q => tq_B (W := W) (X := X) (D := D) (Tw := Tw) (a0 := a0) (now := now) (v := (s, x :: t, l)) (L := g.2.1) q
      refine tq_le ?_ (fun q => ?_)
      · rw [e2, e3]
        unfold tAq qS q2 at gA ⊢
        dsimp only at *
        omega
      · rw [e2] at q
        have gB := gB q
        unfold tBq at gB ⊢
        dsimp only at *
        omega
theorem tq_ends : tqPot W X D Tw a0 now (endsM s now, o, l) g.2.1 = tqPot W X D Tw a0 now (s, o, l) g.2.1 := by
  have e9 : (endsM s now).1 9 = s.1 9 := ends_o (by decide) (by decide) (by decide)
  have ev : vF (endsM s now, o, l) = vF (s, o, l) := by
    show lFl ((endsM s now).1 9) l = lFl (s.1 9) l
    rw [e9]
  have el : LoN a0 (endsM s now, o, l) = LoN a0 (s, o, l) := by
    show oLn ((endsM s now).1 9) a0 l = oLn (s.1 9) a0 l
    rw [e9]
  have e5 : (endsM s now).1 5 = s.1 5 := ends_o (by decide) (by decide) (by decide)
  have r := qs_ends (s := s) (tk := now) (p := pNv Tw a0 (s, o, l)) (Lf := vF (s, o, l)) (Lo := LoN a0 (s, o, l))
  have r2 := (rs_ends (s := s) (tk := now) (U := 0) (Lf := 0)).2
  have ep : pNv Tw a0 (endsM s now, o, l) = pNv Tw a0 (s, o, l) := rfl
  have ed : dI (endsM s now) (vF (s, o, l)) = dI s (vF (s, o, l)) := by
    unfold dI
    rw [tE_ends, e5]
  unfold tqPot tAq tBq
  rw [ev, ep, el]
  dsimp only at *
  rw [ed, r, r2, e5]
theorem tq_begins {iv : Int} (h0 : 0 ≤ now) : tqPot W X D Tw a0 now (beginsM s now iv, o, l) g.2.1 = tqPot W X D Tw a0 now (s, o, l) g.2.1 := by
  have e9 : (beginsM s now iv).1 9 = s.1 9 := begins_o (by decide) (by decide) (by decide)
  have ev : vF (beginsM s now iv, o, l) = vF (s, o, l) := by
    show lFl ((beginsM s now iv).1 9) l = lFl (s.1 9) l
    rw [e9]
  have el : LoN a0 (beginsM s now iv, o, l) = LoN a0 (s, o, l) := by
    show oLn ((beginsM s now iv).1 9) a0 l = oLn (s.1 9) a0 l
    rw [e9]
  have e5 : (beginsM s now iv).1 5 = s.1 5 := begins_o (by decide) (by decide) (by decide)
  have r := qs_begins (s := s) (tk := now) (iv := iv) (p := pNv Tw a0 (s, o, l)) (Lf := vF (s, o, l)) (Lo := LoN a0 (s, o, l)) h0
  have r2 := (rs_begins (s := s) (tk := now) (iv := iv) (U := 0) (Lf := 0) h0).2
  have ep : pNv Tw a0 (beginsM s now iv, o, l) = pNv Tw a0 (s, o, l) := rfl
  have ed : dI (beginsM s now iv) (vF (s, o, l)) = dI s (vF (s, o, l)) := by
    unfold dI
    rw [tE_begins h0, e5]
  unfold tqPot tAq tBq
  rw [ev, ep, el]
  dsimp only at *
  rw [ed, r, r2, e5]
/-- a tick more: in one minute the same weights, behind a boundary others -/
theorem tq_nxt {W2 : Nat → Nat → Int → Int} (hP : TPc K X D ee W) (h : GB now c dl R lo1 lo2 hi s o l g) (hB : ((now + 1) / 200 = now / 200 ∧ W2 = W) ∨ ((now + 1) / 200 = now / 200 + 1 ∧ TBd D W W2)) : tqPot W2 X D Tw a0 (now + 1) (s, o, l) g.2.1 ≤ tqPot W X D Tw a0 now (s, o, l) g.2.1 := by
  obtain ⟨hV, hR⟩ := h
  have hD := hP.2.1
  rcases hB with ⟨q, e1⟩ | ⟨q, hB⟩
  · subst e1
    unfold tqPot
    rw [cd_same q]
    exact Int.le_refl _
  · have hc := cd_nxt hV.2.2.1 q
    have hj4 := cdP_4 (now := now) (L := g.2.1)
    have z0 := dvL_0 (X := X) (D := D) (lv := lvS s)
    have zD := dvL_D (X := X) (lv := lvS s) hD
    obtain ⟨b0, b1⟩ := hB _ z0 zD
    have w : ∀ e, e ≤ 1 → W2 (cdP (now + 1) g.2.1) e (dvL X D (lvS s)) ≤ W (cdP now g.2.1) e (dvL X D (lvS s)) := by
      intro e he
      rcases hc with ⟨a, c⟩ | ⟨a, c⟩
      · rw [a]
        rcases c with c | c <;> rw [c]
        · exact (b0 e he).1
        · exact (b0 e he).2
      · have := b1 _ e a hj4 he
        rcases c with c | c <;> rw [c]
        · exact this.1
        · exact this.2
    have gA := tq_A (W := W) (X := X) (D := D) (Tw := Tw) (a0 := a0) (now := now) (v := (s, o, l)) (L := g.2.1)
    have gB := fun q => tq_B (W := W) (X := X) (D := D) (Tw := Tw) (a0 := a0) (now := now) (v := (s, o, l)) (L := g.2.1) q
    refine tq_le ?_ (fun y => ?_)
    · have w0 := w 0 (by decide)
      unfold tAq at gA ⊢
      dsimp only at *
      omega
    · have gB := gB y
      have w1 := w 1 (by decide)
      unfold tBq at gB ⊢
      dsimp only at *
      omega
end TQS
