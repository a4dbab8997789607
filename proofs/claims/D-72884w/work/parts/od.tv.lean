/-! Bounds, trials: a view, event by event -/
section TPS
variable {now c dl R lo1 lo2 hi : Int} {s : SdM} {o : List Int} {l l1 l2 : List NtM} {n : NtM} {g : Gh} {K X D : Int} {ee : Nat → Int} {W : Nat → Nat → Int → Int}
theorem dI_le {s s2 : SdM} {Lf Lf2 : Nat} (h : tE s2 Lf2 ≤ tE s Lf) (h5 : s2.1 5 ≤ s.1 5) (q : dI s2 Lf2 = 1) : dI s Lf = 1 := by
  unfold dI at q ⊢
  by_cases y : 0 < tE s2 Lf2 ∧ 32 ≤ s2.1 5
  · rw [if_pos (by omega)]
  · rw [if_neg y] at q
    exact absurd q (by decide)
theorem rS_F (s : SdM) (U Lf : Nat) : 256 * s.1 5 ≤ rS s U Lf := pR_F
theorem tp_lost (hP : TPc K X D ee W) (h : GB now c dl R lo1 lo2 hi s o (l1 ++ n :: l2) g) (hn : ¬ isA n) : tPot W X D now (lostM s n.2.2.2, o, l1 ++ l2) g.2.1 ≤ tPot W X D now (s, o, l1 ++ n :: l2) g.2.1 + (if n.2.2.2 < s.1 9 then 0 else 65536) := by
  have hV := h.1
  have hF := hV.1
  have hI := hV.2.2.2.2
  have hk := hV.2.2.2.1
  have hD := hP.2.1
  have ht := tE_lost hF hI hk hn
  have e5 : (lostM s n.2.2.2).1 5 = s.1 5 - 1 := lost_5
  have hd := dI_le (s := s) (s2 := lostM s n.2.2.2) (Lf := vF (s, o, l1 ++ n :: l2)) (Lf2 := vF (lostM s n.2.2.2, o, l1 ++ l2)) ht (by omega)
  have eu : vU (lostM s n.2.2.2, o, l1 ++ l2) = vU (s, o, l1 ++ n :: l2) := by
    have hn : ¬ n.2.2.1 = 0 := hn
    show o.length + aNl (l1 ++ l2) = o.length + aNl (l1 ++ n :: l2)
    rw [aNl_mid, if_neg hn]
    rfl
  have hx := hF.x
  have b0 : (0 : Int) ≤ (if n.2.2.2 < s.1 9 then 0 else 65536) := by split <;> omega
  have gA := tP_A (W := W) (X := X) (D := D) (now := now) (v := (s, o, l1 ++ n :: l2)) (L := g.2.1)
  have gB := fun q => tP_B (W := W) (X := X) (D := D) (now := now) (v := (s, o, l1 ++ n :: l2)) (L := g.2.1) q
  have main : rS (lostM s n.2.2.2) (vU (s, o, l1 ++ n :: l2)) (vF (lostM s n.2.2.2, o, l1 ++ l2)) ≤ rS s (vU (s, o, l1 ++ n :: l2)) (vF (s, o, l1 ++ n :: l2)) + (if n.2.2.2 < s.1 9 then 0 else 4096) ∧ lvS (lostM s n.2.2.2) ≤ lvS s := by
    by_cases z : n.2.2.2 < s.1 9
    · rw [if_pos z]
      have ef := vF_stale (o := o) (l1 := l1) (l2 := l2) z
      rw [← ef]
      have r := rs_stale (U := vU (s, o, l1 ++ n :: l2)) (Lf := vF (s, o, l1 ++ n :: l2)) z
      exact ⟨by omega, r.2⟩
    · rw [if_neg z]
      have ef := vF_fresh hF hn z
      rw [ef.2] at hx
      have r := rs_fresh (U := vU (s, o, l1 ++ n :: l2)) hI hk z hx
      rw [ef.1, ef.2]
      have : (if mW s < 8192 then (4096 : Int) else 0) ≤ 4096 := by split <;> omega
      exact ⟨by omega, r.2⟩
  have hz : dvL X D (lvS (lostM s n.2.2.2)) ≤ dvL X D (lvS s) := by
    have := main.2
    unfold dvL
    omega
  have w := fun (e : Nat) (he : e ≤ 1) => hP.mono (j := cdP now g.2.1) cdP_4 he dvL_0 (dvL_D hD) dvL_0 hz
  have c4 : 16 * (if n.2.2.2 < s.1 9 then (0 : Int) else 4096) = (if n.2.2.2 < s.1 9 then 0 else 65536) := by split <;> rfl
  refine tP_le ?_ (fun q => ?_)
  · rw [eu]
    have w0 := w 0 (by decide)
    unfold tA at gA ⊢
    dsimp only at *
    omega
  · have gB := gB (hd q)
    have w1 := w 1 (by decide)
    unfold tB at gB ⊢
    dsimp only at *
    omega
theorem tp_ack (hP : TPc K X D ee W) (h : GB now c dl R lo1 lo2 hi s o (l1 ++ n :: l2) g) (hn : isA n) (ht : n.1 = now) (hK : hi - lo1 + 1 ≤ K) (hcap : 256 * s.1 5 ≤ X + D) (hdp : 1 ≤ nuP now g.2.1 → tE s (vF (s, o, l1 ++ n :: l2)) ≤ ee (nuP now g.2.1)) : tPot W X D now (ackM s n.2.2.2 (now / 200), o, l1 ++ l2) (stepG tqB T0B now s.2.1 g n).2.1 ≤ tPot W X D now (s, o, l1 ++ n :: l2) g.2.1 + 8192 := by
  obtain ⟨hV, hR⟩ := h
  have hF := hV.1
  have hI := hV.2.2.2.2
  have hk := hV.2.2.2.1
  have hS := hV.2.2.1
  have hst := (hV.stor hn ht).1
  have rq := hR.q hn
  have h12 := hR.2.2.2
  have hF1 := fl_mid hF
  obtain ⟨hX, hD, hee, hW01, hLip, hAck, hNeg, hC0, hCE, hTop, hW0⟩ := hP
  obtain ⟨eu, ef⟩ := ack_uf (s := s) (o := o) (l1 := l1) (l2 := l2) (mi := now / 200) hn
  have eg : stepG tqB T0B now s.2.1 g n = (kaN tqB now g.1 n, ackL tqB T0B now n.2.2.2 g.2.1, ackF tqB T0B now s.2.1 g.2.2) := if_pos ⟨ht, hn⟩
  rw [eg] at hst ⊢
  dsimp only at hst ⊢
  obtain ⟨hcA, hcN⟩ := cd_ack (d := n.2.2.2) hS
  have hj4 := cdP_4 (now := now) (L := g.2.1)
  have hi4 := cdP_4 (now := now) (L := ackL tqB T0B now n.2.2.2 g.2.1)
  have gA := tP_A (W := W) (X := X) (D := D) (now := now) (v := (s, o, l1 ++ n :: l2)) (L := g.2.1)
  have gB := fun q => tP_B (W := W) (X := X) (D := D) (now := now) (v := (s, o, l1 ++ n :: l2)) (L := g.2.1) q
  generalize tPot W X D now (s, o, l1 ++ n :: l2) g.2.1 = P at *
  dsimp only at gA gB
  rw [eu, ef] at gA
  rw [ef] at gB hdp
  have e5 : (ackM s n.2.2.2 (now / 200)).1 5 = s.1 5 - 1 := ack_5
  have hin : s.1 11 = -1 ∧ queueM (enterM s n.2.2.2 (now / 200)) (now / 200) < 0 → (mn2 now g.2.1 < mn0 now g.2.1 ∨ mn2 now g.2.1 + 5 ≤ now / 200) := fun z => neg_in hS hst z.2
  generalize cdP now g.2.1 = j at *
  generalize hcd : cdP now (ackL tqB T0B now n.2.2.2 g.2.1) = i at *
  have goal2 : tA W X D i (ackM s n.2.2.2 (now / 200)) (vU (ackM s n.2.2.2 (now / 200), o, l1 ++ l2)) (vF (ackM s n.2.2.2 (now / 200), o, l1 ++ l2)) ≤ P + 8192 ∧ (dI (ackM s n.2.2.2 (now / 200)) (vF (ackM s n.2.2.2 (now / 200), o, l1 ++ l2)) = 1 → tB W X D i (ackM s n.2.2.2 (now / 200)) ≤ P + 8192) := by
    generalize vU (ackM s n.2.2.2 (now / 200), o, l1 ++ l2) = U at *
    generalize vF (ackM s n.2.2.2 (now / 200), o, l1 ++ l2) = Lf at *
    have h5 : 1 ≤ s.1 5 := by omega
    have z0 := dvL_0 (X := X) (D := D) (lv := lvS s)
    have zD := dvL_D (X := X) (lv := lvS s) hD
    have y0 := dvL_0 (X := X) (D := D) (lv := lvS (ackM s n.2.2.2 (now / 200)))
    have yD := dvL_D (X := X) (lv := lvS (ackM s n.2.2.2 (now / 200))) hD
    have rF := rS_F s (U + 1) Lf
    -- deep behind it: the level is the flight
    have hdz : dpF (ackM s n.2.2.2 (now / 200)) Lf → dvL X D (lvS (ackM s n.2.2.2 (now / 200))) ≤ dvL X D (lvS s) := by
      intro hp
      have hm : 256 ≤ mW (ackM s n.2.2.2 (now / 200)) := by
        by_cases q : s.1 11 = -1
        · rw [mW_ackn q]
          exact (ack_4 (d := n.2.2.2) (mi := now / 200) (g := (-(queueM (enterM s n.2.2.2 (now / 200)) (now / 200))).toNat) hI q (by omega) (by omega)).1
        · rw [mW_acks q]
          exact mW_256 hI hk
      have h1 := hp.1
      unfold tE at h1
      have p := eE_pos (by omega) h1
      have le : mW (ackM s n.2.2.2 (now / 200)) ≤ 256 * (ackM s n.2.2.2 (now / 200)).1 5 := by
        by_cases hl : Lf = 0
        · have := p.2.1 hl
          omega
        · have := p.2.2.1 (by omega)
          omega
      unfold lvS dvL
      rw [e5] at le ⊢
      omega
    by_cases hneg : s.1 11 = -1 ∧ queueM (enterM s n.2.2.2 (now / 200)) (now / 200) < 0
    · have hcN := hcN (hin hneg)
      have hn1 : 1 ≤ nuP now g.2.1 := by
        unfold cNeg at hcN
        omega
      have hdp := hdp hn1
      obtain ⟨c0, hc0, hw0⟩ := hC0 j i _ hcN
      obtain ⟨q1, q2, q3, q4, q5⟩ := rs_neg (U := U) (Lf := Lf) (g := (hi - lo1).toNat) hc0 hI hk hneg.1 h5 hneg.2 (by omega) (by omega)
      have hz2 := dvL_add (X := X) (D := D) q5 (by omega)
      have w0 := hNeg j i _ _ _ hcN z0 zD y0 yD hz2
      refine ⟨?_, fun hd => ?_⟩
      · unfold tA at gA ⊢
        by_cases hl : 1 ≤ Lf
        · have r := q1 hl
          have := w0.1
          omega
        · have hl0 : Lf = 0 := by omega
          by_cases d1 : dpF (ackM s n.2.2.2 (now / 200)) Lf
          · have r := (q2 d1).2
            have := w0.1
            omega
          · rcases dI_c s Lf with ⟨b1, b2⟩ | ⟨b1, b2⟩
            · have gB := gB b2
              unfold tB at gB
              have b3 := b1.1
              obtain ⟨cE, hcE, hwE⟩ := hCE j i _ hcN (by omega)
              have r := q4 _ cE hcE hl0 b1 hdp hcap
              have w := hwE _ _ z0 zD y0 yD hz2
              omega
            · have r := q3 hl0 b1
              have w := hw0 _ _ z0 zD y0 yD hz2
              omega
      · have hp : dpF (ackM s n.2.2.2 (now / 200)) Lf := by
          rcases dI_c (ackM s n.2.2.2 (now / 200)) Lf with ⟨a, b⟩ | ⟨a, b⟩
          · exact a
          · omega
        have hs := (q2 hp).1
        rcases dI_c s Lf with ⟨a, b⟩ | ⟨a, b⟩
        · have gB := gB b
          have := w0.2
          unfold tB at gB ⊢
          rw [e5]
          omega
        · exact absurd hs a
    · have hq : s.1 11 = -1 → 0 ≤ queueM (enterM s n.2.2.2 (now / 200)) (now / 200) := by
        intro z
        have : ¬ queueM (enterM s n.2.2.2 (now / 200)) (now / 200) < 0 := fun y => hneg ⟨z, y⟩
        omega
      obtain ⟨a1, a2, a3⟩ := hAck j i _ hcA z0 zD
      refine ⟨?_, fun hd => ?_⟩
      · unfold tA at gA ⊢
        rcases rs_ack (U := U) (Lf := Lf) (D := D) (d := n.2.2.2) (mi := now / 200) hI hk hq hX with ⟨r1, r2⟩ | ⟨r1, r2⟩
        · have l := hLip i 0 _ _ 0 hi4 (by decide) z0 zD y0 yD (Int.le_refl 0) (by omega)
          omega
        · have l := hLip i 0 _ _ 14 hi4 (by decide) z0 zD y0 yD (by decide) r2
          omega
      · have hp : dpF (ackM s n.2.2.2 (now / 200)) Lf := by
          rcases dI_c (ackM s n.2.2.2 (now / 200)) Lf with ⟨a, b⟩ | ⟨a, b⟩
          · exact a
          · omega
        have hz := hdz hp
        have l := hLip i 1 _ _ 0 hi4 (by decide) z0 zD y0 yD (Int.le_refl 0) (by omega)
        rcases dI_c s Lf with ⟨a, b⟩ | ⟨a, b⟩
        · have gB := gB b
          unfold tB at gB ⊢
          rw [e5]
          omega
        · unfold tA at gA
          unfold tB
          rw [e5]
          omega
  refine tP_le ?_ (fun q => ?_)
  · dsimp only
    rw [hcd]
    exact goal2.1
  · have q2 := goal2.2 q
    dsimp only
    rw [hcd]
    exact q2
theorem snd1_uf {v : SV} {ar : Int} {k : Nat} {b : Bool} (h : FI v) : vU (snd1 now ar k b v) = vU v + (if b = true then 1 else 0) ∧ vF (snd1 now ar k b v) = vF v + (if b = true then 0 else 1) := by
  have e9 : (sentM v.1).1 9 = v.1.1 9 := sent_o (by decide) (by decide)
  cases b with
  | true =>
    refine ⟨?_, ?_⟩
    · show (v.2.1 ++ [now]).length + aNl v.2.2 = v.2.1.length + aNl v.2.2 + 1
      rw [List.length_append, List.length_singleton]
      omega
    · show lFl ((sentM v.1).1 9) v.2.2 = lFl (v.1.1 9) v.2.2 + 0
      rw [e9]
      rfl
  | false =>
    refine ⟨?_, ?_⟩
    · show v.2.1.length + aNl (v.2.2 ++ [(ar, k, 1, v.1.1 6)]) = v.2.1.length + aNl v.2.2 + 0
      rw [aNl_app, if_neg (show ¬ (1 : Int) = 0 by decide)]
      rfl
    · show lFl ((sentM v.1).1 9) (v.2.2 ++ [(ar, k, 1, v.1.1 6)]) = lFl (v.1.1 9) v.2.2 + 1
      rw [e9, lFl_app, if_pos (show ¬ (1 : Int) = 0 ∧ v.1.1 9 ≤ v.1.1 6 from ⟨by decide, h.2.1⟩)]
theorem tp_snd {k : Nat} {b : Bool} {ar : Int} (hP : TPc K X D ee W) (h : GB now c dl R lo1 lo2 hi s o l g) (hw : wantsM s) : tPot W X D now (snd1 now ar k b (s, o, l)) g.2.1 + 4096 ≤ tPot W X D now (s, o, l) g.2.1 := by
  have hV := h.1
  have hF := hV.1
  have hI := hV.2.2.2.2
  have hk := hV.2.2.2.1
  have hX := hP.1
  have hD := hP.2.1
  have hx := hF.x
  have h0 : 0 ≤ s.1 5 := by
    have := hI
    unfold sdB at this
    omega
  have p := rs_send (U := vU (s, o, l)) (Lf := vF (s, o, l)) hk hw h0 hx
  have u := snd1_uf (now := now) (ar := ar) (k := k) (b := b) hF
  have t1 : tE (sentM s) (vF (snd1 now ar k b (s, o, l))) = 0 := tE_sent hk hw h0
  have hz : dvL X D (lvS (sentM s)) ≤ dvL X D (lvS s) := by
    unfold dvL
    omega
  have w := hP.mono (j := cdP now g.2.1) (e := 0) cdP_4 (by decide) dvL_0 (dvL_D hD) dvL_0 hz
  have gA := tP_A (W := W) (X := X) (D := D) (now := now) (v := (s, o, l)) (L := g.2.1)
  have es : (snd1 now ar k b (s, o, l)).1 = sentM s := rfl
  have key : tPot W X D now (snd1 now ar k b (s, o, l)) g.2.1 ≤ tPot W X D now (s, o, l) g.2.1 - 4096 := by
    refine tP_le ?_ (fun q => ?_)
    · rw [es, u.1, u.2]
      unfold tA at gA ⊢
      cases b with
      | true =>
        rw [if_pos rfl, if_pos rfl]
        have p1 := p.1
        simp only [Nat.add_zero]
        dsimp only at *
        omega
      | false =>
        rw [if_neg (by decide), if_neg (by decide)]
        have p1 := p.2.1
        simp only [Nat.add_zero]
        dsimp only at *
        omega
    · rw [es] at q
      unfold dI at q
      rw [if_neg (by omega)] at q
      exact absurd q (by decide)
  omega
theorem tp_fin {k : Nat} {z : Bool} {fw bk : Int} (hz : z = true → o ≠ []) : tPot W X D now (finV (now + fw) (now + fw + bk) k z (s, o, l)) g.2.1 = tPot W X D now (s, o, l) g.2.1 := by
  cases z with
  | false => rfl
  | true =>
    cases ho : o with
    | nil => exact absurd ho (hz rfl)
    | cons x t =>
      have ef := fin_t (du := now + fw) (ar := now + fw + bk) (k := k) (x := x) (t := t) (v := (s, x :: t, l)) rfl
      rw [ef]
      have e2 : vF (s, t, l ++ [(now + fw + bk, k, 0, now + fw - x + s.1 2)]) = vF (s, x :: t, l) := by
        show lFl (s.1 9) (l ++ [(now + fw + bk, k, 0, now + fw - x + s.1 2)]) = lFl (s.1 9) l
        rw [lFl_app, if_neg (fun w => w.1 rfl)]
        rfl
      have e3 : vU (s, t, l ++ [(now + fw + bk, k, 0, now + fw - x + s.1 2)]) = vU (s, x :: t, l) := by
        show t.length + aNl (l ++ [(now + fw + bk, k, 0, now + fw - x + s.1 2)]) = (x :: t).length + aNl l
        rw [aNl_app, if_pos rfl, List.length_cons]
        omega
      unfold tPot
      rw [e2, e3]
theorem tp_ends (_ : TPc K X D ee W) : tPot W X D now (endsM s now, o, l) g.2.1 = tPot W X D now (s, o, l) g.2.1 := by
  have ev : vF (endsM s now, o, l) = vF (s, o, l) := by
    show lFl ((endsM s now).1 9) l = lFl (s.1 9) l
    rw [ends_o (by decide) (by decide) (by decide)]
  have e5 : (endsM s now).1 5 = s.1 5 := ends_o (by decide) (by decide) (by decide)
  have r := rs_ends (s := s) (tk := now) (U := vU (s, o, l)) (Lf := vF (s, o, l))
  have eu : vU (endsM s now, o, l) = vU (s, o, l) := rfl
  have ed : dI (endsM s now) (vF (s, o, l)) = dI s (vF (s, o, l)) := by
    unfold dI
    rw [tE_ends, e5]
  unfold tPot tA tB
  rw [ev, eu]
  dsimp only at *
  rw [ed, r.1, r.2, e5]
theorem tp_begins {iv : Int} (_ : TPc K X D ee W) (h0 : 0 ≤ now) : tPot W X D now (beginsM s now iv, o, l) g.2.1 = tPot W X D now (s, o, l) g.2.1 := by
  have ev : vF (beginsM s now iv, o, l) = vF (s, o, l) := by
    show lFl ((beginsM s now iv).1 9) l = lFl (s.1 9) l
    rw [begins_o (by decide) (by decide) (by decide)]
  have e5 : (beginsM s now iv).1 5 = s.1 5 := begins_o (by decide) (by decide) (by decide)
  have r := rs_begins (s := s) (tk := now) (iv := iv) (U := vU (s, o, l)) (Lf := vF (s, o, l)) h0
  have eu : vU (beginsM s now iv, o, l) = vU (s, o, l) := rfl
  have ed : dI (beginsM s now iv) (vF (s, o, l)) = dI s (vF (s, o, l)) := by
    unfold dI
    rw [tE_begins h0, e5]
  unfold tPot tA tB
  rw [ev, eu]
  dsimp only at *
  rw [ed, r.1, r.2, e5]
/-- a tick more: in one minute the same weights, behind a boundary others -/
theorem tp_nxt {W2 : Nat → Nat → Int → Int} (hP : TPc K X D ee W) (h : GB now c dl R lo1 lo2 hi s o l g) (hB : ((now + 1) / 200 = now / 200 ∧ W2 = W) ∨ ((now + 1) / 200 = now / 200 + 1 ∧ TBd D W W2)) : tPot W2 X D (now + 1) (s, o, l) g.2.1 ≤ tPot W X D now (s, o, l) g.2.1 := by
  obtain ⟨hV, hR⟩ := h
  have hD := hP.2.1
  rcases hB with ⟨q, e1⟩ | ⟨q, hB⟩
  · subst e1
    unfold tPot
    rw [cd_same q]
    exact Int.le_refl _
  · have hc := cd_nxt hV.2.2.1 q
    have hj4 := cdP_4 (now := now) (L := g.2.1)
    have z0 := dvL_0 (X := X) (D := D) (lv := lvS s)
    have zD := dvL_D (X := X) (lv := lvS s) hD
    obtain ⟨b0, b1⟩ := hB _ z0 zD
    have w : ∀ e, e ≤ 1 → W2 (cdP (now + 1) g.2.1) e (dvL X D (lvS s)) ≤ W (cdP now g.2.1) e (dvL X D (lvS s)) := by
      intro e he
      rcases hc with ⟨a, c⟩ | ⟨a, c⟩
      · rw [a]
        rcases c with c | c <;> rw [c]
        · exact (b0 e he).1
        · exact (b0 e he).2
      · have := b1 _ e a hj4 he
        rcases c with c | c <;> rw [c]
        · exact this.1
        · exact this.2
    have gA := tP_A (W := W) (X := X) (D := D) (now := now) (v := (s, o, l)) (L := g.2.1)
    have gB := fun q => tP_B (W := W) (X := X) (D := D) (now := now) (v := (s, o, l)) (L := g.2.1) q
    refine tP_le ?_ (fun y => ?_)
    · have w0 := w 0 (by decide)
      unfold tA at gA ⊢
      dsimp only at *
      omega
    · have gB := gB y
      have w1 := w 1 (by decide)
      unfold tB at gB ⊢
      dsimp only at *
      omega
end TPS
