/-! Bounds, general mode with credit: an acknowledgment that raises the level (64 packets or more) costs ten thirds of a packet alone; cg: thirds it gives back -/
theorem grw_1 {F now : Int} {s : SdM} {n : NtM} (h : grw F now s n = 1) : s.1 11 = -1 ∧ 0 ≤ queueM (enterM s n.2.2.2 (now / 200)) (now / 200) ∧ lvF F s < lvF F (ackM s n.2.2.2 (now / 200)) := by
  unfold grw at h
  split at h
  · rename_i q
    exact q.2.2
  · exact absurd h (by decide)
section GCR
variable {now c dl R lo1 lo2 hi F cg : Int} {s : SdM} {o : List Int} {l l1 l2 : List NtM} {n : NtM} {g : Gh} {K M kT U1 C1 Z : Int} {A X C3 w1 Fm : Nat}
theorem GB.ackU (hP : PCg K M kT A X U1 C1 Z C3 w1 Fm) (h : GB now c dl R lo1 lo2 hi s o (l1 ++ n :: l2) g) (hn : isA n) (ht : n.1 = now) (hl : ∀ a ∈ l1, now < a.1) (hr : ∀ a ∈ l2, now ≤ a.1) (hK : hi - lo1 + 1 ≤ K) (hFm : (s.1 5).toNat ≤ Fm) {wt : Int → Nat} (hW : WTo M kT A lo2 hi wt) (hFF : 16384 ≤ F) (hg1 : s.1 11 = -1 ∧ 0 ≤ queueM (enterM s n.2.2.2 (now / 200)) (now / 200) ∧ lvF F s < lvF F (ackM s n.2.2.2 (now / 200))) :
    gPot M kT U1 C1 Z X now (ackM s n.2.2.2 (now / 200), o, l1 ++ l2) (stepG tqB T0B now s.2.1 g n).2.1 ≤ gPot M kT U1 C1 Z X now (s, o, l1 ++ n :: l2) g.2.1 + 10 * M := by
  obtain ⟨hV, hR⟩ := h
  have hF := hV.1
  have hI := hV.2.2.2.2
  have hk := hV.2.2.2.1
  have hS := hV.2.2.1
  have hst := (hV.stor hn ht).1
  have rq := hR.q hn
  have hwt := hW n.2.2.2 rq.2.2.1 rq.2.2.2
  have h12 := hR.2.2.2
  have hx := hF.x
  have hF1 := fl_mid hF
  obtain ⟨eu, ef⟩ := ack_uf (s := s) (o := o) (l1 := l1) (l2 := l2) (mi := now / 200) hn
  rw [eu, ef] at hx
  have eg : stepG tqB T0B now s.2.1 g n = (kaN tqB now g.1 n, ackL tqB T0B now n.2.2.2 g.2.1, ackF tqB T0B now s.2.1 g.2.2) := if_pos ⟨ht, hn⟩
  rw [eg] at hst ⊢
  dsimp only at hst ⊢
  have hM : 0 < M := hP.1
  have hn1 := nuP_ack (d := n.2.2.2) hS
  have h3 := nuP_3 (now := now) (L := g.2.1)
  have gA := gP_A (M := M) (kT := kT) (U1 := U1) (C1 := C1) (Z := Z) (X := X) (now := now) (v := (s, o, l1 ++ n :: l2)) (L := g.2.1)
  have gB := fun hE => gP_B (M := M) (kT := kT) (U1 := U1) (C1 := C1) (Z := Z) (X := X) (now := now) (v := (s, o, l1 ++ n :: l2)) (L := g.2.1) hE
  dsimp only at gA gB
  rw [eu, ef] at gA
  rw [ef] at gB
  generalize gPot M kT U1 C1 Z X now (s, o, l1 ++ n :: l2) g.2.1 = P at *
  have goal2 : sA M U1 C1 Z X (nuP now (ackL tqB T0B now n.2.2.2 g.2.1)) (ackM s n.2.2.2 (now / 200)) (vU (ackM s n.2.2.2 (now / 200), o, l1 ++ l2)) (vF (ackM s n.2.2.2 (now / 200), o, l1 ++ l2)) ≤ P + 10 * M ∧ (0 < tE (ackM s n.2.2.2 (now / 200)) (vF (ackM s n.2.2.2 (now / 200), o, l1 ++ l2)) → sB M kT U1 C1 Z X (nuP now (ackL tqB T0B now n.2.2.2 g.2.1)) (ackM s n.2.2.2 (now / 200)) (vF (ackM s n.2.2.2 (now / 200), o, l1 ++ l2)) ≤ P + 10 * M) := by
    generalize vU (ackM s n.2.2.2 (now / 200), o, l1 ++ l2) = U at *
    generalize vF (ackM s n.2.2.2 (now / 200), o, l1 ++ l2) = Lf at *
    have h5 : 1 ≤ s.1 5 := by omega
    have wA : M * (A : Int) ≤ M * (wt n.2.2.2 : Int) := Int.mul_le_mul_of_nonneg_left (by have := hwt.1; omega) (by omega)
    have t0 := tE_0 s Lf
    obtain ⟨hs, hq0, hgr⟩ := hg1
    have hs' := hs
    by_cases hneg : s.1 11 = -1 ∧ queueM (enterM s n.2.2.2 (now / 200)) (now / 200) < 0
    · omega
    · have hq : s.1 11 = -1 → 0 ≤ queueM (enterM s n.2.2.2 (now / 200)) (now / 200) ∧ queueM (enterM s n.2.2.2 (now / 200)) (now / 200) ≤ (n.2.2.2 - lo2) + 1 := by
        intro z
        have : ¬ queueM (enterM s n.2.2.2 (now / 200)) (now / 200) < 0 := fun y => hneg ⟨z, y⟩
        omega
      have hA5 := hP.2.2.1
      have hX := hP.2.2.2.1
      have hA0 : 4194304 * ((0 : Int) * (n.2.2.2 - lo2)) ≤ M * ((wt n.2.2.2 : Int) + 1) := by
        rw [Int.zero_mul]
        have : 0 ≤ M * ((wt n.2.2.2 : Int) + 1) := Int.mul_nonneg (by omega) (by omega)
        omega
      have hst2 : nuP now (ackL tqB T0B now n.2.2.2 g.2.1) = nuP now g.2.1 ∧ (nuP now g.2.1 = 0 ∨ nuP now g.2.1 = 2) ∨ nuP now g.2.1 = nuP now (ackL tqB T0B now n.2.2.2 g.2.1) + 1 := by
        by_cases y : mn2 now g.2.1 < mn0 now g.2.1 ∨ mn2 now g.2.1 + 5 ≤ now / 200
        · rw [if_pos y] at hn1
          exact Or.inr hn1
        · rw [if_neg y] at hn1
          left
          refine ⟨by omega, ?_⟩
          have a1 : nuP now g.2.1 ≠ 1 := fun w => y (nuP_1 hS w)
          have a3 : nuP now g.2.1 ≠ 3 := fun w => y (nuP_3i w)
          omega
      have hc := hP.2.2.2.2.2.2
      have hu := fun (t t2 : Int) r hG => uC_ack (U1 := U1) (C1 := C1) (Z := Z) (t := t) (t2 := t2) (n := nuP now g.2.1) (n2 := nuP now (ackL tqB T0B now n.2.2.2 g.2.1)) (r := r) (G := gLv X (lvl s)) (G2 := gLv X (lvl (ackM s n.2.2.2 (now / 200)))) hc.1 hc.2.1 hc.2.2.1 hc.2.2.2.1 hst2 h3 hG
      have z1 : gLv (lvl s + lvl (ackM s n.2.2.2 (now / 200)) + 9) (lvl s) = 0 := by unfold gLv; omega
      have z2 : gLv (lvl s + lvl (ackM s n.2.2.2 (now / 200)) + 9) (lvl (ackM s n.2.2.2 (now / 200))) = 0 := by unfold gLv; omega
      -- the level's part joined to any other part
      have join : ∀ (t t2 x y : Int), x + M * (gLv X (lvl (ackM s n.2.2.2 (now / 200))) : Int) ≤ y + M * (gLv X (lvl s) : Int) → x ≤ y → x + M * uC U1 C1 Z (nuP now (ackL tqB T0B now n.2.2.2 g.2.1)) t2 (gLv X (lvl (ackM s n.2.2.2 (now / 200)))) ≤ y + M * uC U1 C1 Z (nuP now g.2.1) t (gLv X (lvl s)) := by
        intro t t2 x y j1 j2
        by_cases w : gLv X (lvl (ackM s n.2.2.2 (now / 200))) ≤ gLv X (lvl s)
        · have huM := mulL (M := M) (by omega) (hu t t2 0 (by omega))
          omega
        · have huM := mulL (M := M) (by omega) (hu t t2 (gLv X (lvl (ackM s n.2.2.2 (now / 200))) - gLv X (lvl s)) (by omega))
          have e : ((gLv X (lvl (ackM s n.2.2.2 (now / 200))) - gLv X (lvl s) : Nat) : Int) = (gLv X (lvl (ackM s n.2.2.2 (now / 200))) : Int) - (gLv X (lvl s) : Int) := by omega
          rw [e, Int.mul_sub] at huM
          omega
      have e5 : (ackM s n.2.2.2 (now / 200)).1 5 = s.1 5 - 1 := ack_5
      have e11 : (ackM s n.2.2.2 (now / 200)).1 11 = s.1 11 := ack_o (by decide) (by decide) (by decide)
      have st := ack_4 (d := n.2.2.2) (mi := now / 200) hI hs (Int.le_refl 0) (by omega)
      have hI2 := hI
      unfold sdB at hI2
      have w2 : 256 ≤ s.1 4 := hI2.2.2.1.1
      unfold lvF lvE at hgr
      rw [mW_n hs, mW_ackn hs, e5] at hgr
      have hv : s.1 4 < (ackM s n.2.2.2 (now / 200)).1 4 ∧ 256 * s.1 5 < (ackM s n.2.2.2 (now / 200)).1 4 ∧ 16384 < (ackM s n.2.2.2 (now / 200)).1 4 := by omega
      have h9 : 9 ≤ wP (mW s) := by
        have gg : ((ackM s n.2.2.2 (now / 200)).1 4 - s.1 4) * s.1 4 ≤ 524288 := by
          rcases st.2.1 with z | z
          · exact absurd z (by omega)
          · have := z.2
            omega
        rw [mW_n hs]
        have : 2304 ≤ s.1 4 := by
          apply Decidable.byContradiction
          intro y
          have : 14080 * 256 ≤ ((ackM s n.2.2.2 (now / 200)).1 4 - s.1 4) * s.1 4 := Int.mul_le_mul (by omega) w2 (by omega) (by omega)
          omega
        unfold wP
        omega
      have tz : tE (ackM s n.2.2.2 (now / 200)) Lf = 0 := by
        unfold tE
        rw [mW_ackn hs, e5]
        exact eE_none (by omega) (Or.inr (by omega))
      refine ⟨?_, fun hE => by omega⟩
      have p3 : PS (ackM s n.2.2.2 (now / 200)) U Lf ≤ PS s (U + 1) Lf + 3 := by
        have gr := grow_g (w := s.1 4) (v := (ackM s n.2.2.2 (now / 200)).1 4) hI2.2.2.1.1 (by
          rcases st.2.1 with z | z
          · exact Or.inl z
          · exact Or.inr (by have := z.2; omega))
        rw [mW_n hs] at h9
        have := gB_c (wP (s.1 4))
        have f1 : (s.1 5).toNat = ((ackM s n.2.2.2 (now / 200)).1 5).toNat + 1 := by omega
        rw [PS_n hs, PS_n (e11.trans hs), f1]
        exact pb_ack3 h9 (by omega)
      have p3M := mulL (M := M) (by omega) (show (PS (ackM s n.2.2.2 (now / 200)) U Lf : Int) ≤ (PS s (U + 1) Lf : Int) + 3 by omega)
      have hl := lvl_ack (d := n.2.2.2) (mi := now / 200) hI h5 (fun z => (hq z).1)
      have hG : gLv X (lvl (ackM s n.2.2.2 (now / 200))) ≤ gLv X (lvl s) + 1 := by
        have w1 : wP (mW s) ≤ lvl s := by unfold lvl; omega
        unfold gLv
        omega
      have hGM := mulL (M := M) (by omega) (show (gLv X (lvl (ackM s n.2.2.2 (now / 200))) : Int) ≤ (gLv X (lvl s) : Int) + 1 by omega)
      have := join 0 0 (3 * (M * (PS (ackM s n.2.2.2 (now / 200)) U Lf : Int))) (3 * (M * (PS s (U + 1) Lf : Int)) + 10 * M) (by omega) (by omega)
      unfold sA at gA ⊢
      omega
  exact gP_le goal2.1 goal2.2
theorem GB.ackG (hP : PCg K M kT A X U1 C1 Z C3 w1 Fm) (h : GB now c dl R lo1 lo2 hi s o (l1 ++ n :: l2) g) (hn : isA n) (ht : n.1 = now) (hl : ∀ a ∈ l1, now < a.1) (hr : ∀ a ∈ l2, now ≤ a.1) (hK : hi - lo1 + 1 ≤ K) (hFm : (s.1 5).toNat ≤ Fm) {wt : Int → Nat} (hW : WTo M kT A lo2 hi wt) (hFF : 16384 ≤ F) (hcg : cg + 10 ≤ 3 * (A : Int)) :
    GB now c dl R lo1 lo2 hi (ackM s n.2.2.2 (now / 200)) o (l1 ++ l2) (stepG tqB T0B now s.2.1 g n) ∧ gPot M kT U1 C1 Z X now (ackM s n.2.2.2 (now / 200), o, l1 ++ l2) (stepG tqB T0B now s.2.1 g n).2.1 + M * (cg * (grw F now s n : Int)) ≤ gPot M kT U1 C1 Z X now (s, o, l1 ++ n :: l2) g.2.1 + 3 * (M * (wt n.2.2.2 : Int)) := by
  have a := GB.ack hP h hn ht hl hr hK hFm hW
  refine ⟨a.1, ?_⟩
  rcases grw_01 (F := F) (now := now) (s := s) (n := n) with q | q
  · rw [q]
    have := a.2
    have z : M * (cg * ((0 : Nat) : Int)) = 0 := by
      show M * (cg * 0) = 0
      rw [Int.mul_zero, Int.mul_zero]
    omega
  · have b := GB.ackU hP h hn ht hl hr hK hFm hW hFF (grw_1 q)
    rw [q]
    have rq := h.2.q hn
    have hwt := hW n.2.2.2 rq.2.2.1 rq.2.2.2
    have hM : 0 < M := hP.1
    have wA : M * (A : Int) ≤ M * (wt n.2.2.2 : Int) := Int.mul_le_mul_of_nonneg_left (by have := hwt.1; omega) (by omega)
    have w3 : M * (cg + 10) ≤ M * (3 * (A : Int)) := Int.mul_le_mul_of_nonneg_left hcg (by omega)
    rw [Int.mul_add, Int.mul_left_comm M 3] at w3
    have z : M * (cg * ((1 : Nat) : Int)) = M * cg := by
      show M * (cg * 1) = M * cg
      rw [Int.mul_one]
    omega
end GCR
section GCT
variable {now c dl R lo1 lo2 hi F cg : Int} {o : List Int} {K M kT U1 C1 Z : Int} {A X C3 w1 Fm : Nat} {wt : Int → Nat}
theorem GB.hndG (hP : PCg K M kT A X U1 C1 Z C3 w1 Fm) (hK : hi - lo1 + 1 ≤ K) (hW : WTo M kT A lo2 hi wt) (hFF : 16384 ≤ F) (hcg : cg + 10 ≤ 3 * (A : Int)) (hnow : now ≤ tqB) : ∀ (t ks : List NtM) (s : SdM) (g : Gh), GB now c dl R lo1 lo2 hi s o (ks ++ t) g → (∀ a ∈ ks, now < a.1) → (∀ a ∈ t, now ≤ a.1) → (s.1 5).toNat ≤ Fm →
    ∃ g2, GB now c dl R lo1 lo2 hi (t.foldl (hndS now) s) o (ks ++ t.filter (fun n => decide (n.1 ≠ now))) g2 ∧ gPH M kT U1 C1 Z X wt now (t.foldl (hndS now) s, o, ks ++ t.filter (fun n => decide (n.1 ≠ now))) g2.2.1 + M * (cg * (grN F now s t : Int)) ≤ gPH M kT U1 C1 Z X wt now (s, o, ks ++ t) g.2.1 + 3 * (M * (frN now s t : Int)) ∧ g2.1 = g.1 := by
  intro t
  induction t with
  | nil =>
    intro ks s g h _ _ _
    refine ⟨g, h, ?_, rfl⟩
    show gPH M kT U1 C1 Z X wt now (s, o, ks ++ []) g.2.1 + M * (cg * ((0 : Nat) : Int)) ≤ gPH M kT U1 C1 Z X wt now (s, o, ks ++ []) g.2.1 + 3 * (M * ((0 : Nat) : Int))
    have z : M * (cg * ((0 : Nat) : Int)) = 0 := by
      show M * (cg * 0) = 0
      rw [Int.mul_zero, Int.mul_zero]
    omega
  | cons n t ih =>
    intro ks s g h hks ht hFm
    rw [List.foldl_cons]
    have ef : frN now s (n :: t) = (if n.1 = now ∧ ¬ isA n ∧ ¬ n.2.2.2 < s.1 9 then 1 else 0) + frN now (hndS now s n) t := rfl
    rw [ef]
    have eN : grN F now s (n :: t) = grw F now s n + grN F now (hndS now s n) t := rfl
    have eK : M * (cg * ((grw F now s n + grN F now (hndS now s n) t : Nat) : Int)) = M * (cg * (grw F now s n : Int)) + M * (cg * (grN F now (hndS now s n) t : Int)) := by
      push_cast
      rw [Int.mul_add, Int.mul_add]
    rw [eN, eK]
    have z00 : M * (cg * ((0 : Nat) : Int)) = 0 := by
      show M * (cg * 0) = 0
      rw [Int.mul_zero, Int.mul_zero]
    have ht2 : ∀ a ∈ t, now ≤ a.1 := fun a ha => ht a (List.mem_cons_of_mem _ ha)
    by_cases e : n.1 = now
    · rw [List.filter_cons_of_neg (by simp [e])]
      have eh : hndS now s n = reachM s n.2.2.1 n.2.2.2 (now / 200) := if_pos e
      by_cases z : isA n
      · have er : reachM s n.2.2.1 n.2.2.2 (now / 200) = ackM s n.2.2.2 (now / 200) := if_pos z
        rw [eh, er]
        obtain ⟨h2, p2⟩ := h.ackG hP z e hks ht2 hK hFm hW hFF hcg
        have e5 : (ackM s n.2.2.2 (now / 200)).1 5 = s.1 5 - 1 := ack_5
        obtain ⟨g3, h3, p3, q3⟩ := ih ks _ _ h2 hks ht2 (by omega)
        refine ⟨g3, h3, ?_, q3.trans (stepG_1 hnow)⟩
        have ea : wSl wt (ks ++ n :: t) = wSl wt (ks ++ t) + wt n.2.2.2 := by
          have z : n.2.2.1 = 0 := z
          rw [wSl_mid, if_pos z]
        have hn0 : ¬ (n.1 = now ∧ ¬ isA n ∧ ¬ n.2.2.2 < s.1 9) := fun y => y.2.1 z
        rw [if_neg hn0]
        have a1 : gPH M kT U1 C1 Z X wt now (s, o, ks ++ n :: t) g.2.1 = gPot M kT U1 C1 Z X now (s, o, ks ++ n :: t) g.2.1 + 3 * (M * (wSl wt (ks ++ n :: t) : Int)) := rfl
        have a2 : gPH M kT U1 C1 Z X wt now (ackM s n.2.2.2 (now / 200), o, ks ++ t) (stepG tqB T0B now s.2.1 g n).2.1 = gPot M kT U1 C1 Z X now (ackM s n.2.2.2 (now / 200), o, ks ++ t) (stepG tqB T0B now s.2.1 g n).2.1 + 3 * (M * (wSl wt (ks ++ t) : Int)) := rfl
        rw [ea] at a1
        have a3 : M * ((wSl wt (ks ++ t) + wt n.2.2.2 : Nat) : Int) = M * (wSl wt (ks ++ t) : Int) + M * (wt n.2.2.2 : Int) := by
          push_cast
          rw [Int.mul_add]
        rw [a3] at a1
        rw [Nat.zero_add]
        omega
      · have er : reachM s n.2.2.1 n.2.2.2 (now / 200) = lostM s n.2.2.2 := if_neg z
        rw [eh, er, grw_no (fun y => z y.2), z00]
        obtain ⟨h2, p2⟩ := h.lost hP z
        have e5 : (lostM s n.2.2.2).1 5 = s.1 5 - 1 := lost_5
        obtain ⟨g3, h3, p3, q3⟩ := ih ks _ _ h2 hks ht2 (by omega)
        refine ⟨g3, h3, ?_, q3⟩
        have ea : wSl wt (ks ++ n :: t) = wSl wt (ks ++ t) := by
          have z : ¬ n.2.2.1 = 0 := z
          rw [wSl_mid, if_neg z]
          rfl
        have a1 : gPH M kT U1 C1 Z X wt now (s, o, ks ++ n :: t) g.2.1 = gPot M kT U1 C1 Z X now (s, o, ks ++ n :: t) g.2.1 + 3 * (M * (wSl wt (ks ++ n :: t) : Int)) := rfl
        have a2 : gPH M kT U1 C1 Z X wt now (lostM s n.2.2.2, o, ks ++ t) g.2.1 = gPot M kT U1 C1 Z X now (lostM s n.2.2.2, o, ks ++ t) g.2.1 + 3 * (M * (wSl wt (ks ++ t) : Int)) := rfl
        rw [ea] at a1
        by_cases y : n.2.2.2 < s.1 9
        · rw [if_pos y] at p2
          rw [if_neg (fun w => w.2.2 y), Nat.zero_add]
          omega
        · rw [if_neg y] at p2
          rw [if_pos ⟨e, z, y⟩]
          have m1 : M * ((1 + frN now (lostM s n.2.2.2) t : Nat) : Int) = M + M * (frN now (lostM s n.2.2.2) t : Int) := by
            push_cast
            rw [Int.mul_add, Int.mul_one]
          rw [m1]
          omega
    · rw [List.filter_cons_of_pos (by simp [e])]
      have eh : hndS now s n = s := if_neg e
      rw [eh, if_neg (fun y => e y.1), Nat.zero_add, grw_no (fun y => e y.1), z00, Int.zero_add]
      have el : ks ++ n :: t = (ks ++ [n]) ++ t := by simp
      have el2 : ks ++ n :: t.filter (fun n => decide (n.1 ≠ now)) = (ks ++ [n]) ++ t.filter (fun n => decide (n.1 ≠ now)) := by simp
      rw [el] at h
      rw [el, el2]
      have hn := ht n List.mem_cons_self
      exact ih (ks ++ [n]) s g h (fun a ha => by
        rcases List.mem_append.mp ha with w | w
        · exact hks a w
        · rw [List.mem_singleton] at w
          rw [w]
          omega) ht2 hFm
/-- packets sent -/
theorem GBb.tickG {fw bk iv : Int} {v : SV} {g : Gh} {k : Nat} {bs : List Bool} {z : Bool} (hP : PCg K M kT A X U1 C1 Z C3 w1 Fm) (hK : hi - lo1 + 1 ≤ K) (hW : WTo M kT A lo2 hi wt) (hFF : 16384 ≤ F) (hcg : cg + 10 ≤ 3 * (A : Int)) (hFm : (v.1.1 5).toNat ≤ Fm) (h : GBb now c dl R lo1 lo2 hi v g) (h0 : 0 ≤ now + 1) (hnow : now + 1 ≤ tqB) (hR1 : 1 ≤ R) (hc : c = bk - v.1.1 2) (hd : dl = fw + v.1.1 2) (hRR : R = fw + bk)
    (hs : sndOK (now + 1) (now + 1 + fw + bk) k bs (slowM (hndV (now + 1) v).1 (now + 1) iv, (hndV (now + 1) v).2)) (hz : z = true → (sndV (now + 1) (now + 1 + fw + bk) k bs (slowM (hndV (now + 1) v).1 (now + 1) iv, (hndV (now + 1) v).2)).2.1 ≠ [])
    (hr : z = true → ∀ x t, (sndV (now + 1) (now + 1 + fw + bk) k bs (slowM (hndV (now + 1) v).1 (now + 1) iv, (hndV (now + 1) v).2)).2.1 = x :: t → lo2 ≤ now + 1 + fw - x + v.1.1 2 ∧ now + 1 + fw - x + v.1.1 2 ≤ hi) :
    ∃ g2, GBb (now + 1) c dl R lo1 lo2 hi (finV (now + 1 + fw) (now + 1 + fw + bk) k z (sndV (now + 1) (now + 1 + fw + bk) k bs (slowM (hndV (now + 1) v).1 (now + 1) iv, (hndV (now + 1) v).2))) g2 ∧ gPH M kT U1 C1 Z X wt (now + 1) (finV (now + 1 + fw) (now + 1 + fw + bk) k z (sndV (now + 1) (now + 1 + fw + bk) k bs (slowM (hndV (now + 1) v).1 (now + 1) iv, (hndV (now + 1) v).2))) g2.2.1 + 3 * (M * (bs.length : Int)) + M * (cg * (grN F (now + 1) v.1 v.2.2 : Int)) ≤ gPH M kT U1 C1 Z X wt now v g.2.1 + 3 * (M * (frN (now + 1) v.1 v.2.2 : Int)) + 3 * (M * (bgN (endsM (hndV (now + 1) v).1 (now + 1)) (now + 1) iv : Int)) + 3 * (M * (wFi wt (now + 1 + fw) z (sndV (now + 1) (now + 1 + fw + bk) k bs (slowM (hndV (now + 1) v).1 (now + 1) iv, (hndV (now + 1) v).2)) : Int)) + M * Z * ((now + 1) / 200 - now / 200) := by
  obtain ⟨hI, hp, hGR⟩ := h
  have hM : 0 < M := hP.1
  obtain ⟨h1, p1⟩ := hI.nxt hP
  have hpt : ∀ a ∈ v.2.2, now + 1 ≤ a.1 := fun a ha => by have := hp a ha; omega
  obtain ⟨g2, h2, p2, k5⟩ := GB.hndG hP hK hW hFF hcg hnow v.2.2 [] v.1 g h1 (fun a ha => by cases ha) hpt hFm
  have e2 : hndV (now + 1) v = (v.2.2.foldl (hndS (now + 1)) v.1, v.2.1, [] ++ v.2.2.filter (fun n => decide (n.1 ≠ now + 1))) := rfl
  rw [e2] at hs hz hr ⊢
  dsimp only at hs hz hr ⊢
  have hk2 : ∀ a ∈ [] ++ v.2.2.filter (fun n => decide (n.1 ≠ now + 1)), now + 1 < a.1 ∧ a ∈ v.2.2 := by
    intro a ha
    rw [List.nil_append, List.mem_filter] at ha
    have b1 := hpt a ha.1
    have b2 := of_decide_eq_true ha.2
    exact ⟨by omega, ha.1⟩
  obtain ⟨h3, p3⟩ := h2.ends hP
  obtain ⟨h4, p4⟩ := h3.begins hP (iv := iv) h0
  have h4 : GB (now + 1) c dl R lo1 lo2 hi (slowM (v.2.2.foldl (hndS (now + 1)) v.1) (now + 1) iv) v.2.1 ([] ++ v.2.2.filter (fun n => decide (n.1 ≠ now + 1))) g2 := h4
  obtain ⟨h5, p5⟩ := GB.snds hP (wt := wt) (k := k) (ar := now + 1 + fw + bk) bs (slowM (v.2.2.foldl (hndS (now + 1)) v.1) (now + 1) iv, v.2.1, [] ++ v.2.2.filter (fun n => decide (n.1 ≠ now + 1))) h4 hs
  have f2 : (slowM (v.2.2.foldl (hndS (now + 1)) v.1) (now + 1) iv).1 2 = v.1.1 2 := by
    unfold slowM
    rw [begins_o (by decide) (by decide) (by decide), ends_o (by decide) (by decide) (by decide), hnd_2]
  generalize hvs : sndV (now + 1) (now + 1 + fw + bk) k bs (slowM (v.2.2.foldl (hndS (now + 1)) v.1) (now + 1) iv, v.2.1, [] ++ v.2.2.filter (fun n => decide (n.1 ≠ now + 1))) = vs at *
  have f3 : vs.1.1 2 = v.1.1 2 := by
    rw [← hvs, snd_2]
    exact f2
  obtain ⟨h6, p6⟩ := h5.fin (M := M) (kT := kT) (U1 := U1) (C1 := C1) (Z := Z) (X := X) (k := k) (z := z) (fw := fw) (bk := bk) hz (by rw [f3]; exact hc) (by rw [f3]; exact hd) hRR (by rw [f3]; exact hr)
  have evs : (vs.1, vs.2.1, vs.2.2) = vs := rfl
  rw [evs] at h6 p6
  refine ⟨g2, ⟨h6, ?_, by unfold GR at hGR ⊢; rw [k5]; exact hGR⟩, ?_⟩
  · intro a ha
    rcases fin_mem ha with w | w
    · rw [← hvs] at w
      rcases snd_mem _ _ _ w with y | y
      · exact (hk2 a y).1
      · omega
    · omega
  · have an := wSl_fin (wt := wt) (du := now + 1 + fw) (ar := now + 1 + fw + bk) (k := k) (z := z) (v := vs) hz
    have q1 : gPH M kT U1 C1 Z X wt now v g.2.1 = gPot M kT U1 C1 Z X now (v.1, v.2.1, v.2.2) g.2.1 + 3 * (M * (wSl wt v.2.2 : Int)) := rfl
    have q1' : gPH M kT U1 C1 Z X wt (now + 1) (v.1, v.2.1, [] ++ v.2.2) g.2.1 = gPot M kT U1 C1 Z X (now + 1) (v.1, v.2.1, v.2.2) g.2.1 + 3 * (M * (wSl wt v.2.2 : Int)) := rfl
    have q2 : gPH M kT U1 C1 Z X wt (now + 1) (v.2.2.foldl (hndS (now + 1)) v.1, v.2.1, [] ++ v.2.2.filter (fun n => decide (n.1 ≠ now + 1))) g2.2.1 = gPot M kT U1 C1 Z X (now + 1) (v.2.2.foldl (hndS (now + 1)) v.1, v.2.1, [] ++ v.2.2.filter (fun n => decide (n.1 ≠ now + 1))) g2.2.1 + 3 * (M * (wSl wt ([] ++ v.2.2.filter (fun n => decide (n.1 ≠ now + 1))) : Int)) := rfl
    have q4 : gPH M kT U1 C1 Z X wt (now + 1) (slowM (v.2.2.foldl (hndS (now + 1)) v.1) (now + 1) iv, v.2.1, [] ++ v.2.2.filter (fun n => decide (n.1 ≠ now + 1))) g2.2.1 = gPot M kT U1 C1 Z X (now + 1) (beginsM (endsM (v.2.2.foldl (hndS (now + 1)) v.1) (now + 1)) (now + 1) iv, v.2.1, [] ++ v.2.2.filter (fun n => decide (n.1 ≠ now + 1))) g2.2.1 + 3 * (M * (wSl wt ([] ++ v.2.2.filter (fun n => decide (n.1 ≠ now + 1))) : Int)) := rfl
    have q5 : gPH M kT U1 C1 Z X wt (now + 1) vs g2.2.1 = gPot M kT U1 C1 Z X (now + 1) vs g2.2.1 + 3 * (M * (wSl wt vs.2.2 : Int)) := rfl
    have q6 : gPH M kT U1 C1 Z X wt (now + 1) (finV (now + 1 + fw) (now + 1 + fw + bk) k z vs) g2.2.1 = gPot M kT U1 C1 Z X (now + 1) (finV (now + 1 + fw) (now + 1 + fw + bk) k z vs) g2.2.1 + 3 * (M * (wSl wt (finV (now + 1 + fw) (now + 1 + fw + bk) k z vs).2.2 : Int)) := rfl
    have a3 : M * ((wSl wt vs.2.2 + wFi wt (now + 1 + fw) z vs : Nat) : Int) = M * (wSl wt vs.2.2 : Int) + M * (wFi wt (now + 1 + fw) z vs : Int) := by
      push_cast
      rw [Int.mul_add]
    rw [an, a3] at q6
    rw [q2, q1'] at p2
    rw [q4, q5] at p5
    rw [q6, q1]
    omega
end GCT
section GCCNT
variable {now c dl R lo1 lo2 hi F cg : Int} {o : List Int} {K M kT U1 C1 Z r : Int} {A X C3 w1 Fm : Nat} {wt : Int → Nat}
theorem GBc.tickG {fw bk iv : Int} {v : SV} {g : Gh} {th be : Int} {k : Nat} {bs : List Bool} {z : Bool} (hP : PCg K M kT A X U1 C1 Z C3 w1 Fm) (hK : hi - lo1 + 1 ≤ K) (hW : WTo M kT A lo2 hi wt) (hFF : 16384 ≤ F) (hcg : cg + 10 ≤ 3 * (A : Int)) (hFm : (v.1.1 5).toNat ≤ Fm) (h : GBc now c dl R lo1 lo2 hi r v g th be) (h0 : 0 ≤ now + 1) (hnow : now + 1 ≤ tqB) (hr0 : 1 ≤ r) (hrR : r ≤ R) (hc : c = bk - v.1.1 2) (hd : dl = fw + v.1.1 2) (hRR : R = fw + bk)
    (hs : sndOK (now + 1) (now + 1 + fw + bk) k bs (slowM (hndV (now + 1) v).1 (now + 1) iv, (hndV (now + 1) v).2)) (hz : z = true → (sndV (now + 1) (now + 1 + fw + bk) k bs (slowM (hndV (now + 1) v).1 (now + 1) iv, (hndV (now + 1) v).2)).2.1 ≠ [])
    (hr : z = true → ∀ x t, (sndV (now + 1) (now + 1 + fw + bk) k bs (slowM (hndV (now + 1) v).1 (now + 1) iv, (hndV (now + 1) v).2)).2.1 = x :: t → lo2 ≤ now + 1 + fw - x + v.1.1 2 ∧ now + 1 + fw - x + v.1.1 2 ≤ hi) :
    ∃ g2 th2 be2, GBc (now + 1) c dl R lo1 lo2 hi r (finV (now + 1 + fw) (now + 1 + fw + bk) k z (sndV (now + 1) (now + 1 + fw + bk) k bs (slowM (hndV (now + 1) v).1 (now + 1) iv, (hndV (now + 1) v).2))) g2 th2 be2 ∧ gY M kT U1 C1 Z X wt (now + 1) r (finV (now + 1 + fw) (now + 1 + fw + bk) k z (sndV (now + 1) (now + 1 + fw + bk) k bs (slowM (hndV (now + 1) v).1 (now + 1) iv, (hndV (now + 1) v).2))) g2.2.1 th2 be2 + 183 * (r * (M * (bs.length : Int))) + 61 * (r * (M * (cg * (grN F (now + 1) v.1 v.2.2 : Int)))) ≤ gY M kT U1 C1 Z X wt now r v g.2.1 th be + 183 * (r * (M * (wFi wt (now + 1 + fw) z (sndV (now + 1) (now + 1 + fw + bk) k bs (slowM (hndV (now + 1) v).1 (now + 1) iv, (hndV (now + 1) v).2)) : Int))) + 61 * (r * (M * Z * ((now + 1) / 200 - now / 200))) + 183 * M + 3 * (r * M) := by
  obtain ⟨hI, hH, hth, hB⟩ := h
  have hM : 0 < M := hP.1
  obtain ⟨g2, h2, p2⟩ := GBb.tickG hP hK hW hFF hcg hFm hI h0 hnow (by omega) hc hd hRR hs hz hr
  have hI1 := (hI.1.nxt hP).1
  have hpt : ∀ a ∈ v.2.2, now + 1 ≤ a.1 := fun a ha => by have := hI.2.1 a ha; omega
  obtain ⟨th2, t1, t2, t3⟩ := HTg.hnd v.2.2 [] v.1 g th hI1 (fun a ha => by cases ha) hpt hH (by omega)
  have hB1 : BG now be (v.2.2.foldl (hndS (now + 1)) v.1) := BG.hnd v.2.2 v.1 hB
  obtain ⟨be2, b1, b2⟩ := hB1.slow (iv := iv) h0
  have e2 : hndV (now + 1) v = (v.2.2.foldl (hndS (now + 1)) v.1, v.2.1, v.2.2.filter (fun n => decide (n.1 ≠ now + 1))) := rfl
  refine ⟨g2, th2, be2, ⟨h2, ?_, t1, ?_⟩, ?_⟩
  · refine HT.fin ?_
    refine HT.snds (by omega) bs _ ?_
    rw [e2]
    exact t2.slow
  · rw [fin_s]
    refine BG.same ?_ (snd_o (by decide) (by decide) bs _) (snd_o (by decide) (by decide) bs _)
    rw [e2]
    exact b1
  · unfold gY
    have e3 : (hndV (now + 1) v).1 = v.2.2.foldl (hndS (now + 1)) v.1 := rfl
    generalize hX : gPH M kT U1 C1 Z X wt (now + 1) (finV (now + 1 + fw) (now + 1 + fw + bk) k z (sndV (now + 1) (now + 1 + fw + bk) k bs (slowM (hndV (now + 1) v).1 (now + 1) iv, (hndV (now + 1) v).2))) g2.2.1 = P2 at p2
    generalize (wFi wt (now + 1 + fw) z (sndV (now + 1) (now + 1 + fw + bk) k bs (slowM (hndV (now + 1) v).1 (now + 1) iv, (hndV (now + 1) v).2)) : Int) = zz at *
    rw [e3] at p2
    generalize gPH M kT U1 C1 Z X wt now v g.2.1 = P1 at p2
    generalize (frN (now + 1) v.1 v.2.2 : Int) = fr at p2 t3
    generalize (bgN (endsM (v.2.2.foldl (hndS (now + 1)) v.1) (now + 1)) (now + 1) iv : Int) = bg at p2 b2
    generalize (now + 1) / 200 - now / 200 = D at *
    generalize (bs.length : Int) = n at *
    generalize (grN F (now + 1) v.1 v.2.2 : Int) = gn at *
    have q2 := Int.mul_le_mul_of_nonneg_left p2 (show 0 ≤ r by omega)
    have q3 : r * (P2 + 3 * (M * n) + M * (cg * gn)) = r * P2 + 3 * (r * (M * n)) + r * (M * (cg * gn)) := by rw [Int.mul_add, Int.mul_add, Int.mul_left_comm r 3]
    have q4 : r * (P1 + 3 * (M * fr) + 3 * (M * bg) + 3 * (M * zz) + M * Z * D) = r * P1 + 3 * (M * (r * fr)) + 3 * (r * (M * bg)) + 3 * (r * (M * zz)) + r * (M * Z * D) := by
      rw [Int.mul_add, Int.mul_add, Int.mul_add, Int.mul_add, Int.mul_left_comm r 3 (M * fr), Int.mul_left_comm r 3 (M * bg), Int.mul_left_comm r M fr, Int.mul_left_comm r 3 (M * zz)]
    have m1 := Int.mul_le_mul_of_nonneg_left t3 (show 0 ≤ M by omega)
    have m2 : r * (M * (61 * bg)) ≤ r * (M * (be2 - be)) := Int.mul_le_mul_of_nonneg_left (Int.mul_le_mul_of_nonneg_left b2 (by omega)) (by omega)
    have m3 : r * (M * (61 * bg)) = 61 * (r * (M * bg)) := by rw [Int.mul_left_comm M 61, Int.mul_left_comm r 61]
    have m4 : M * (now + 1 - th2) = M * (now - th) + M - M * (th2 - th) := by
      have : now + 1 - th2 = (now - th) + 1 - (th2 - th) := by omega
      rw [this, Int.mul_sub, Int.mul_add, Int.mul_one]
    have m5 : r * (M * (now + 1 - be2)) = r * (M * (now - be)) + r * M - r * (M * (be2 - be)) := by
      have : now + 1 - be2 = (now - be) + 1 - (be2 - be) := by omega
      rw [this, Int.mul_sub, Int.mul_add, Int.mul_one, Int.mul_sub, Int.mul_add]
    rw [m4, m5]
    omega
end GCCNT
def yGG (F cg : Int) (nS nC : Nat) (m : MS) (r M : Int) (Z : Nat → Int) (wt : Nat → Int → Nat) (y : Nat → Int) : Nat → Int := fun k => y k + 183 * (r * (M * (wfM wt nS nC m k : Int))) + (61 * (r * (M * Z k * ((mg m 5 + 1) / 200 - mg m 5 / 200))) + 183 * M + 3 * (r * M)) - 183 * (r * (M * ((ms (tickM nS nC m) k).1 6 - (ms m k).1 6))) - 61 * (r * (M * (cg * (grV F m k : Int))))
section MGCR
variable {nS nC : Nat} {m : MS} {r F cg : Int} {lo1 lo2 hi : Nat → Int} {K M kT U1 : Int} {C1 Z : Nat → Int} {A X C3 w1 : Nat} {Fm : Nat → Nat} {wt : Nat → Int → Nat} {y : Nat → Int}
theorem MGn.tickG (hP : ∀ k, k < nS → PCg K M kT A X U1 (C1 k) (Z k) C3 w1 (Fm k)) (hK : ∀ k, k < nS → hi k - lo1 k + 1 ≤ K) (hW : ∀ k, k < nS → WTo M kT A (lo2 k) (hi k) (wt k)) (hFF : 16384 ≤ F) (hcg : cg + 10 ≤ 3 * (A : Int)) (h4 : nS ≤ 4) (h : MGn nS m r lo1 lo2 hi M kT U1 C1 Z X wt y) (hF : ∀ k, k < nS → ((ms m k).1 5).toNat ≤ Fm k) (h0 : 0 ≤ mg m 5 + 1) (hnow : mg m 5 + 1 ≤ tqB) (hr0 : 1 ≤ r) (hrR : r ≤ mg m 2 + mg m 3) (hf : frOK nS nC m lo2 hi) : MGn nS (tickM nS nC m) r lo1 lo2 hi M kT U1 C1 Z X wt (yGG F cg nS nC m r M Z wt y) := by
  intro k hk
  obtain ⟨g, th, be, hI, hY⟩ := h k hk
  obtain ⟨bs, z, h1, h2, h3, h5, h6, h7⟩ := tick_vo (nC := nC) hk h4 (m := m)
  obtain ⟨g2, th2, be2, hI2, hY2⟩ := GBc.tickG (iv := mg m 4) (hP k hk) (hK k hk) (hW k hk) hFF hcg (hF k hk) hI h0 hnow hr0 hrR rfl rfl rfl h1 h6 (fun hz x t hx => by
    rw [h7] at hx
    rw [h5] at hz
    exact hf k hk hz x t hx)
  have ew : wFi (wt k) (mg m 5 + 1 + mg m 2) z (sndV (mg m 5 + 1) (mg m 5 + 1 + mg m 2 + mg m 3) k bs (slowM (hndV (mg m 5 + 1) (vwK k m)).1 (mg m 5 + 1) (mg m 4), (hndV (mg m 5 + 1) (vwK k m)).2)) = wfM wt nS nC m k := by
    have eo : (sndV (mg m 5 + 1) (mg m 5 + 1 + mg m 2 + mg m 3) k bs (slowM (hndV (mg m 5 + 1) (vwK k m)).1 (mg m 5 + 1) (mg m 4), (hndV (mg m 5 + 1) (vwK k m)).2)).1.1 2 = (ms m k).1 2 := by
      rw [snd_2]
      show (slowM (hndV (mg m 5 + 1) (vwK k m)).1 (mg m 5 + 1) (mg m 4)).1 2 = _
      unfold slowM
      rw [begins_o (by decide) (by decide) (by decide), ends_o (by decide) (by decide) (by decide)]
      exact hnd_2 _ _
    unfold wFi wfM
    rw [h7, h5, eo]
    generalize fnB k (beginM (midM nS nC m)) = b
    generalize own k (beginM (midM nS nC m)) = l
    cases b <;> cases l <;> rfl
  rw [ew] at hY2
  rw [← h2] at hI2 hY2
  have e2 := tick_s2 (nC := nC) hk h4 (m := m)
  have e6 : (ms (tickM nS nC m) k).1 6 = (ms m k).1 6 + bs.length := by
    have : (vwK k (tickM nS nC m)).1.1 6 = (ms m k).1 6 + bs.length := by
      rw [h2, fin_s, snd_6]
      congr 1
      show (slowM (hndV (mg m 5 + 1) (vwK k m)).1 (mg m 5 + 1) (mg m 4)).1 6 = _
      unfold slowM
      rw [begins_o (by decide) (by decide) (by decide), ends_o (by decide) (by decide) (by decide)]
      exact hnd_6 _ _
    exact this
  refine ⟨g2, th2, be2, ?_, ?_⟩
  · rw [tick_g5, tick_g (by decide) (by decide) (by decide) (by decide) (by decide) (by decide), tick_g (by decide) (by decide) (by decide) (by decide) (by decide) (by decide), e2]
    exact hI2
  · rw [tick_g5]
    unfold yGG grV
    rw [e6]
    have e7 : (ms m k).1 6 + (bs.length : Int) - (ms m k).1 6 = bs.length := by omega
    rw [e7]
    omega
theorem yGG_sum : sumN (yGG F cg nS nC m r M Z wt y) nS + 183 * (r * (M * (sntM nS (tickM nS nC m) - sntM nS m))) + 61 * (r * (M * (cg * sumN (fun k => (grV F m k : Int)) nS))) = sumN y nS + 183 * (r * (M * sumN (fun k => (wfM wt nS nC m k : Int)) nS)) + 61 * (r * (M * (sumN Z nS) * ((mg m 5 + 1) / 200 - mg m 5 / 200))) + nS * (183 * M + 3 * (r * M)) := by
  generalize hD : (mg m 5 + 1) / 200 - mg m 5 / 200 = D
  have e : sumN (yGG F cg nS nC m r M Z wt y) nS = sumN (fun k => ((y k + (183 * (r * M)) * (wfM wt nS nC m k : Int)) + (((61 * (r * M * D)) * Z k + (183 * M + 3 * (r * M))) + (-183 * (r * M)) * ((ms (tickM nS nC m) k).1 6 - (ms m k).1 6))) + (-61 * (r * (M * cg))) * (grV F m k : Int)) nS := by
    refine sumN_congr nS (fun k _ => ?_)
    unfold yGG
    rw [hD]
    generalize (ms (tickM nS nC m) k).1 6 - (ms m k).1 6 = w
    generalize (wfM wt nS nC m k : Int) = f
    generalize (grV F m k : Int) = gv
    have a1 : (183 * (r * M)) * f = 183 * (r * (M * f)) := by rw [Int.mul_assoc, Int.mul_assoc r M f]
    have a2 : (-183 * (r * M)) * w = -183 * (r * (M * w)) := by rw [Int.mul_assoc, Int.mul_assoc r M w]
    have a3 : (61 * (r * M * D)) * Z k = 61 * (r * (M * Z k * D)) := by
      rw [Int.mul_assoc, Int.mul_assoc r M D, Int.mul_assoc r, Int.mul_assoc M D, Int.mul_assoc M (Z k), Int.mul_comm D]
    have a4 : (-61 * (r * (M * cg))) * gv = -61 * (r * (M * (cg * gv))) := by rw [Int.mul_assoc, Int.mul_assoc r (M * cg), Int.mul_assoc M cg]
    rw [a1, a2, a3, a4]
    omega
  have e2 : sumN (fun k => (ms (tickM nS nC m) k).1 6 - (ms m k).1 6) nS + sntM nS m = sntM nS (tickM nS nC m) := by
    unfold sntM
    rw [← sumN_add]
    exact sumN_congr nS (fun k _ => by omega)
  rw [e, sumN_add, sumN_add, sumN_add, sumN_add, sumN_add, sumN_mul, sumN_mul, sumN_mul, sumN_mul, sumN_c]
  generalize sumN (fun k => (wfM wt nS nC m k : Int)) nS = f
  generalize sumN (fun k => (grV F m k : Int)) nS = gv
  generalize sumN (fun k => (ms (tickM nS nC m) k).1 6 - (ms m k).1 6) nS = w at *
  have e3 : sntM nS (tickM nS nC m) - sntM nS m = w := by omega
  rw [e3]
  generalize sumN Z nS = zz
  have a1 : (183 * (r * M)) * f = 183 * (r * (M * f)) := by rw [Int.mul_assoc, Int.mul_assoc r M f]
  have a2 : (-183 * (r * M)) * w = -183 * (r * (M * w)) := by rw [Int.mul_assoc, Int.mul_assoc r M w]
  have a3 : (61 * (r * M * D)) * zz = 61 * (r * (M * zz * D)) := by
    rw [Int.mul_assoc, Int.mul_assoc r M D, Int.mul_assoc r, Int.mul_assoc M D, Int.mul_assoc M zz, Int.mul_comm D]
  have a4 : (-61 * (r * (M * cg))) * gv = -61 * (r * (M * (cg * gv))) := by rw [Int.mul_assoc, Int.mul_assoc r (M * cg), Int.mul_assoc M cg]
  rw [a1, a2, a3, a4]
  omega
theorem MGn.runG (hP : ∀ k, k < nS → PCg K M kT A X U1 (C1 k) (Z k) C3 w1 (Fm k)) (hK : ∀ k, k < nS → hi k - lo1 k + 1 ≤ K) (hW : ∀ k, k < nS → WTo M kT A (lo2 k) (hi k) (wt k)) (hFF : 16384 ≤ F) (hcg : cg + 10 ≤ 3 * (A : Int)) (h4 : nS ≤ 4) (h : MGn nS m r lo1 lo2 hi M kT U1 C1 Z X wt y) (h0 : 0 ≤ mg m 5 + 1) (hr0 : 1 ≤ r) (hrR : r ≤ mg m 2 + mg m 3) : ∀ T : Nat, mg m 5 + T ≤ tqB → (∀ i, i < T → (∀ k, k < nS → ((ms (tkN nS nC i m) k).1 5).toNat ≤ Fm k) ∧ frOK nS nC (tkN nS nC i m) lo2 hi) → ∃ y2 : Nat → Int, MGn nS (tkN nS nC T m) r lo1 lo2 hi M kT U1 C1 Z X wt y2 ∧ sumN y2 nS + 183 * (r * (M * (sntM nS (tkN nS nC T m) - sntM nS m))) + 61 * (r * (M * (cg * grT F nS nC T m))) = sumN y nS + 183 * (r * (M * wfT wt nS nC T m)) + 61 * (r * (M * (sumN Z nS) * ((mg m 5 + T) / 200 - mg m 5 / 200))) + nS * (T * (183 * M + 3 * (r * M))) := by
  intro T
  induction T with
  | zero =>
    intro _ _
    refine ⟨y, h, ?_⟩
    have e : tkN nS nC 0 m = m := rfl
    have e1 : wfT wt nS nC 0 m = 0 := rfl
    have e2 : grT F nS nC 0 m = 0 := rfl
    rw [e, e1, e2, Int.sub_self]
    have : (mg m 5 + ((0 : Nat) : Int)) / 200 - mg m 5 / 200 = 0 := by
      rw [show mg m 5 + ((0 : Nat) : Int) = mg m 5 by omega]
      omega
    rw [this]
    simp
  | succ T ih =>
    intro hT hf
    push_cast at hT
    obtain ⟨y2, hM2, hY⟩ := ih (by omega) (fun i hi => hf i (by omega))
    have hfT := hf T (by omega)
    have g2 := tkN_g (nS := nS) (nC := nC) (m := m) (i := 2) (by decide) (by decide) (by decide) (by decide) (by decide) (by decide) T
    have g3 := tkN_g (nS := nS) (nC := nC) (m := m) (i := 3) (by decide) (by decide) (by decide) (by decide) (by decide) (by decide) T
    have g5 := tkN_5 (nS := nS) (nC := nC) (m := m) T
    have et : tkN nS nC (T + 1) m = tickM nS nC (tkN nS nC T m) := rfl
    have ef : wfT wt nS nC (T + 1) m = wfT wt nS nC T m + sumN (fun k => (wfM wt nS nC (tkN nS nC T m) k : Int)) nS := rfl
    have eg : grT F nS nC (T + 1) m = grT F nS nC T m + sumN (fun k => (grV F (tkN nS nC T m) k : Int)) nS := rfl
    rw [et, ef, eg]
    have hM3 := hM2.tickG (nC := nC) hP hK hW hFF hcg h4 hfT.1 (by rw [g5]; omega) (by rw [g5]; omega) hr0 (by rw [g2, g3]; exact hrR) hfT.2
    have hS := yGG_sum (F := F) (cg := cg) (nS := nS) (nC := nC) (m := tkN nS nC T m) (r := r) (M := M) (Z := Z) (wt := wt) (y := y2)
    refine ⟨yGG F cg nS nC (tkN nS nC T m) r M Z wt y2, hM3, ?_⟩
    rw [g5] at hS
    generalize tkN nS nC T m = x at *
    generalize mg m 5 = a at *
    generalize sumN (yGG F cg nS nC x r M Z wt y2) nS = Y3 at *
    generalize sumN y2 nS = Y2 at *
    generalize sumN y nS = Y1 at *
    generalize sntM nS (tickM nS nC x) = S3 at *
    generalize sntM nS x = S2 at *
    generalize sntM nS m = S1 at *
    generalize wfT wt nS nC T m = W1 at *
    generalize sumN (fun k => (wfM wt nS nC x k : Int)) nS = W2 at *
    generalize sumN Z nS = zz at *
    generalize grT F nS nC T m = G1 at *
    generalize sumN (fun k => (grV F x k : Int)) nS = G2 at *
    have eT : a + ((T + 1 : Nat) : Int) = a + T + 1 := by omega
    rw [eT]
    generalize hD1 : (a + (T : Int)) / 200 - a / 200 = D1 at *
    have hD2 : (a + (T : Int) + 1) / 200 - a / 200 = D1 + ((a + (T : Int) + 1) / 200 - (a + (T : Int)) / 200) := by omega
    rw [hD2]
    generalize (a + (T : Int) + 1) / 200 - (a + (T : Int)) / 200 = D2 at *
    have c1 : r * (M * (S3 - S1)) = r * (M * (S3 - S2)) + r * (M * (S2 - S1)) := by
      rw [← Int.mul_add, ← Int.mul_add]
      congr 2
      omega
    have c2 : r * (M * (W1 + W2)) = r * (M * W1) + r * (M * W2) := by rw [Int.mul_add, Int.mul_add]
    have c3 : r * (M * zz * (D1 + D2)) = r * (M * zz * D1) + r * (M * zz * D2) := by rw [Int.mul_add, Int.mul_add]
    have c4 : (nS : Int) * (((T + 1 : Nat) : Int) * (183 * M + 3 * (r * M))) = nS * (T * (183 * M + 3 * (r * M))) + nS * (183 * M + 3 * (r * M)) := by
      push_cast
      rw [Int.add_mul, Int.mul_add, Int.one_mul]
    have c5 : r * (M * (cg * (G1 + G2))) = r * (M * (cg * G1)) + r * (M * (cg * G2)) := by rw [Int.mul_add, Int.mul_add, Int.mul_add]
    rw [c1, c2, c3, c4, c5]
    omega
end MGCR
