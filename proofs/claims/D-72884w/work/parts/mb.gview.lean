/-! Bounds, general mode: a view, event by event -/
/-- delays: of the latest (lo1), of the minutes that count and of what is on its way (lo2) -/
def RG2 (now lo1 lo2 hi : Int) (s : SdM) (l : List NtM) : Prop := (∀ x ∈ s.2.2, lo1 ≤ x) ∧ (∀ j v, now / 200 - 4 ≤ j → s.2.1 j = some v → lo2 ≤ v) ∧ (∀ n ∈ l, isA n → lo2 ≤ n.2.2.2 ∧ n.2.2.2 ≤ hi) ∧ lo1 ≤ lo2
section RG2S
variable {now lo1 lo2 hi : Int} {s : SdM} {l l1 l2 : List NtM} {n : NtM}
theorem RG2.nxt (h : RG2 now lo1 lo2 hi s l) : RG2 (now + 1) lo1 lo2 hi s l := ⟨h.1, fun j v hj hv => h.2.1 j v (by omega) hv, h.2.2⟩
theorem RG2.lost {num : Int} (h : RG2 now lo1 lo2 hi s (l1 ++ n :: l2)) : RG2 now lo1 lo2 hi (lostM s num) (l1 ++ l2) := ⟨h.1, h.2.1, fun a ha => h.2.2.1 a (mid_mem ha), h.2.2.2⟩
theorem RG2.same {s2 : SdM} (h : RG2 now lo1 lo2 hi s l) (h2 : s2.2 = s.2) : RG2 now lo1 lo2 hi s2 l := by
  unfold RG2 at h ⊢
  rw [h2]
  exact h
theorem RG2.only {s2 : SdM} (h : RG2 now lo1 lo2 hi s l) (h1 : s2.2.2 = s.2.2) (h2 : ∀ j v, s2.2.1 j = some v → s.2.1 j = some v) : RG2 now lo1 lo2 hi s2 l := by
  refine ⟨?_, fun j v hj hv => h.2.1 j v hj (h2 j v hv), h.2.2⟩
  rw [h1]
  exact h.1
theorem RG2.app (h : RG2 now lo1 lo2 hi s l) (hn : isA n → lo2 ≤ n.2.2.2 ∧ n.2.2.2 ≤ hi) : RG2 now lo1 lo2 hi s (l ++ [n]) := by
  refine ⟨h.1, h.2.1, fun a ha hA => ?_, h.2.2.2⟩
  rcases List.mem_append.mp ha with q | q
  · exact h.2.2.1 a q hA
  · rw [List.mem_singleton] at q
    rw [q] at hA ⊢
    exact hn hA
theorem RG2.ack (h : RG2 now lo1 lo2 hi s (l1 ++ n :: l2)) (hn : isA n) : RG2 now lo1 lo2 hi (ackM s n.2.2.2 (now / 200)) (l1 ++ l2) := by
  have hd := h.2.2.1 n (List.mem_append_right _ List.mem_cons_self) hn
  have h12 := h.2.2.2
  refine ⟨fun x hx => ?_, fun j v hj hv => ?_, fun a ha => h.2.2.1 a (mid_mem ha), h12⟩
  · have hx : x ∈ (n.2.2.2 :: s.2.2).take 4 := hx
    rcases List.mem_cons.mp (List.mem_of_mem_take hx) with q | q
    · rw [q]; omega
    · exact h.1 x q
  · have hv : (if j = now / 200 then omin (s.2.1 (now / 200)) (some n.2.2.2) else s.2.1 j) = some v := hv
    by_cases q : j = now / 200
    · rw [if_pos q] at hv
      rcases (omin_le hv).2.2 with w | w
      · rw [w]; exact hd.1
      · exact h.2.1 _ v (by omega) w
    · rw [if_neg q] at hv
      exact h.2.1 j v hj hv
/-- queueing from above: by the minutes that count alone -/
theorem q_up {d mi lo : Int} (h0 : lo ≤ d) (h2 : ∀ j v, mi - 4 ≤ j → s.2.1 j = some v → lo ≤ v) : queueM (enterM s d mi) mi ≤ d - lo := by
  have ef : (enterM s d mi).2.1 = fun j => if j = mi then omin (s.2.1 mi) (some d) else s.2.1 j := rfl
  have el : (enterM s d mi).2.2 = (d :: s.2.2).take 4 := rfl
  cases ho : omin (s.2.1 mi) (some d) with
  | none => exact absurd ho omin_ne
  | some v =>
    have hv : (enterM s d mi).2.1 mi = some v := by
      rw [ef]
      dsimp only
      rw [if_pos rfl, ho]
    obtain ⟨b, hb⟩ := base_ex hv
    have hne : (enterM s d mi).2.2 ≠ [] := by
      rw [el, List.take_succ_cons]
      simp
    obtain ⟨x, hx, hm, hl⟩ := lmin_mem hne
    have eq : queueM (enterM s d mi) mi = x - b := by
      unfold queueM
      rw [hm, hb]
      rfl
    have xd := hl d (by rw [el, List.take_succ_cons]; exact List.mem_cons_self)
    rw [eq]
    have hlo : lo ≤ b := by
      obtain ⟨j, j1, j2, j3⟩ := (base_mem hb).1
      by_cases q : j = mi
      · rw [q, hv] at j3
        have e : v = b := Option.some.inj j3
        rcases (omin_le ho).2.2 with w | w
        · omega
        · have := h2 mi v (by omega) w
          omega
      · rw [ef] at j3
        dsimp only at j3
        rw [if_neg q] at j3
        exact h2 j b j1 j3
    omega
theorem RG2.q (h : RG2 now lo1 lo2 hi s (l1 ++ n :: l2)) (hn : isA n) : lo1 - n.2.2.2 ≤ queueM (enterM s n.2.2.2 (now / 200)) (now / 200) ∧ queueM (enterM s n.2.2.2 (now / 200)) (now / 200) ≤ n.2.2.2 - lo2 ∧ lo2 ≤ n.2.2.2 ∧ n.2.2.2 ≤ hi := by
  have hd := h.2.2.1 n (List.mem_append_right _ List.mem_cons_self) hn
  have h12 := h.2.2.2
  have p := (q_range (s := s) (d := n.2.2.2) (mi := now / 200) (lo := lo1) (fun x hx => by
    rcases List.mem_cons.mp (List.mem_of_mem_take hx) with q | q
    · rw [q]; omega
    · exact h.1 x q)).1
  exact ⟨p, q_up hd.1 (fun j v hj hv => h.2.1 j v hj hv), hd⟩
end RG2S
def GB (now c dl R lo1 lo2 hi : Int) (s : SdM) (o : List Int) (l : List NtM) (g : Gh) : Prop := VM now c dl tqB T0B R s o l g ∧ RG2 now lo1 lo2 hi s l
def gPot (M kT U1 C1 Z : Int) (X : Nat) (now : Int) (v : SV) (L : List EnF) : Int := if 0 < tE v.1 (vF v) then max (sA M U1 C1 Z X (nuP now L) v.1 (vU v) (vF v)) (sB M kT U1 C1 Z X (nuP now L) v.1 (vF v)) else sA M U1 C1 Z X (nuP now L) v.1 (vU v) (vF v)
section GPT
variable {M kT U1 C1 Z now x : Int} {X : Nat} {v : SV} {L : List EnF}
theorem gP_A : sA M U1 C1 Z X (nuP now L) v.1 (vU v) (vF v) ≤ gPot M kT U1 C1 Z X now v L := by
  unfold gPot
  split <;> omega
theorem gP_B (h : 0 < tE v.1 (vF v)) : sB M kT U1 C1 Z X (nuP now L) v.1 (vF v) ≤ gPot M kT U1 C1 Z X now v L := by
  unfold gPot
  rw [if_pos h]
  omega
theorem gP_le (hA : sA M U1 C1 Z X (nuP now L) v.1 (vU v) (vF v) ≤ x) (hB : 0 < tE v.1 (vF v) → sB M kT U1 C1 Z X (nuP now L) v.1 (vF v) ≤ x) : gPot M kT U1 C1 Z X now v L ≤ x := by
  unfold gPot
  split
  · rename_i q
    have := hB q
    omega
  · exact hA
end GPT
theorem ps_f (s : SdM) (U Lf : Nat) : (s.1 5).toNat ≤ PS s U Lf := by
  by_cases q : s.1 11 = -1
  · rw [PS_n q]
    exact PB_2 _ _ _ _
  · rw [PS_s q]
    unfold PL
    have := PB_2 (wP (s.1 12)) (s.1 5).toNat U Lf
    omega
/-- what an acknowledgment brings, by its delay -/
def WTo (M kT : Int) (A : Nat) (lo2 hi : Int) (wt : Int → Nat) : Prop := ∀ d, lo2 ≤ d → d ≤ hi → A ≤ wt d ∧ 4194304 * (kT * (d - lo2)) ≤ M * ((wt d : Int) + 1)
section GBS
variable {now c dl R lo1 lo2 hi : Int} {s : SdM} {o : List Int} {l l1 l2 : List NtM} {n : NtM} {g : Gh} {K M kT U1 C1 Z : Int} {A X C3 w1 Fm : Nat}
theorem GB.lost (hP : PCg K M kT A X U1 C1 Z C3 w1 Fm) (h : GB now c dl R lo1 lo2 hi s o (l1 ++ n :: l2) g) (hn : ¬ isA n) : GB now c dl R lo1 lo2 hi (lostM s n.2.2.2) o (l1 ++ l2) g ∧ gPot M kT U1 C1 Z X now (lostM s n.2.2.2, o, l1 ++ l2) g.2.1 ≤ gPot M kT U1 C1 Z X now (s, o, l1 ++ n :: l2) g.2.1 + (if n.2.2.2 < s.1 9 then 0 else 3 * M) := by
  obtain ⟨hV, hR⟩ := h
  have hF := hV.1
  have hI := hV.2.2.2.2
  have hk := hV.2.2.2.1
  have p := (pV_lost hF hI hk hn).1
  have hl := lvl_lost (num := n.2.2.2) hI hk
  have hG := gLv_mono (X := X) hl
  have hM : 0 < M := hP.1
  have c7 := hP.2.2.2.2.2.2.2.1
  have c8 := hP.2.2.2.2.2.2.2.2.1
  refine ⟨⟨hV.lost hn, hR.lost⟩, ?_⟩
  have t0 := tE_0 s (vF (s, o, l1 ++ n :: l2))
  have t1 := tE_0 (lostM s n.2.2.2) (vF (lostM s n.2.2.2, o, l1 ++ l2))
  have ht := tE_lost hF hI hk hn
  have e5 : (lostM s n.2.2.2).1 5 = s.1 5 - 1 := lost_5
  have b0 : 0 ≤ (if n.2.2.2 < s.1 9 then 0 else 3 * M) := by split <;> omega
  refine gP_le ?_ (fun hE => ?_)
  · refine Int.le_trans ?_ (Int.add_le_add_right (gP_A (v := (s, o, l1 ++ n :: l2))) _)
    have hu := uC_ev (U1 := U1) (C1 := C1) (Z := Z) (n := nuP now g.2.1) (t := 0) (t2 := 0) (r := 0) c7 c8 (fun z => z) (show gLv X (lvl (lostM s n.2.2.2)) ≤ gLv X (lvl s) + 0 by omega)
    have huM := mulL (M := M) (by omega) hu
    unfold PV at p
    unfold sA
    dsimp only at *
    by_cases z : n.2.2.2 < s.1 9
    · rw [if_pos z] at p ⊢
      have pM := mulL (M := M) (by omega) (show (PS (lostM s n.2.2.2) (vU (lostM s n.2.2.2, o, l1 ++ l2)) (vF (lostM s n.2.2.2, o, l1 ++ l2)) : Int) ≤ (PS s (vU (s, o, l1 ++ n :: l2)) (vF (s, o, l1 ++ n :: l2)) : Int) + 0 by omega)
      omega
    · rw [if_neg z] at p ⊢
      have pM := mulL (M := M) (by omega) (show (PS (lostM s n.2.2.2) (vU (lostM s n.2.2.2, o, l1 ++ l2)) (vF (lostM s n.2.2.2, o, l1 ++ l2)) : Int) ≤ (PS s (vU (s, o, l1 ++ n :: l2)) (vF (s, o, l1 ++ n :: l2)) : Int) + 1 by omega)
      omega
  · have hE : 0 < tE (lostM s n.2.2.2) (vF (lostM s n.2.2.2, o, l1 ++ l2)) := hE
    have hE0 : 0 < tE s (vF (s, o, l1 ++ n :: l2)) := by omega
    refine Int.le_trans ?_ (Int.add_le_add_right (gP_B (v := (s, o, l1 ++ n :: l2)) hE0) _)
    have hu := uC_ev (U1 := U1) (C1 := C1) (Z := Z) (n := nuP now g.2.1) (t := tE s (vF (s, o, l1 ++ n :: l2))) (t2 := tE (lostM s n.2.2.2) (vF (lostM s n.2.2.2, o, l1 ++ l2))) (r := 0) c7 c8 (fun z => by omega) (show gLv X (lvl (lostM s n.2.2.2)) ≤ gLv X (lvl s) + 0 by omega)
    have huM := mulL (M := M) (by omega) hu
    have htk := Int.mul_le_mul_of_nonneg_left ht hP.2.1
    have eM : M * (s.1 5 - 1) = M * s.1 5 - M := by rw [Int.mul_sub, Int.mul_one]
    unfold sB
    dsimp only at *
    rw [e5, eM]
    omega
theorem GB.ack (hP : PCg K M kT A X U1 C1 Z C3 w1 Fm) (h : GB now c dl R lo1 lo2 hi s o (l1 ++ n :: l2) g) (hn : isA n) (ht : n.1 = now) (hl : ∀ a ∈ l1, now < a.1) (hr : ∀ a ∈ l2, now ≤ a.1) (hK : hi - lo1 + 1 ≤ K) (hFm : (s.1 5).toNat ≤ Fm) {wt : Int → Nat} (hW : WTo M kT A lo2 hi wt) :
    GB now c dl R lo1 lo2 hi (ackM s n.2.2.2 (now / 200)) o (l1 ++ l2) (stepG tqB T0B now s.2.1 g n) ∧ gPot M kT U1 C1 Z X now (ackM s n.2.2.2 (now / 200), o, l1 ++ l2) (stepG tqB T0B now s.2.1 g n).2.1 ≤ gPot M kT U1 C1 Z X now (s, o, l1 ++ n :: l2) g.2.1 + 3 * (M * (wt n.2.2.2 : Int)) := by
  obtain ⟨hV, hR⟩ := h
  have hF := hV.1
  have hI := hV.2.2.2.2
  have hk := hV.2.2.2.1
  have hS := hV.2.2.1
  have hst := (hV.stor hn ht).1
  have rq := hR.q hn
  have hwt := hW n.2.2.2 rq.2.2.1 rq.2.2.2
  have h12 := hR.2.2.2
  have hx := hF.x
  have hF1 := fl_mid hF
  obtain ⟨eu, ef⟩ := ack_uf (s := s) (o := o) (l1 := l1) (l2 := l2) (mi := now / 200) hn
  rw [eu, ef] at hx
  have eg : stepG tqB T0B now s.2.1 g n = (kaN tqB now g.1 n, ackL tqB T0B now n.2.2.2 g.2.1, ackF tqB T0B now s.2.1 g.2.2) := if_pos ⟨ht, hn⟩
  refine ⟨⟨hV.ack hn ht hl hr, hR.ack hn⟩, ?_⟩
  rw [eg] at hst ⊢
  dsimp only at hst ⊢
  have hM : 0 < M := hP.1
  have hn1 := nuP_ack (d := n.2.2.2) hS
  have h3 := nuP_3 (now := now) (L := g.2.1)
  have gA := gP_A (M := M) (kT := kT) (U1 := U1) (C1 := C1) (Z := Z) (X := X) (now := now) (v := (s, o, l1 ++ n :: l2)) (L := g.2.1)
  have gB := fun hE => gP_B (M := M) (kT := kT) (U1 := U1) (C1 := C1) (Z := Z) (X := X) (now := now) (v := (s, o, l1 ++ n :: l2)) (L := g.2.1) hE
  dsimp only at gA gB
  rw [eu, ef] at gA
  rw [ef] at gB
  generalize gPot M kT U1 C1 Z X now (s, o, l1 ++ n :: l2) g.2.1 = P at *
  have goal2 : sA M U1 C1 Z X (nuP now (ackL tqB T0B now n.2.2.2 g.2.1)) (ackM s n.2.2.2 (now / 200)) (vU (ackM s n.2.2.2 (now / 200), o, l1 ++ l2)) (vF (ackM s n.2.2.2 (now / 200), o, l1 ++ l2)) ≤ P + 3 * (M * (wt n.2.2.2 : Int)) ∧ (0 < tE (ackM s n.2.2.2 (now / 200)) (vF (ackM s n.2.2.2 (now / 200), o, l1 ++ l2)) → sB M kT U1 C1 Z X (nuP now (ackL tqB T0B now n.2.2.2 g.2.1)) (ackM s n.2.2.2 (now / 200)) (vF (ackM s n.2.2.2 (now / 200), o, l1 ++ l2)) ≤ P + 3 * (M * (wt n.2.2.2 : Int))) := by
    generalize vU (ackM s n.2.2.2 (now / 200), o, l1 ++ l2) = U at *
    generalize vF (ackM s n.2.2.2 (now / 200), o, l1 ++ l2) = Lf at *
    have h5 : 1 ≤ s.1 5 := by omega
    have wA : M * (A : Int) ≤ M * (wt n.2.2.2 : Int) := Int.mul_le_mul_of_nonneg_left (by have := hwt.1; omega) (by omega)
    have t0 := tE_0 s Lf
    by_cases hneg : s.1 11 = -1 ∧ queueM (enterM s n.2.2.2 (now / 200)) (now / 200) < 0
    · have hin := neg_in hS hst hneg.2
      rw [if_pos hin] at hn1
      rw [hn1] at gA gB
      refine ⟨?_, fun hE => ?_⟩
      · have k0 := negA (g := (hi - lo1).toNat) (n2 := nuP now (ackL tqB T0B now n.2.2.2 g.2.1)) hP hFm hI hk hneg.1 h5 hx hneg.2 (by omega) (by omega) (by omega)
        rcases k0 with k | ⟨kE, k⟩
        · omega
        · have := gB kE
          omega
      · have p1 := (ps_negC (g := (hi - lo1).toNat) hI hneg.1 h5 hx hneg.2 (by omega)).1
        have k0 := negB (g := (hi - lo1).toNat) (n2 := nuP now (ackL tqB T0B now n.2.2.2 g.2.1)) hP hI hneg.1 h5 hx hneg.2 (by omega) (by omega)
        have := gB (by omega)
        have : 0 ≤ M * (A : Int) := Int.mul_nonneg (by omega) (by omega)
        omega
    · have hq : s.1 11 = -1 → 0 ≤ queueM (enterM s n.2.2.2 (now / 200)) (now / 200) ∧ queueM (enterM s n.2.2.2 (now / 200)) (now / 200) ≤ (n.2.2.2 - lo2) + 1 := by
        intro z
        have : ¬ queueM (enterM s n.2.2.2 (now / 200)) (now / 200) < 0 := fun y => hneg ⟨z, y⟩
        omega
      have hA5 := hP.2.2.1
      have hX := hP.2.2.2.1
      have hA0 : 4194304 * ((0 : Int) * (n.2.2.2 - lo2)) ≤ M * ((wt n.2.2.2 : Int) + 1) := by
        rw [Int.zero_mul]
        have : 0 ≤ M * ((wt n.2.2.2 : Int) + 1) := Int.mul_nonneg (by omega) (by omega)
        omega
      have hst2 : nuP now (ackL tqB T0B now n.2.2.2 g.2.1) = nuP now g.2.1 ∧ (nuP now g.2.1 = 0 ∨ nuP now g.2.1 = 2) ∨ nuP now g.2.1 = nuP now (ackL tqB T0B now n.2.2.2 g.2.1) + 1 := by
        by_cases y : mn2 now g.2.1 < mn0 now g.2.1 ∨ mn2 now g.2.1 + 5 ≤ now / 200
        · rw [if_pos y] at hn1
          exact Or.inr hn1
        · rw [if_neg y] at hn1
          left
          refine ⟨by omega, ?_⟩
          have a1 : nuP now g.2.1 ≠ 1 := fun w => y (nuP_1 hS w)
          have a3 : nuP now g.2.1 ≠ 3 := fun w => y (nuP_3i w)
          omega
      have hc := hP.2.2.2.2.2.2
      have hu := fun (t t2 : Int) r hG => uC_ack (U1 := U1) (C1 := C1) (Z := Z) (t := t) (t2 := t2) (n := nuP now g.2.1) (n2 := nuP now (ackL tqB T0B now n.2.2.2 g.2.1)) (r := r) (G := gLv X (lvl s)) (G2 := gLv X (lvl (ackM s n.2.2.2 (now / 200)))) hc.1 hc.2.1 hc.2.2.1 hc.2.2.2.1 hst2 h3 hG
      have z1 : gLv (lvl s + lvl (ackM s n.2.2.2 (now / 200)) + 9) (lvl s) = 0 := by unfold gLv; omega
      have z2 : gLv (lvl s + lvl (ackM s n.2.2.2 (now / 200)) + 9) (lvl (ackM s n.2.2.2 (now / 200))) = 0 := by unfold gLv; omega
      -- the level's part joined to any other part
      have join : ∀ (t t2 x y : Int), x + M * (gLv X (lvl (ackM s n.2.2.2 (now / 200))) : Int) ≤ y + M * (gLv X (lvl s) : Int) → x ≤ y → x + M * uC U1 C1 Z (nuP now (ackL tqB T0B now n.2.2.2 g.2.1)) t2 (gLv X (lvl (ackM s n.2.2.2 (now / 200)))) ≤ y + M * uC U1 C1 Z (nuP now g.2.1) t (gLv X (lvl s)) := by
        intro t t2 x y j1 j2
        by_cases w : gLv X (lvl (ackM s n.2.2.2 (now / 200))) ≤ gLv X (lvl s)
        · have huM := mulL (M := M) (by omega) (hu t t2 0 (by omega))
          omega
        · have huM := mulL (M := M) (by omega) (hu t t2 (gLv X (lvl (ackM s n.2.2.2 (now / 200))) - gLv X (lvl s)) (by omega))
          have e : ((gLv X (lvl (ackM s n.2.2.2 (now / 200))) - gLv X (lvl s) : Nat) : Int) = (gLv X (lvl (ackM s n.2.2.2 (now / 200))) : Int) - (gLv X (lvl s) : Int) := by omega
          rw [e, Int.mul_sub] at huM
          omega
      refine ⟨?_, fun hE => ?_⟩
      · have k1 := ackG (d := n.2.2.2) (mi := now / 200) (X := X) (kT := 0) hI hk h5 hx hM (show 0 ≤ n.2.2.2 - lo2 by omega) (show 5 ≤ wt n.2.2.2 by omega) (by omega) (Int.le_refl 0) hA0 hq
        have k2 := ackG (d := n.2.2.2) (mi := now / 200) (X := lvl s + lvl (ackM s n.2.2.2 (now / 200)) + 9) (kT := 0) hI hk h5 hx hM (show 0 ≤ n.2.2.2 - lo2 by omega) (show 5 ≤ wt n.2.2.2 by omega) (by omega) (Int.le_refl 0) hA0 hq
        rw [z1, z2] at k2
        rw [Int.zero_mul, Int.zero_mul] at k1 k2
        have := join 0 0 (3 * (M * (PS (ackM s n.2.2.2 (now / 200)) U Lf : Int))) (3 * (M * (PS s (U + 1) Lf : Int)) + 3 * (M * (wt n.2.2.2 : Int))) (by omega) (by omega)
        unfold sA at gA ⊢
        omega
      · have k1 := ackB (d := n.2.2.2) (mi := now / 200) (X := X) hI hk h5 hM (show 0 ≤ n.2.2.2 - lo2 by omega) (show 5 ≤ wt n.2.2.2 by omega) (by omega) hP.2.1 hwt.2 hq hE
        have k2 := ackB (d := n.2.2.2) (mi := now / 200) (X := lvl s + lvl (ackM s n.2.2.2 (now / 200)) + 9) hI hk h5 hM (show 0 ≤ n.2.2.2 - lo2 by omega) (show 5 ≤ wt n.2.2.2 by omega) (by omega) hP.2.1 hwt.2 hq hE
        rw [z1, z2] at k2
        have e5 : (ackM s n.2.2.2 (now / 200)).1 5 = s.1 5 - 1 := ack_5
        by_cases hE0 : 0 < tE s Lf
        · have gB := gB hE0
          have := join (tE s Lf) (tE (ackM s n.2.2.2 (now / 200)) Lf) (3 * (M * (s.1 5 - 1)) + 3 * (kT * tE (ackM s n.2.2.2 (now / 200)) Lf)) (3 * (M * s.1 5) + 3 * (kT * tE s Lf) + 3 * (M * (wt n.2.2.2 : Int))) (by omega) (by omega)
          unfold sB at gB ⊢
          rw [e5]
          omega
        · have ez : tE s Lf = 0 := by omega
          have pf := ps_f s (U + 1) Lf
          have pfM : M * s.1 5 ≤ M * (PS s (U + 1) Lf : Int) := Int.mul_le_mul_of_nonneg_left (by omega) (by omega)
          rw [ez, Int.mul_zero] at k1 k2
          have := join 0 (tE (ackM s n.2.2.2 (now / 200)) Lf) (3 * (M * (s.1 5 - 1)) + 3 * (kT * tE (ackM s n.2.2.2 (now / 200)) Lf)) (3 * (M * s.1 5) + 3 * (M * (wt n.2.2.2 : Int))) (by omega) (by omega)
          unfold sA at gA
          unfold sB
          rw [e5]
          omega
  exact gP_le goal2.1 goal2.2
end GBS
section GBE
variable {now c dl R lo1 lo2 hi : Int} {s : SdM} {o : List Int} {l : List NtM} {g : Gh} {K M kT U1 C1 Z : Int} {A X C3 w1 Fm : Nat}
theorem GB.snd {k : Nat} {b : Bool} {ar : Int} (hP : PCg K M kT A X U1 C1 Z C3 w1 Fm) (h : GB now c dl R lo1 lo2 hi s o l g) (hw : wantsM s) : GB now c dl R lo1 lo2 hi (snd1 now ar k b (s, o, l)).1 (snd1 now ar k b (s, o, l)).2.1 (snd1 now ar k b (s, o, l)).2.2 g ∧ gPot M kT U1 C1 Z X now (snd1 now ar k b (s, o, l)) g.2.1 + 3 * M ≤ gPot M kT U1 C1 Z X now (s, o, l) g.2.1 := by
  obtain ⟨hV, hR⟩ := h
  have hI := hV.2.2.2.2
  have hk := hV.2.2.2.1
  have p := (pV_snd1 (now := now) (ar := ar) (k := k) (b := b) hV.1 hk hw).1
  have hM : 0 < M := hP.1
  refine ⟨⟨hV.snd hw, ?_⟩, ?_⟩
  · cases b with
    | true => exact hR.same rfl
    | false => exact RG2.app (hR.same (s2 := sentM s) rfl) (fun z => absurd z (show ¬ (1 : Int) = 0 by decide))
  · have h5 : 0 ≤ s.1 5 := by
      have := hI
      unfold sdB at this
      omega
    have t1 : tE (snd1 now ar k b (s, o, l)).1 (vF (snd1 now ar k b (s, o, l))) = 0 := tE_sent hk hw h5
    have hl : gLv X (lvl (sentM s)) ≤ gLv X (lvl s) + 0 := by
      have hX := hP.2.2.2.1
      have e11 : (sentM s).1 11 = s.1 11 := sent_o (by decide) (by decide)
      have e4 : (sentM s).1 4 = s.1 4 := sent_o (by decide) (by decide)
      have e12 : (sentM s).1 12 = s.1 12 := sent_o (by decide) (by decide)
      have em : mW (sentM s) = mW s := by unfold mW; rw [e11, e4, e12]
      have h2 := hw.2
      have : lvl (sentM s) ≤ max (lvl s) 2 := by
        unfold lvl
        rw [em, sent_5]
        by_cases q : s.1 11 = -1
        · rw [mW_n q]
          unfold wP
          omega
        · have := (hk q).1
          omega
      unfold gLv
      omega
    have key : gPot M kT U1 C1 Z X now (snd1 now ar k b (s, o, l)) g.2.1 ≤ gPot M kT U1 C1 Z X now (s, o, l) g.2.1 - 3 * M := by
      refine gP_le ?_ (fun hE => by omega)
      have gA := gP_A (M := M) (kT := kT) (U1 := U1) (C1 := C1) (Z := Z) (X := X) (now := now) (v := (s, o, l)) (L := g.2.1)
      have hu := uC_ev (U1 := U1) (C1 := C1) (Z := Z) (n := nuP now g.2.1) (t := 0) (t2 := 0) (r := 0) hP.2.2.2.2.2.2.2.1 hP.2.2.2.2.2.2.2.2.1 (fun z => z) hl
      have huM := mulL (M := M) (by omega) hu
      have pM := mulL (M := M) (by omega) (show (PV (snd1 now ar k b (s, o, l)) : Int) ≤ (PV (s, o, l) : Int) + (-1) by omega)
      have es : (snd1 now ar k b (s, o, l)).1 = sentM s := rfl
      unfold PV at pM
      unfold sA at gA ⊢
      rw [es] at pM ⊢
      dsimp only at *
      omega
    omega
theorem GB.fin {k : Nat} {z : Bool} {fw bk : Int} (h : GB now c dl R lo1 lo2 hi s o l g) (hz : z = true → o ≠ []) (hc : c = bk - s.1 2) (hd : dl = fw + s.1 2) (hR : R = fw + bk) (hr : z = true → ∀ x t, o = x :: t → lo2 ≤ now + fw - x + s.1 2 ∧ now + fw - x + s.1 2 ≤ hi) : GB now c dl R lo1 lo2 hi (finV (now + fw) (now + fw + bk) k z (s, o, l)).1 (finV (now + fw) (now + fw + bk) k z (s, o, l)).2.1 (finV (now + fw) (now + fw + bk) k z (s, o, l)).2.2 g ∧ gPot M kT U1 C1 Z X now (finV (now + fw) (now + fw + bk) k z (s, o, l)) g.2.1 = gPot M kT U1 C1 Z X now (s, o, l) g.2.1 := by
  have hV2 := VM.fin (k := k) (z := z) h.1 hz hc hd hR
  cases z with
  | false => exact ⟨h, rfl⟩
  | true =>
    cases ho : o with
    | nil => exact absurd ho (hz rfl)
    | cons x t =>
      rw [ho] at hV2 h
      have ef := fin_t (du := now + fw) (ar := now + fw + bk) (k := k) (x := x) (t := t) (v := (s, x :: t, l)) rfl
      rw [ef] at hV2 ⊢
      refine ⟨⟨hV2, RG2.app h.2 (fun _ => hr rfl x t ho)⟩, ?_⟩
      have e2 : vF (s, t, l ++ [(now + fw + bk, k, 0, now + fw - x + s.1 2)]) = vF (s, x :: t, l) := by
        show lFl (s.1 9) (l ++ [(now + fw + bk, k, 0, now + fw - x + s.1 2)]) = lFl (s.1 9) l
        rw [lFl_app, if_neg (fun w => w.1 rfl)]
        rfl
      have e3 : vU (s, t, l ++ [(now + fw + bk, k, 0, now + fw - x + s.1 2)]) = vU (s, x :: t, l) := by
        show t.length + aNl (l ++ [(now + fw + bk, k, 0, now + fw - x + s.1 2)]) = (x :: t).length + aNl l
        rw [aNl_app, if_pos rfl, List.length_cons]
        omega
      unfold gPot
      rw [e2, e3]
theorem GB.ends (hP : PCg K M kT A X U1 C1 Z C3 w1 Fm) (h : GB now c dl R lo1 lo2 hi s o l g) : GB now c dl R lo1 lo2 hi (endsM s now) o l g ∧ gPot M kT U1 C1 Z X now (endsM s now, o, l) g.2.1 ≤ gPot M kT U1 C1 Z X now (s, o, l) g.2.1 := by
  obtain ⟨hV, hR⟩ := h
  have hk := hV.2.2.2.1
  have hM : 0 < M := hP.1
  have ev : vF (endsM s now, o, l) = vF (s, o, l) := by
    show lFl ((endsM s now).1 9) l = lFl (s.1 9) l
    rw [ends_o (by decide) (by decide) (by decide)]
  refine ⟨⟨hV.ends, RG2.only hR ?_ ?_⟩, ?_⟩
  · unfold endsM
    split
    · rfl
    · split <;> rfl
  · intro j v hj
    unfold endsM at hj
    split at hj
    · exact hj
    · split at hj
      · exact hj
      · exact only_sub hj
  · have p : PS (endsM s now) (vU (s, o, l)) (vF (s, o, l)) ≤ PS s (vU (s, o, l)) (vF (s, o, l)) := (ps_ends hk).1
    have e5 : (endsM s now).1 5 = s.1 5 := ends_o (by decide) (by decide) (by decide)
    have el : lvl (endsM s now) = lvl s := by
      unfold lvl
      rw [mW_ends, e5]
    have pM := mulL (M := M) (by omega) (show (PS (endsM s now) (vU (s, o, l)) (vF (s, o, l)) : Int) ≤ (PS s (vU (s, o, l)) (vF (s, o, l)) : Int) + 0 by omega)
    refine gP_le ?_ (fun hE => ?_)
    · have gA := gP_A (M := M) (kT := kT) (U1 := U1) (C1 := C1) (Z := Z) (X := X) (now := now) (v := (s, o, l)) (L := g.2.1)
      have eu : vU (endsM s now, o, l) = vU (s, o, l) := rfl
      rw [ev, eu]
      unfold sA at gA ⊢
      dsimp only at *
      rw [el]
      omega
    · rw [ev] at hE ⊢
      dsimp only at hE ⊢
      rw [tE_ends] at hE
      have gB := gP_B (M := M) (kT := kT) (U1 := U1) (C1 := C1) (Z := Z) (X := X) (now := now) (v := (s, o, l)) (L := g.2.1) hE
      unfold sB at gB ⊢
      dsimp only at *
      rw [tE_ends, el, e5]
      omega
theorem GB.begins {iv : Int} (hP : PCg K M kT A X U1 C1 Z C3 w1 Fm) (h : GB now c dl R lo1 lo2 hi s o l g) (h0 : 0 ≤ now) : GB now c dl R lo1 lo2 hi (beginsM s now iv) o l g ∧ gPot M kT U1 C1 Z X now (beginsM s now iv, o, l) g.2.1 ≤ gPot M kT U1 C1 Z X now (s, o, l) g.2.1 + 3 * (M * (bgN s now iv : Int)) := by
  obtain ⟨hV, hR⟩ := h
  have hk := hV.2.2.2.1
  have hI := hV.2.2.2.2
  have hM : 0 < M := hP.1
  have ev : vF (beginsM s now iv, o, l) = vF (s, o, l) := by
    show lFl ((beginsM s now iv).1 9) l = lFl (s.1 9) l
    rw [begins_o (by decide) (by decide) (by decide)]
  refine ⟨⟨hV.begins h0, RG2.same hR ?_⟩, ?_⟩
  · unfold beginsM
    split <;> rfl
  · have p : PS (beginsM s now iv) (vU (s, o, l)) (vF (s, o, l)) ≤ PS s (vU (s, o, l)) (vF (s, o, l)) + bgN s now iv := (ps_begins hI h0 hk).1
    have e5 : (beginsM s now iv).1 5 = s.1 5 := begins_o (by decide) (by decide) (by decide)
    have el : lvl (beginsM s now iv) = lvl s := by
      unfold lvl
      rw [mW_begins h0, e5]
    have b0 : 0 ≤ M * (bgN s now iv : Int) := Int.mul_nonneg (by omega) (by omega)
    have pM := mulL (M := M) (by omega) (show (PS (beginsM s now iv) (vU (s, o, l)) (vF (s, o, l)) : Int) ≤ (PS s (vU (s, o, l)) (vF (s, o, l)) : Int) + (bgN s now iv : Int) by omega)
    refine gP_le ?_ (fun hE => ?_)
    · have gA := gP_A (M := M) (kT := kT) (U1 := U1) (C1 := C1) (Z := Z) (X := X) (now := now) (v := (s, o, l)) (L := g.2.1)
      have eu : vU (beginsM s now iv, o, l) = vU (s, o, l) := rfl
      rw [ev, eu]
      unfold sA at gA ⊢
      dsimp only at *
      rw [el]
      omega
    · rw [ev] at hE ⊢
      dsimp only at hE ⊢
      rw [tE_begins h0] at hE
      have gB := gP_B (M := M) (kT := kT) (U1 := U1) (C1 := C1) (Z := Z) (X := X) (now := now) (v := (s, o, l)) (L := g.2.1) hE
      unfold sB at gB ⊢
      dsimp only at *
      rw [tE_begins h0, el, e5]
      omega
theorem GB.nxt (hP : PCg K M kT A X U1 C1 Z C3 w1 Fm) (h : GB now c dl R lo1 lo2 hi s o l g) : GB (now + 1) c dl R lo1 lo2 hi s o l g ∧ gPot M kT U1 C1 Z X (now + 1) (s, o, l) g.2.1 ≤ gPot M kT U1 C1 Z X now (s, o, l) g.2.1 + M * Z * ((now + 1) / 200 - now / 200) := by
  obtain ⟨hV, hR⟩ := h
  have hM : 0 < M := hP.1
  have hc := hP.2.2.2.2.2.2
  refine ⟨⟨hV.nxt, hR.nxt⟩, ?_⟩
  have hn := nuP_nxt hV.2.2.1
  have h3 := nuP_3 (now := now) (L := g.2.1)
  have h3' := nuP_3 (now := now + 1) (L := g.2.1)
  have gA := gP_A (M := M) (kT := kT) (U1 := U1) (C1 := C1) (Z := Z) (X := X) (now := now) (v := (s, o, l)) (L := g.2.1)
  by_cases q : (now + 1) / 200 = now / 200
  · have e2 : nuP (now + 1) g.2.1 = nuP now g.2.1 := by
      unfold nuP
      have c0 : mn0 (now + 1) g.2.1 = mn0 now g.2.1 := by
        unfold mn0
        split <;> first | rfl | exact q
      have c1 : mn1 (now + 1) g.2.1 = mn1 now g.2.1 := by
        unfold mn1
        split <;> first | rfl | exact q
      have c2 : mn2 (now + 1) g.2.1 = mn2 now g.2.1 := by
        unfold mn2
        split <;> first | rfl | exact q
      rw [c0, c1, c2, q]
    have e3 : gPot M kT U1 C1 Z X (now + 1) (s, o, l) g.2.1 = gPot M kT U1 C1 Z X now (s, o, l) g.2.1 := by
      unfold gPot
      rw [e2]
    rw [e3, q, Int.sub_self, Int.mul_zero]
    omega
  · have q1 : (now + 1) / 200 - now / 200 = 1 := by omega
    rw [q1, Int.mul_one]
    have hu := fun t : Int => uC_min (U1 := U1) (C1 := C1) (Z := Z) (t := t) (n := nuP now g.2.1) (n2 := nuP (now + 1) g.2.1) (G := gLv X (lvl s)) hc.1 hc.2.1 hc.2.2.1 hc.2.2.2.1 h3 (by omega) h3'
    refine gP_le ?_ (fun hE => ?_)
    · have huM := mulL (M := M) (by omega) (hu 0)
      unfold sA at gA ⊢
      dsimp only at *
      omega
    · have gB := gP_B (M := M) (kT := kT) (U1 := U1) (C1 := C1) (Z := Z) (X := X) (now := now) (v := (s, o, l)) (L := g.2.1) hE
      have huM := mulL (M := M) (by omega) (hu (tE s (vF (s, o, l))))
      unfold sB at gB ⊢
      dsimp only at *
      omega
end GBE
