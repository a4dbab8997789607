/-! Bounds, mode C: the other events of a view -/
theorem mW_ends {s : SdM} {tk : Int} : mW (endsM s tk) = mW s := by
  unfold mW endsM
  by_cases q : s.1 11 = -1
  · rw [if_pos q]
  · rw [if_neg q]
    by_cases q2 : tk < s.1 11
    · rw [if_pos q2]
    · rw [if_neg q2]
      have a : (iup (iup (iup s.1 4 (s.1 12)) 11 (-1)) 10 tk) 11 = -1 := by simp [iup]
      have b : (iup (iup (iup s.1 4 (s.1 12)) 11 (-1)) 10 tk) 4 = s.1 12 := by simp [iup]
      dsimp only
      rw [if_pos a, b, if_neg q]
theorem mW_begins {s : SdM} {tk iv : Int} (h0 : 0 ≤ tk) : mW (beginsM s tk iv) = mW s := by
  unfold mW beginsM
  split
  · rename_i q
    have a : (iup (iup (iup s.1 12 (s.1 4)) 4 512) 11 (tk + 60)) 11 = tk + 60 := by simp [iup]
    have b : (iup (iup (iup s.1 12 (s.1 4)) 4 512) 11 (tk + 60)) 12 = s.1 4 := by simp [iup]
    dsimp only
    rw [if_neg (show ¬ (iup (iup (iup s.1 12 (s.1 4)) 4 512) 11 (tk + 60)) 11 = -1 by rw [a]; omega), b, if_pos q.2.2.1]
  · rfl
theorem only_sub {f : Int → Option Int} {mi j v : Int} (h : onlyM f mi j = some v) : f j = some v := by
  unfold onlyM at h
  by_cases q : (f mi).isSome = true
  · rw [if_pos q] at h
    have h : (if j = mi then f j else none) = some v := h
    by_cases z : j = mi
    · rw [if_pos z] at h; exact h
    · rw [if_neg z] at h; cases h
  · rw [if_neg q] at h
    exact h
section CBE
variable {now c dl R lo hi : Int} {s : SdM} {o : List Int} {l : List NtM} {g : Gh} {K M U1 C1 Z : Int} {A X C3 w1 : Nat}
theorem CB.snd {k : Nat} {b : Bool} {ar : Int} (hP : PCs K M A X U1 C1 Z C3 w1) (h : CB now c dl R lo hi s o l g) (hw : wantsM s) : CB now c dl R lo hi (snd1 now ar k b (s, o, l)).1 (snd1 now ar k b (s, o, l)).2.1 (snd1 now ar k b (s, o, l)).2.2 g ∧ cPot M U1 C1 Z X now (snd1 now ar k b (s, o, l)) g.2.1 + 3 * M ≤ cPot M U1 C1 Z X now (s, o, l) g.2.1 := by
  obtain ⟨hV, hR⟩ := h
  have hI := hV.2.2.2.2
  have hk := hV.2.2.2.1
  have p := (pV_snd1 (now := now) (ar := ar) (k := k) (b := b) hV.1 hk hw).1
  have hM : 0 < M := hP.1
  refine ⟨⟨hV.snd hw, ?_⟩, ?_⟩
  · cases b with
    | true => exact hR.same rfl
    | false => exact RG.app (hR.same (s2 := sentM s) rfl) (fun z => absurd z (show ¬ (1 : Int) = 0 by decide))
  · have h5 : 0 ≤ s.1 5 := by
      have := hI
      unfold sdB at this
      omega
    have es : (snd1 now ar k b (s, o, l)).1 = sentM s := rfl
    have t1 : tE (snd1 now ar k b (s, o, l)).1 (vF (snd1 now ar k b (s, o, l))) = 0 := tE_sent hk hw h5
    have t0 := tE_0 s (vF (s, o, l))
    have hl : gLv X (lvl (sentM s)) ≤ gLv X (lvl s) + 0 := by
      have hX := hP.2.2.1
      have e11 : (sentM s).1 11 = s.1 11 := sent_o (by decide) (by decide)
      have e4 : (sentM s).1 4 = s.1 4 := sent_o (by decide) (by decide)
      have e12 : (sentM s).1 12 = s.1 12 := sent_o (by decide) (by decide)
      have em : mW (sentM s) = mW s := by unfold mW; rw [e11, e4, e12]
      have h2 := hw.2
      have : lvl (sentM s) ≤ max (lvl s) 2 := by
        unfold lvl
        rw [em, sent_5]
        by_cases q : s.1 11 = -1
        · rw [mW_n q]
          unfold wP
          omega
        · have := (hk q).1
          omega
      unfold gLv
      omega
    have hu := uC_ev (U1 := U1) (C1 := C1) (Z := Z) (n := nuP now g.2.1) (t := tE s (vF (s, o, l))) (t2 := tE (snd1 now ar k b (s, o, l)).1 (vF (snd1 now ar k b (s, o, l)))) (r := 0) hP.2.2.2.2.2.2.1 hP.2.2.2.2.2.2.2.1 (fun _ => t1) hl
    have huM := mulL (M := M) (by omega) hu
    have pM := mulL (M := M) (by omega) (show (PV (snd1 now ar k b (s, o, l)) : Int) ≤ (PV (s, o, l) : Int) + (-1) by omega)
    unfold cPot
    rw [t1] at huM ⊢
    rw [es]
    dsimp only at *
    omega
theorem CB.fin {k : Nat} {z : Bool} {fw bk : Int} (h : CB now c dl R lo hi s o l g) (hz : z = true → o ≠ []) (hc : c = bk - s.1 2) (hd : dl = fw + s.1 2) (hR : R = fw + bk) (hr : z = true → ∀ x t, o = x :: t → lo ≤ now + fw - x + s.1 2 ∧ now + fw - x + s.1 2 ≤ hi) : CB now c dl R lo hi (finV (now + fw) (now + fw + bk) k z (s, o, l)).1 (finV (now + fw) (now + fw + bk) k z (s, o, l)).2.1 (finV (now + fw) (now + fw + bk) k z (s, o, l)).2.2 g ∧ cPot M U1 C1 Z X now (finV (now + fw) (now + fw + bk) k z (s, o, l)) g.2.1 = cPot M U1 C1 Z X now (s, o, l) g.2.1 := by
  have hV2 := VM.fin (k := k) (z := z) h.1 hz hc hd hR
  have p := pV_fin (du := now + fw) (ar := now + fw + bk) (k := k) (z := z) h.1.1 hz
  cases z with
  | false => exact ⟨h, rfl⟩
  | true =>
    cases ho : o with
    | nil => exact absurd ho (hz rfl)
    | cons x t =>
      rw [ho] at hV2 p h
      have ef := fin_t (du := now + fw) (ar := now + fw + bk) (k := k) (x := x) (t := t) (v := (s, x :: t, l)) rfl
      rw [ef] at hV2 p ⊢
      refine ⟨⟨hV2, RG.app h.2 (fun _ => hr rfl x t ho)⟩, ?_⟩
      have e1 : PV (s, t, l ++ [(now + fw + bk, k, 0, now + fw - x + s.1 2)]) = PV (s, x :: t, l) := p.1
      have e2 : vF (s, t, l ++ [(now + fw + bk, k, 0, now + fw - x + s.1 2)]) = vF (s, x :: t, l) := by
        show lFl (s.1 9) (l ++ [(now + fw + bk, k, 0, now + fw - x + s.1 2)]) = lFl (s.1 9) l
        rw [lFl_app, if_neg (fun w => w.1 rfl)]
        rfl
      unfold cPot
      dsimp only
      rw [e1, e2]
theorem CB.ends (hP : PCs K M A X U1 C1 Z C3 w1) (h : CB now c dl R lo hi s o l g) : CB now c dl R lo hi (endsM s now) o l g ∧ cPot M U1 C1 Z X now (endsM s now, o, l) g.2.1 ≤ cPot M U1 C1 Z X now (s, o, l) g.2.1 := by
  obtain ⟨hV, hR⟩ := h
  have hk := hV.2.2.2.1
  have hM : 0 < M := hP.1
  have ev : vF (endsM s now, o, l) = vF (s, o, l) := by
    show lFl ((endsM s now).1 9) l = lFl (s.1 9) l
    rw [ends_o (by decide) (by decide) (by decide)]
  refine ⟨⟨hV.ends, RG.only hR ?_ ?_⟩, ?_⟩
  · unfold endsM
    split
    · rfl
    · split <;> rfl
  · intro j v hj
    unfold endsM at hj
    split at hj
    · exact hj
    · split at hj
      · exact hj
      · exact only_sub hj
  · have p : PS (endsM s now) (vU (s, o, l)) (vF (s, o, l)) ≤ PS s (vU (s, o, l)) (vF (s, o, l)) := (ps_ends hk).1
    have p2 : PV (endsM s now, o, l) ≤ PV (s, o, l) := by
      show PS (endsM s now) (vU (s, o, l)) (vF (endsM s now, o, l)) ≤ PS s (vU (s, o, l)) (vF (s, o, l))
      rw [ev]
      exact p
    have el : lvl (endsM s now) = lvl s := by
      unfold lvl
      rw [mW_ends, ends_o (k := 5) (by decide) (by decide) (by decide)]
    have pM := mulL (M := M) (by omega) (show (PV (endsM s now, o, l) : Int) ≤ (PV (s, o, l) : Int) + 0 by omega)
    unfold cPot
    dsimp only
    rw [ev, tE_ends, el]
    omega
theorem CB.begins {iv : Int} (hP : PCs K M A X U1 C1 Z C3 w1) (h : CB now c dl R lo hi s o l g) (h0 : 0 ≤ now) : CB now c dl R lo hi (beginsM s now iv) o l g ∧ cPot M U1 C1 Z X now (beginsM s now iv, o, l) g.2.1 ≤ cPot M U1 C1 Z X now (s, o, l) g.2.1 + 3 * (M * (bgN s now iv : Int)) := by
  obtain ⟨hV, hR⟩ := h
  have hk := hV.2.2.2.1
  have hI := hV.2.2.2.2
  have hM : 0 < M := hP.1
  have ev : vF (beginsM s now iv, o, l) = vF (s, o, l) := by
    show lFl ((beginsM s now iv).1 9) l = lFl (s.1 9) l
    rw [begins_o (by decide) (by decide) (by decide)]
  refine ⟨⟨hV.begins h0, RG.same hR ?_⟩, ?_⟩
  · unfold beginsM
    split <;> rfl
  · have p : PS (beginsM s now iv) (vU (s, o, l)) (vF (s, o, l)) ≤ PS s (vU (s, o, l)) (vF (s, o, l)) + bgN s now iv := (ps_begins hI h0 hk).1
    have p2 : PV (beginsM s now iv, o, l) ≤ PV (s, o, l) + bgN s now iv := by
      show PS (beginsM s now iv) (vU (s, o, l)) (vF (beginsM s now iv, o, l)) ≤ PS s (vU (s, o, l)) (vF (s, o, l)) + _
      rw [ev]
      exact p
    have el : lvl (beginsM s now iv) = lvl s := by
      unfold lvl
      rw [mW_begins h0, begins_o (k := 5) (by decide) (by decide) (by decide)]
    have pM := mulL (M := M) (by omega) (show (PV (beginsM s now iv, o, l) : Int) ≤ (PV (s, o, l) : Int) + (bgN s now iv : Int) by omega)
    unfold cPot
    dsimp only
    rw [ev, tE_begins h0, el]
    omega
theorem CB.nxt (hP : PCs K M A X U1 C1 Z C3 w1) (h : CB now c dl R lo hi s o l g) : CB (now + 1) c dl R lo hi s o l g ∧ cPot M U1 C1 Z X (now + 1) (s, o, l) g.2.1 ≤ cPot M U1 C1 Z X now (s, o, l) g.2.1 + M * Z * ((now + 1) / 200 - now / 200) := by
  obtain ⟨hV, hR⟩ := h
  have hM : 0 < M := hP.1
  have hc := hP.2.2.2.2.2
  refine ⟨⟨hV.nxt, hR.nxt⟩, ?_⟩
  have hn := nuP_nxt hV.2.2.1
  have h3 := nuP_3 (now := now) (L := g.2.1)
  have h3' := nuP_3 (now := now + 1) (L := g.2.1)
  unfold cPot
  by_cases q : (now + 1) / 200 = now / 200
  · have e : nuP (now + 1) g.2.1 ≤ nuP now g.2.1 := by omega
    have e2 : nuP (now + 1) g.2.1 = nuP now g.2.1 := by
      unfold nuP
      have c0 : mn0 (now + 1) g.2.1 = mn0 now g.2.1 := by
        unfold mn0
        split <;> first | rfl | exact q
      have c1 : mn1 (now + 1) g.2.1 = mn1 now g.2.1 := by
        unfold mn1
        split <;> first | rfl | exact q
      have c2 : mn2 (now + 1) g.2.1 = mn2 now g.2.1 := by
        unfold mn2
        split <;> first | rfl | exact q
      rw [c0, c1, c2, q]
    rw [e2, q, Int.sub_self, Int.mul_zero]
    omega
  · have q1 : (now + 1) / 200 - now / 200 = 1 := by omega
    rw [q1, Int.mul_one]
    have hu := uC_min (U1 := U1) (C1 := C1) (Z := Z) (t := tE s (vF (s, o, l))) (n := nuP now g.2.1) (n2 := nuP (now + 1) g.2.1) (G := gLv X (lvl s)) hc.1 hc.2.1 hc.2.2.1 hc.2.2.2.1 h3 (by omega) h3'
    have huM := mulL (M := M) (by omega) hu
    dsimp only at *
    omega
end CBE
