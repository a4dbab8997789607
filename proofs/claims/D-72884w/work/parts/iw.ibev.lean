/-! Bounds: the other events of regime B -/
section IBE
variable {now c dl tq T0 R : Int} {s : SdM} {o : List Int} {l l1 l2 : List NtM} {n : NtM} {g : Gh} {j : GJ}
theorem lost_11 {num : Int} : (lostM s num).1 11 = s.1 11 := by
  by_cases z : num < s.1 9
  · rw [lost_s z]; simp [iup]
  · rw [lost_f z]; simp [iup]
theorem IB.lost (h : IB now c dl tq T0 R s o (l1 ++ n :: l2) g j) (hn : ¬ isA n) : IB now c dl tq T0 R (lostM s n.2.2.2) o (l1 ++ l2) g j ∧ PF now (lostM s n.2.2.2) o (l1 ++ l2) g j ≤ PF now s o (l1 ++ n :: l2) g j + (if n.2.2.2 < s.1 9 then 0 else 5) := by
  obtain ⟨hV, hJ, hSL, hND, hTS, hw, hFA, hcc⟩ := h
  have hF := hV.1
  have hI := hV.2.2.2.2
  have hk := hV.2.2.2.1
  have e2 : (lostM s n.2.2.2).2 = s.2 := rfl
  refine ⟨⟨hV.lost hn, hJ.lost hF hI hk hn, ?_, ?_, hTS, hw, ?_, ?_⟩, ?_⟩
  · intro z
    have z : (lostM s n.2.2.2).1 11 ≠ -1 := z
    rw [lost_11] at z
    show (lostM s n.2.2.2).1 5 ≤ 2 ∨ lsB (l1 ++ l2) ((lostM s n.2.2.2).1 11)
    rw [lost_11, lost_5]
    rcases hSL z with q | q
    · left
      have q : s.1 5 ≤ 2 := q
      omega
    · right
      exact q.sub (fun a ha => mid_mem ha)
  · rw [e2]; exact hND
  · rw [e2]; exact hFA
  · rw [lost_11, e2]; exact hcc
  · unfold PF
    have := (pV_lost hF hI hk hn).1
    split at this
    · rw [if_pos (by assumption)]
      omega
    · rw [if_neg (by assumption)]
      omega
theorem IB.snd {k : Nat} {b : Bool} {ar : Int} (h : IB now c dl tq T0 R s o l g j) (hw : wantsM s) : IB now c dl tq T0 R (snd1 now ar k b (s, o, l)).1 (snd1 now ar k b (s, o, l)).2.1 (snd1 now ar k b (s, o, l)).2.2 g (0, 0, now, 0, j.2.2.2.2.1, j.2.2.2.2.2) ∧ PF now (snd1 now ar k b (s, o, l)).1 (snd1 now ar k b (s, o, l)).2.1 (snd1 now ar k b (s, o, l)).2.2 g (0, 0, now, 0, j.2.2.2.2.1, j.2.2.2.2.2) + 5 ≤ PF now s o l g j := by
  obtain ⟨hV, hJ, hSL, hND, hTS, hcl, hFA, hcc⟩ := h
  have p := pV_snd1 (now := now) (ar := ar) (k := k) (b := b) hV.1 hV.2.2.2.1 hw
  refine ⟨⟨hV.snd hw, fun _ => Or.inl ⟨rfl, p.2.1⟩, ?_, hND, hTS, hcl, hFA, fun _ z => ?_⟩, ?_⟩
  · intro z
    have z : (sentM s).1 11 ≠ -1 := z
    rw [sent_o (by decide) (by decide)] at z
    left
    show (sentM s).1 5 ≤ 2
    rw [sent_5]
    have a := (hV.2.2.2.1 z).1
    have b := hw.2
    omega
  · exact absurd z (by dsimp only; omega)
  · unfold PF
    have p1 := p.1
    have p1 : PV ((snd1 now ar k b (s, o, l)).1, (snd1 now ar k b (s, o, l)).2.1, (snd1 now ar k b (s, o, l)).2.2) + 1 ≤ PV (s, o, l) := p1
    dsimp only at *
    omega
theorem IB.fin {k : Nat} {z : Bool} {fw bk : Int} (h : IB now c dl tq T0 R s o l g j) (hz : z = true → o ≠ []) (hc : c = bk - s.1 2) (hd : dl = fw + s.1 2) (hR : R = fw + bk) : IB now c dl tq T0 R (finV (now + fw) (now + fw + bk) k z (s, o, l)).1 (finV (now + fw) (now + fw + bk) k z (s, o, l)).2.1 (finV (now + fw) (now + fw + bk) k z (s, o, l)).2.2 g j ∧ PF now (finV (now + fw) (now + fw + bk) k z (s, o, l)).1 (finV (now + fw) (now + fw + bk) k z (s, o, l)).2.1 (finV (now + fw) (now + fw + bk) k z (s, o, l)).2.2 g j = PF now s o l g j := by
  have hV2 := VM.fin (k := k) (z := z) h.1 hz hc hd hR
  have p := pV_fin (du := now + fw) (ar := now + fw + bk) (k := k) (z := z) h.1.1 hz
  obtain ⟨hV, hJ, hSL, hND, hTS, hcl, hFA, hcc⟩ := h
  cases z with
  | false => exact ⟨⟨hV, hJ, hSL, hND, hTS, hcl, hFA, hcc⟩, rfl⟩
  | true =>
    cases ho : o with
    | nil => exact absurd ho (hz rfl)
    | cons x t =>
      rw [ho] at hV hJ hSL p hV2
      rw [fin_t (v := (s, x :: t, l)) rfl] at p hV2 ⊢
      have hA : isA ((now + fw + bk, k, 0, now + fw - x + s.1 2) : NtM) := rfl
      refine ⟨⟨hV2, ?_, ?_, hND, hTS, hcl, hFA, hcc⟩, ?_⟩
      · intro hs
        rcases hJ hs with ⟨h1, h2⟩ | ⟨h1, h2, h3⟩
        · exact Or.inl ⟨h1, p.2.2.2 h2⟩
        · refine Or.inr ⟨h1, h2.app hA, ?_⟩
          rcases h3 with h3 | h3
          · exact Or.inl (p.2.2.2 h3)
          · right
            have ef : vF (s, t, l ++ [((now + fw + bk, k, 0, now + fw - x + s.1 2) : NtM)]) = vF (s, x :: t, l) := by
              show lFl (s.1 9) (l ++ [((now + fw + bk, k, 0, now + fw - x + s.1 2) : NtM)]) = lFl (s.1 9) l
              rw [lFl_app, if_neg (fun z => z.1 rfl)]
              rfl
            show JD s (vF (s, t, l ++ [((now + fw + bk, k, 0, now + fw - x + s.1 2) : NtM)])) j.1
            rw [ef]
            exact h3
      · intro hs
        rcases hSL hs with q | q
        · exact Or.inl q
        · exact Or.inr (q.app hA)
      · unfold PF
        have := p.1
        dsimp only at this ⊢
        rw [this]
/-- a slow-down's end -/
theorem IB.ends (h : IB now c dl tq T0 R s o l g j) (hp : ∀ n ∈ l, now < n.1) : ∃ j2, IB now c dl tq T0 R (endsM s now) o l g j2 ∧ PF now (endsM s now) o l g j2 ≤ PF now s o l g j := by
  have hV2 := h.1.ends
  obtain ⟨hV, hJ, hSL, hND, hTS, hcl, hFA, hcc⟩ := h
  have hps := (ps_ends (tk := now) (U := vU (s, o, l)) (Lf := vF (s, o, l)) hV.2.2.2.1).1
  have e9 : (endsM s now).1 9 = s.1 9 := ends_o (by decide) (by decide) (by decide)
  have e5 : (endsM s now).1 5 = s.1 5 := ends_o (by decide) (by decide) (by decide)
  have hPV : PV (endsM s now, o, l) ≤ PV (s, o, l) := by
    unfold PV
    have ef : vF (endsM s now, o, l) = vF (s, o, l) := by
      show lFl ((endsM s now).1 9) l = lFl (s.1 9) l
      rw [e9]
    rw [ef]
    exact hps
  have same : endsM s now = s → ∃ j2, IB now c dl tq T0 R (endsM s now) o l g j2 ∧ PF now (endsM s now) o l g j2 ≤ PF now s o l g j := by
    intro e
    rw [e]
    exact ⟨j, ⟨hV, hJ, hSL, hND, hTS, hcl, hFA, hcc⟩, Int.le_refl _⟩
  by_cases q : s.1 11 = -1
  · exact same (by unfold endsM; rw [if_pos q])
  · by_cases q2 : now < s.1 11
    · exact same (by unfold endsM; rw [if_neg q, if_pos q2])
    · have ee : endsM s now = (iup (iup (iup s.1 4 (s.1 12)) 11 (-1)) 10 now, onlyM s.2.1 (now / 200), s.2.2) := by
        unfold endsM
        rw [if_neg q, if_neg q2]
      have e11 : (endsM s now).1 11 = -1 := by
        rw [ee]
        simp [iup]
      have hjv : JV (endsM s now, o, l) := by
        have f0 := hV.1.1
        have f0 : s.1 5 = ((o.length + l.length : Nat) : Int) := f0
        unfold JV JS JB
        left
        show ((endsM s now).1 5).toNat ≤ o.length + aNl l + 2
        rw [e5]
        rcases hSL q with z | z
        · have z : s.1 5 ≤ 2 := z
          omega
        · have := aNl_all (l := l) (fun a ha => by
            apply Decidable.byContradiction
            intro y
            have z1 : a.1 ≤ s.1 11 := z a ha y
            have := hp a ha
            omega)
          omega
      refine ⟨(0, 0, now, 0, j.2.2.2.2.1, j.2.2.2.2.2), ⟨hV2, fun _ => Or.inl ⟨rfl, hjv⟩, fun z => absurd e11 z, ?_, hTS, hcl, ?_, fun _ z => absurd z (by dsimp only; omega)⟩, ?_⟩
      · rw [ee]
        exact hND.only hV.2.2.1
      · rw [ee]
        intro i v hi
        have hi : onlyM s.2.1 (now / 200) i = some v := hi
        unfold onlyM at hi
        split at hi
        · dsimp only at hi
          split at hi
          · exact hFA i v hi
          · cases hi
        · exact hFA i v hi
      · unfold PF
        dsimp only
        omega
/-- a slow-down begins -/
theorem IB.begins {iv : Int} (h : IB now c dl tq T0 R s o l g j) (h0 : 0 ≤ now) (hP : lsB l (now - 1 + R)) (hR : R ≤ 60) : IB now c dl tq T0 R (beginsM s now iv) o l g j ∧ PF now (beginsM s now iv) o l g j ≤ PF now s o l g j + 5 * bgN s now iv := by
  have hV2 := h.1.begins (iv := iv) h0
  obtain ⟨hV, hJ, hSL, hND, hTS, hcl, hFA, hcc⟩ := h
  have hps := (ps_begins (tk := now) (iv := iv) (U := vU (s, o, l)) (Lf := vF (s, o, l)) hV.2.2.2.2 h0 hV.2.2.2.1).1
  have e9 : (beginsM s now iv).1 9 = s.1 9 := begins_o (by decide) (by decide) (by decide)
  have hPV : PV (beginsM s now iv, o, l) ≤ PV (s, o, l) + bgN s now iv := by
    unfold PV
    have ef : vF (beginsM s now iv, o, l) = vF (s, o, l) := by
      show lFl ((beginsM s now iv).1 9) l = lFl (s.1 9) l
      rw [e9]
    rw [ef]
    exact hps
  have hPF : PF now (beginsM s now iv) o l g j ≤ PF now s o l g j + 5 * bgN s now iv := by
    unfold PF
    omega
  refine ⟨?_, hPF⟩
  by_cases q : 0 < iv ∧ s.1 3 ≠ 0 ∧ s.1 11 = -1 ∧ iv ≤ now - s.1 10
  · have ee : beginsM s now iv = (iup (iup (iup s.1 12 (s.1 4)) 4 512) 11 (now + 60), s.2) := by
      unfold beginsM
      rw [if_pos q]
    have e11 : (beginsM s now iv).1 11 = now + 60 := by
      rw [ee]
      simp [iup]
    have hne : (beginsM s now iv).1 11 ≠ -1 := by omega
    refine ⟨hV2, fun z => absurd z hne, fun _ => Or.inr ?_, ?_, hTS, hcl, ?_, fun z => absurd z hne⟩
    · intro a ha hA
      have := hP a ha hA
      show a.1 ≤ (beginsM s now iv).1 11
      omega
    · rw [ee]; exact hND
    · rw [ee]; exact hFA
  · have ee : beginsM s now iv = s := by
      unfold beginsM
      rw [if_neg q]
    rw [ee]
    exact ⟨hV, hJ, hSL, hND, hTS, hcl, hFA, hcc⟩
/-- a tick more -/
theorem Gf_nxt {L : List EnF} {b1 b2 : Bool} : Gf (now + 1) L b1 b2 ≤ Gf now L b1 b2 + 2 + 400 * ((now + 1) / 200 - now / 200) := by
  unfold Gf
  match L with
  | [] =>
    show gG (now + 1, (now + 1) / 200) (now + 1, (now + 1) / 200) (now + 1, (now + 1) / 200) (now + 1, (now + 1) / 200) b1 b2 ≤ gG (now, now / 200) (now, now / 200) (now, now / 200) (now, now / 200) b1 b2 + 2 + _
    have z : ∀ a : Pt, gG a a a a b1 b2 = 0 := by
      intro a
      have hA : ∀ q, gA a a q = 0 := by
        intro q
        unfold gA
        rw [gU_0]
        have := gR_c a a
        split <;> omega
      unfold gG
      rw [gU_0, hA, hA]
      split <;> rfl
    rw [z, z]
    omega
  | [a] => exact Int.le_of_eq gG_tick
  | [a, b] => exact Int.le_of_eq gG_tick
  | a :: b :: d :: M => exact Int.le_of_eq gG_tick
theorem IB.nxt (h : IB now c dl tq T0 R s o l g j) : IB (now + 1) c dl tq T0 R s o l g j ∧ PF (now + 1) s o l g j ≤ PF now s o l g j + 2 + 400 * ((now + 1) / 200 - now / 200) := by
  obtain ⟨hV, hJ, hSL, hND, hTS, hcl, hFA, hcc⟩ := h
  refine ⟨⟨hV.nxt, hJ, hSL, hND, hTS.nxt, hcl, hFA, fun h1 h2 => ?_⟩, ?_⟩
  · obtain ⟨c1, c2, c3, c4, c5, c6, c7⟩ := hcc h1 h2
    exact ⟨c1, by omega, c3, c4, by omega, c6, c7⟩
  · unfold PF
    have := Gf_nxt (now := now) (L := g.2.1) (b1 := j.2.2.2.2.1) (b2 := j.2.2.2.2.2)
    omega
end IBE
