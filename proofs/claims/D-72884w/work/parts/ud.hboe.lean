/-! Bounds, mode H from a setTimes on: the other events, a tick's notices, packets sent -/
section HBOE
variable {now c dl R lo lw hi n0 w wf r tz : Int} {q : Int → Int} {pw : Int → List EnF → Int} {s : SdM} {o : List Int} {l l1 l2 : List NtM} {n : NtM} {g : Gh} {j : GJh}
theorem ob_lost {num : Int} (h6 : n0 ≤ s.1 6) : obN n0 (lostM s num) ≤ obN n0 s - (if num < s.1 9 then 0 else if num < n0 then 13 else 0) := by
  unfold obN
  by_cases z : num < s.1 9
  · rw [if_pos z, lost_9s z]
    omega
  · rw [if_neg z, lost_9f z, if_neg (show ¬ s.1 6 < n0 by omega)]
    by_cases y : num < n0
    · rw [if_pos y, if_pos (show s.1 9 < n0 by omega)]
      omega
    · rw [if_neg y]
      split <;> omega
theorem HBo.lost (h : HBo now c dl R lo lw hi q n0 s o (l1 ++ n :: l2) g j) (hn : ¬ isA n) : HBo now c dl R lo lw hi q n0 (lostM s n.2.2.2) o (l1 ++ l2) g j ∧ hPo pw n0 now (lostM s n.2.2.2, o, l1 ++ l2) g.2.1 ≤ hPo pw n0 now (s, o, l1 ++ n :: l2) g.2.1 + (if n.2.2.2 < s.1 9 then 0 else 1) := by
  obtain ⟨⟨hV, hR⟩, hJ, hSL, hND, hcc, h6, hLQ, hlw⟩ := h
  have hF := hV.1
  have hI := hV.2.2.2.2
  have hk := hV.2.2.2.1
  have e2 : (lostM s n.2.2.2).2 = s.2 := rfl
  refine ⟨⟨⟨hV.lost hn, hR.lost⟩, hJ.lost hF hI hk hn, ?_, ?_, ?_, ?_, hLQ.lost, hlw⟩, ?_⟩
  · intro z
    have z : (lostM s n.2.2.2).1 11 ≠ -1 := z
    rw [lost_11] at z
    show fwN n0 (l1 ++ l2) ∨ lsN n0 (l1 ++ l2) ((lostM s n.2.2.2).1 11)
    rw [lost_11]
    rcases hSL z with q | q
    · exact Or.inl (fwN_mid q)
    · exact Or.inr (q.sub (fun a ha => mid_mem ha))
  · rw [e2]; exact hND
  · rw [lost_11, e2]; exact hcc
  · rw [lost_6]; exact h6
  · unfold hPo
    have a := pVo_lost (n0 := n0) hF hI hk hn
    have b := ob_lost (num := n.2.2.2) h6
    dsimp only at a b ⊢
    by_cases z : n.2.2.2 < s.1 9
    · rw [if_pos z] at a b ⊢
      omega
    · rw [if_neg z] at a b ⊢
      by_cases y : n.2.2.2 < n0
      · rw [if_pos y] at a b
        omega
      · rw [if_neg y] at a b
        omega
theorem HBo.snd {k : Nat} {b : Bool} {ar : Int} (h : HBo now c dl R lo lw hi q n0 s o l g j) (hw : wantsM s) : HBo now c dl R lo lw hi q n0 (snd1 now ar k b (s, o, l)).1 (snd1 now ar k b (s, o, l)).2.1 (snd1 now ar k b (s, o, l)).2.2 g (0, 0, now, 0) ∧ hPo pw n0 now (snd1 now ar k b (s, o, l)) g.2.1 + 1 ≤ hPo pw n0 now (s, o, l) g.2.1 := by
  obtain ⟨⟨hV, hR⟩, hJ, hSL, hND, hcc, h6, hLQ, hlw⟩ := h
  have hI := hV.2.2.2.2
  have hk := hV.2.2.2.1
  have hI2 := hI
  unfold sdB at hI2
  have p := pVo_snd1 (n0 := n0) (now := now) (ar := ar) (k := k) (b := b) hV.1 hk hw h6
  have es : (snd1 now ar k b (s, o, l)).1 = sentM s := by
    cases b <;> rfl
  refine ⟨⟨⟨hV.snd hw, ?_⟩, ?_, ?_, ?_, fun _ z => ?_, ?_, ?_, hlw⟩, ?_⟩
  · cases b with
    | true => exact hR.same rfl
    | false => exact RG2.app (hR.same (s2 := sentM s) rfl) (fun z => absurd z (show ¬ (1 : Int) = 0 by decide))
  · intro _
    refine Or.inl ⟨rfl, Or.inr ?_⟩
    show tE (snd1 now ar k b (s, o, l)).1 (vF (snd1 now ar k b (s, o, l))) = 0
    rw [es]
    exact tE_sent hk hw hI2.2.2.2.1
  · intro z
    have z : (snd1 now ar k b (s, o, l)).1.1 11 ≠ -1 := z
    rw [es, sent_o (by decide) (by decide)] at z
    left
    refine fwN_2 (hV.snd (k := k) (b := b) (ar := ar) hw).1 ?_
    show (snd1 now ar k b (s, o, l)).1.1 5 ≤ 2
    rw [es, sent_5]
    have a := (hk z).1
    have b := hw.2
    omega
  · rw [es]; exact hND
  · exact absurd z (by dsimp only; omega)
  · rw [es, sent_6]
    omega
  · cases b with
    | true => exact hLQ.same rfl
    | false => exact LQ3.app (hLQ.same (s2 := sentM s) rfl) (fun z => absurd z (show ¬ (1 : Int) = 0 by decide))
  · unfold hPo
    have e9 : obN n0 (snd1 now ar k b (s, o, l)).1 = obN n0 s := by
      unfold obN
      rw [es, sent_o (by decide) (by decide)]
    dsimp only at e9 p ⊢
    rw [e9]
    omega
theorem HBo.fin {k : Nat} {z : Bool} {fw bk : Int} (h : HBo now c dl R lo lw hi q n0 s o l g j) (hz : z = true → o ≠ []) (hc : c = bk - s.1 2) (hd : dl = fw + s.1 2) (hR : R = fw + bk) (hr : z = true → ∀ x t, o = x :: t → lo ≤ now + fw - x + s.1 2 ∧ now + fw - x + s.1 2 ≤ hi) : HBo now c dl R lo lw hi q n0 (finV (now + fw) (now + fw + bk) k z (s, o, l)).1 (finV (now + fw) (now + fw + bk) k z (s, o, l)).2.1 (finV (now + fw) (now + fw + bk) k z (s, o, l)).2.2 g j ∧ hPo pw n0 now (finV (now + fw) (now + fw + bk) k z (s, o, l)) g.2.1 = hPo pw n0 now (s, o, l) g.2.1 := by
  have hG2 := GB.fin (M := 1) (kT := 0) (U1 := 0) (C1 := 2) (Z := 4) (X := 40) (k := k) (z := z) h.1 hz hc hd hR (fun y x t e => ⟨by have := (hr y x t e).1; have := h.2.2.2.2.2.2.2; omega, (hr y x t e).2⟩)
  have p := pVo_fin (n0 := n0) (du := now + fw) (ar := now + fw + bk) (k := k) (z := z) (v := (s, o, l)) hz
  obtain ⟨hG, hJ, hSL, hND, hcc, h6, hLQ, hlw⟩ := h
  refine ⟨?_, ?_⟩
  · cases z with
    | false => exact ⟨hG2.1, hJ, hSL, hND, hcc, h6, hLQ, hlw⟩
    | true =>
      cases ho : o with
      | nil => exact absurd ho (hz rfl)
      | cons x t =>
        rw [ho] at hJ hSL hG2
        have hG2 := hG2.1
        rw [fin_t (v := (s, x :: t, l)) rfl] at hG2 ⊢
        have hA : isA ((now + fw + bk, k, 0, now + fw - x + s.1 2) : NtM) := rfl
        refine ⟨hG2, ?_, ?_, hND, hcc, h6, LQ3.app hLQ (fun _ => hr rfl x t ho), hlw⟩
        · intro hs
          have ef : vF (s, t, l ++ [((now + fw + bk, k, 0, now + fw - x + s.1 2) : NtM)]) = vF (s, x :: t, l) := by
            show lFl (s.1 9) (l ++ [((now + fw + bk, k, 0, now + fw - x + s.1 2) : NtM)]) = lFl (s.1 9) l
            rw [lFl_app, if_neg (fun z => z.1 rfl)]
            rfl
          rcases hJ hs with ⟨h1, h2⟩ | ⟨h1, h2, h3⟩
          · refine Or.inl ⟨h1, ?_⟩
            rcases h2 with y | y
            · exact Or.inl (fwN_app y hA)
            · right
              show tE s (vF (s, t, l ++ [((now + fw + bk, k, 0, now + fw - x + s.1 2) : NtM)])) = 0
              rw [ef]
              exact y
          · refine Or.inr ⟨h1, h2.app hA, ?_⟩
            rcases h3 with y | y
            · exact Or.inl (fwN_app y hA)
            · right
              show tE s (vF (s, t, l ++ [((now + fw + bk, k, 0, now + fw - x + s.1 2) : NtM)])) ≤ _
              rw [ef]
              exact y
        · intro hs
          rcases hSL hs with y | y
          · exact Or.inl (fwN_app y hA)
          · exact Or.inr (y.app hA)
  · unfold hPo
    rw [p, fin_s]
/-- a slow-down's end -/
theorem HBo.ends (h : HBo now c dl R lo lw hi q n0 s o l g j) (hp : ∀ n ∈ l, now < n.1) : ∃ j2, HBo now c dl R lo lw hi q n0 (endsM s now) o l g j2 ∧ hPo pw n0 now (endsM s now, o, l) g.2.1 ≤ hPo pw n0 now (s, o, l) g.2.1 := by
  obtain ⟨⟨hV, hR⟩, hJ, hSL, hND, hcc, h6, hLQ, hlw⟩ := h
  have hV2 := hV.ends
  have e9 : (endsM s now).1 9 = s.1 9 := ends_o (by decide) (by decide) (by decide)
  have hPV : PVo n0 (endsM s now, o, l) ≤ PVo n0 (s, o, l) := pVo_ends hV.2.2.2.1
  have hob : obN n0 (endsM s now) = obN n0 s := by
    unfold obN
    rw [e9]
  have h6b : n0 ≤ (endsM s now).1 6 := by
    rw [ends_o (by decide) (by decide) (by decide)]
    exact h6
  have hR2 : RG2 now lw lw hi (endsM s now) l := by
    refine RG2.only hR ?_ ?_
    · unfold endsM
      split
      · rfl
      · split <;> rfl
    · intro i v hi
      unfold endsM at hi
      split at hi
      · exact hi
      · split at hi
        · exact hi
        · exact only_sub hi
  have same : endsM s now = s → ∃ j2, HBo now c dl R lo lw hi q n0 (endsM s now) o l g j2 ∧ hPo pw n0 now (endsM s now, o, l) g.2.1 ≤ hPo pw n0 now (s, o, l) g.2.1 := by
    intro e
    rw [e]
    exact ⟨j, ⟨⟨hV, hR⟩, hJ, hSL, hND, hcc, h6, hLQ, hlw⟩, Int.le_refl _⟩
  by_cases q1 : s.1 11 = -1
  · exact same (by unfold endsM; rw [if_pos q1])
  · by_cases q2 : now < s.1 11
    · exact same (by unfold endsM; rw [if_neg q1, if_pos q2])
    · have ee : endsM s now = (iup (iup (iup s.1 4 (s.1 12)) 11 (-1)) 10 now, onlyM s.2.1 (now / 200), s.2.2) := by
        unfold endsM
        rw [if_neg q1, if_neg q2]
      have e11 : (endsM s now).1 11 = -1 := by
        rw [ee]
        simp [iup]
      have hfew : fwN n0 l := by
        rcases hSL q1 with z | z
        · exact z
        · refine fwN_none (fun a ha y y2 => ?_)
          have z1 : a.1 ≤ s.1 11 := z a ha y y2
          have := hp a ha
          omega
      refine ⟨(0, 0, now, 0), ⟨⟨hV2, hR2⟩, fun _ => Or.inl ⟨rfl, Or.inl hfew⟩, fun z => absurd e11 z, ?_, fun _ z => absurd z (by dsimp only; omega), h6b, hLQ.ends, hlw⟩, ?_⟩
      · rw [ee]
        exact hND.only hV.2.2.1
      · unfold hPo
        dsimp only
        rw [hob]
        omega
/-- a slow-down begins -/
theorem HBo.begins {iv : Int} (h : HBo now c dl R lo lw hi q n0 s o l g j) (h0 : 0 ≤ now) (hP : lsN n0 l (now - 1 + R)) (hR : R ≤ 60) : HBo now c dl R lo lw hi q n0 (beginsM s now iv) o l g j ∧ hPo pw n0 now (beginsM s now iv, o, l) g.2.1 ≤ hPo pw n0 now (s, o, l) g.2.1 + bgN s now iv := by
  obtain ⟨⟨hV, hRg⟩, hJ, hSL, hND, hcc, h6, hLQ, hlw⟩ := h
  have hV2 := hV.begins (iv := iv) h0
  have e9 : (beginsM s now iv).1 9 = s.1 9 := begins_o (by decide) (by decide) (by decide)
  have hPV := pVo_begins (n0 := n0) (o := o) (l := l) (iv := iv) hV.2.2.2.2 h0 hV.2.2.2.1
  have hob : obN n0 (beginsM s now iv) = obN n0 s := by
    unfold obN
    rw [e9]
  have hPF : hPo pw n0 now (beginsM s now iv, o, l) g.2.1 ≤ hPo pw n0 now (s, o, l) g.2.1 + bgN s now iv := by
    unfold hPo
    dsimp only
    rw [hob]
    omega
  refine ⟨?_, hPF⟩
  by_cases q1 : 0 < iv ∧ s.1 3 ≠ 0 ∧ s.1 11 = -1 ∧ iv ≤ now - s.1 10
  · have ee : beginsM s now iv = (iup (iup (iup s.1 12 (s.1 4)) 4 512) 11 (now + 60), s.2) := by
      unfold beginsM
      rw [if_pos q1]
    have e11 : (beginsM s now iv).1 11 = now + 60 := by
      rw [ee]
      simp [iup]
    have hne : (beginsM s now iv).1 11 ≠ -1 := by omega
    refine ⟨⟨hV2, hRg.same (by rw [ee])⟩, fun z => absurd z hne, fun _ => Or.inr ?_, ?_, fun z => absurd z hne, ?_, hLQ.begins, hlw⟩
    · intro a ha hA hz
      have := hP a ha hA hz
      show a.1 ≤ (beginsM s now iv).1 11
      omega
    · rw [ee]; exact hND
    · rw [begins_o (by decide) (by decide) (by decide)]
      exact h6
  · have ee : beginsM s now iv = s := by
      unfold beginsM
      rw [if_neg q1]
    rw [ee]
    exact ⟨⟨hV, hRg⟩, hJ, hSL, hND, hcc, h6, hLQ, hlw⟩
theorem HBo.nxt (h : HBo now c dl R lo lw hi q n0 s o l g j) (hpw : PWk pw w wf r tz) (htE : now < tz) : HBo (now + 1) c dl R lo lw hi q n0 s o l g j ∧ hPo pw n0 (now + 1) (s, o, l) g.2.1 ≤ hPo pw n0 now (s, o, l) g.2.1 + r * ((now + 1) / 200 - now / 200) := by
  obtain ⟨⟨hV, hR⟩, hJ, hSL, hND, hcc, h6, hLQ, hlw⟩ := h
  refine ⟨⟨⟨hV.nxt, hR.nxt⟩, hJ, hSL, hND, fun h1 h2 => ?_, h6, hLQ, hlw⟩, ?_⟩
  · obtain ⟨c1, c2, c3, c4, c5⟩ := hcc h1 h2
    exact ⟨c1, by omega, c3, c4, by omega⟩
  · have b := hpw.2 _ _ _ _ _ _ _ _ hV.2.2.1 htE
    unfold hPo
    omega
end HBOE
/-- with 5 for each acknowledgment on its way -/
def hPHo (pw : Int → List EnF → Int) (n0 now : Int) (s : SdM) (o : List Int) (l : List NtM) (g : Gh) : Int := hPo pw n0 now (s, o, l) g.2.1 + 5 * (aNl l : Int)
section HBOT
variable {now c dl R lo lw hi q1 qn n0 K w wf r tz : Int} {q : Int → Int} {pw : Int → List EnF → Int} {o : List Int} {X X2 C w1 : Nat}
theorem HBo.hnd (hP : PHo K qn X X2 C w1 w wf) (hpw : PWk pw w wf r tz) (htz : now ≤ tz) (hK : hi - lo + 1 ≤ K) (hQ : QF q now q1 qn) (hq : hi - lw ≤ q1) (hR : R ≤ 60) (hnow : now ≤ tqB) : ∀ (t ks : List NtM) (s : SdM) (g : Gh) (j : GJh), HBo now c dl R lo lw hi q n0 s o (ks ++ t) g j → (∀ a ∈ ks, now < a.1) → (∀ a ∈ t, now ≤ a.1) → lsN n0 (ks ++ t) (now + R) →
    ∃ g2 j2, HBo now c dl R lo lw hi q n0 (t.foldl (hndS now) s) o (ks ++ t.filter (fun n => decide (n.1 ≠ now))) g2 j2 ∧ hPHo pw n0 now (t.foldl (hndS now) s) o (ks ++ t.filter (fun n => decide (n.1 ≠ now))) g2 ≤ hPHo pw n0 now s o (ks ++ t) g + (frN now s t : Int) ∧ g2.1 = g.1 := by
  intro t
  induction t with
  | nil =>
    intro ks s g j h _ _ _
    refine ⟨g, j, h, ?_, rfl⟩
    show hPHo pw n0 now s o (ks ++ []) g ≤ hPHo pw n0 now s o (ks ++ []) g + ((0 : Nat) : Int)
    omega
  | cons n t ih =>
    intro ks s g j h hks ht hl
    rw [List.foldl_cons]
    have ef : frN now s (n :: t) = (if n.1 = now ∧ ¬ isA n ∧ ¬ n.2.2.2 < s.1 9 then 1 else 0) + frN now (hndS now s n) t := rfl
    rw [ef]
    have ht2 : ∀ a ∈ t, now ≤ a.1 := fun a ha => ht a (List.mem_cons_of_mem _ ha)
    by_cases e : n.1 = now
    · rw [List.filter_cons_of_neg (by simp [e])]
      have eh : hndS now s n = reachM s n.2.2.1 n.2.2.2 (now / 200) := if_pos e
      have hl2 : lsN n0 (ks ++ t) (now + R) := hl.sub (fun a ha => mid_mem ha)
      by_cases z : isA n
      · have er : reachM s n.2.2.1 n.2.2.2 (now / 200) = ackM s n.2.2.2 (now / 200) := if_pos z
        rw [eh, er]
        obtain ⟨j2, h2, p2⟩ := h.ack hP hpw htz z e hks ht2 hl2 hK hQ hq hR
        have k1 : (stepG tqB T0B now s.2.1 g n).1 = g.1 := by
          unfold stepG
          rw [if_pos ⟨e, z⟩]
          show kaN tqB now g.1 n = g.1
          unfold kaN
          rw [if_neg (fun y => by have := y.2.2; omega)]
        obtain ⟨g3, j3, h3, p3, k3⟩ := ih ks _ _ j2 h2 hks ht2 hl2
        refine ⟨g3, j3, h3, ?_, k3.trans k1⟩
        have ea : aNl (ks ++ n :: t) = aNl (ks ++ t) + 1 := by
          have z : n.2.2.1 = 0 := z
          rw [aNl_mid, if_pos z]
        have hn0 : ¬ (n.1 = now ∧ ¬ isA n ∧ ¬ n.2.2.2 < s.1 9) := fun y => y.2.1 z
        rw [if_neg hn0]
        have a1 : hPHo pw n0 now s o (ks ++ n :: t) g = hPo pw n0 now (s, o, ks ++ n :: t) g.2.1 + 5 * (aNl (ks ++ n :: t) : Int) := rfl
        have a2 : hPHo pw n0 now (ackM s n.2.2.2 (now / 200)) o (ks ++ t) (stepG tqB T0B now s.2.1 g n) = hPo pw n0 now (ackM s n.2.2.2 (now / 200), o, ks ++ t) (stepG tqB T0B now s.2.1 g n).2.1 + 5 * (aNl (ks ++ t) : Int) := rfl
        rw [ea] at a1
        omega
      · have er : reachM s n.2.2.1 n.2.2.2 (now / 200) = lostM s n.2.2.2 := if_neg z
        rw [eh, er]
        obtain ⟨h2, p2⟩ := h.lost (pw := pw) z
        obtain ⟨g3, j3, h3, p3, k3⟩ := ih ks _ _ j h2 hks ht2 hl2
        refine ⟨g3, j3, h3, ?_, k3⟩
        have ea : aNl (ks ++ n :: t) = aNl (ks ++ t) := by
          have z : ¬ n.2.2.1 = 0 := z
          rw [aNl_mid, if_neg z]
          rfl
        have a1 : hPHo pw n0 now s o (ks ++ n :: t) g = hPo pw n0 now (s, o, ks ++ n :: t) g.2.1 + 5 * (aNl (ks ++ n :: t) : Int) := rfl
        have a2 : hPHo pw n0 now (lostM s n.2.2.2) o (ks ++ t) g = hPo pw n0 now (lostM s n.2.2.2, o, ks ++ t) g.2.1 + 5 * (aNl (ks ++ t) : Int) := rfl
        rw [ea] at a1
        by_cases y : n.2.2.2 < s.1 9
        · rw [if_pos y] at p2
          rw [if_neg (fun w => w.2.2 y)]
          omega
        · rw [if_neg y] at p2
          rw [if_pos ⟨e, z, y⟩]
          omega
    · rw [List.filter_cons_of_pos (by simp [e])]
      have eh : hndS now s n = s := if_neg e
      rw [eh, if_neg (fun y => e y.1)]
      have el : ks ++ n :: t = (ks ++ [n]) ++ t := by simp
      have el2 : ks ++ n :: t.filter (fun n => decide (n.1 ≠ now)) = (ks ++ [n]) ++ t.filter (fun n => decide (n.1 ≠ now)) := by simp
      rw [el] at h hl
      rw [el, el2]
      have hn := ht n List.mem_cons_self
      obtain ⟨g3, j3, h3, p3, k3⟩ := ih (ks ++ [n]) s g j h (fun a ha => by
        rcases List.mem_append.mp ha with w | w
        · exact hks a w
        · rw [List.mem_singleton] at w
          rw [w]
          omega) ht2 hl
      exact ⟨g3, j3, h3, by omega, k3⟩
/-- packets sent -/
theorem HBo.snds {k : Nat} {ar : Int} : ∀ (bs : List Bool) (s : SdM) (o : List Int) (l : List NtM) (g : Gh) (j : GJh), HBo now c dl R lo lw hi q n0 s o l g j → sndOK now ar k bs (s, o, l) → ∃ j2, HBo now c dl R lo lw hi q n0 (sndV now ar k bs (s, o, l)).1 (sndV now ar k bs (s, o, l)).2.1 (sndV now ar k bs (s, o, l)).2.2 g j2 ∧ hPHo pw n0 now (sndV now ar k bs (s, o, l)).1 (sndV now ar k bs (s, o, l)).2.1 (sndV now ar k bs (s, o, l)).2.2 g + (bs.length : Int) ≤ hPHo pw n0 now s o l g := by
  intro bs
  induction bs with
  | nil =>
    intro s o l g j h _
    refine ⟨j, h, ?_⟩
    show hPHo pw n0 now s o l g + ((0 : Nat) : Int) ≤ _
    omega
  | cons b bs ih =>
    intro s o l g j h ho
    obtain ⟨hw, ho⟩ := ho
    obtain ⟨h2, p2⟩ := h.snd (k := k) (b := b) (ar := ar) (pw := pw) hw
    obtain ⟨j3, h3, p3⟩ := ih _ _ _ g _ h2 ho
    refine ⟨j3, h3, ?_⟩
    have ea : aNl (snd1 now ar k b (s, o, l)).2.2 = aNl l := by
      cases b with
      | true => rfl
      | false =>
        show aNl (l ++ [(ar, k, 1, s.1 6)]) = aNl l
        rw [aNl_app, if_neg (show ¬ (1 : Int) = 0 by decide)]
        rfl
    have a1 : hPHo pw n0 now s o l g = hPo pw n0 now (s, o, l) g.2.1 + 5 * (aNl l : Int) := rfl
    have a2 : hPHo pw n0 now (snd1 now ar k b (s, o, l)).1 (snd1 now ar k b (s, o, l)).2.1 (snd1 now ar k b (s, o, l)).2.2 g = hPo pw n0 now (snd1 now ar k b (s, o, l)) g.2.1 + 5 * (aNl (snd1 now ar k b (s, o, l)).2.2 : Int) := rfl
    rw [ea] at a2
    have p3 : hPHo pw n0 now (sndV now ar k (b :: bs) (s, o, l)).1 (sndV now ar k (b :: bs) (s, o, l)).2.1 (sndV now ar k (b :: bs) (s, o, l)).2.2 g + (bs.length : Int) ≤ hPHo pw n0 now (snd1 now ar k b (s, o, l)).1 (snd1 now ar k b (s, o, l)).2.1 (snd1 now ar k b (s, o, l)).2.2 g := p3
    rw [List.length_cons]
    omega
end HBOT
