/-! Bounds, mode H with credit for acknowledgments that raise a level (64 packets or more): they cost 3 packets alone -/
/-- the price gives 3 + cg back for an acknowledgment at a level of 32 packets or more -/
def PF5 (pf : PFt) (AW : Int → Int → Prop) (tz cg : Int) : Prop := ∀ (c : Nat) (now ka tq T0 d : Int) (L : List EnF) (fa : Int → Int) (f : Int → Option Int) (la : List Int) (z z2 : Int) (a : Nat), SF now ka tq T0 L fa f la → now ≤ tz → (∀ e ∈ L, AW e.1 e.2.2) → AW now d → 8192 ≤ z → z2 ≤ z + 65 → pf (c + 1) now (ackL tq T0 now d L) z2 a + (3 + cg) ≤ pf c now L z (a + 1)
theorem grw_neg {F now : Int} {s : SdM} {n : NtM} (h : queueM (enterM s n.2.2.2 (now / 200)) (now / 200) < 0) : grw F now s n = 0 := if_neg (fun y => by have := y.2.2.2.1; omega)
section HBDA2
variable {AW : Int → Int → Prop} {now c dl R lo lw hi q1 qn qh n0 r ts tz F cg : Int} {Ks ws whs wfs : Nat → Int} {N : Nat} {om : Int → Int} {q : Int → Int} {pf pg : PFt} {s : SdM} {o : List Int} {l l1 l2 : List NtM} {n : NtM} {g : Gh} {j : GJh}
theorem HBd.ackG (hN : ∀ i, i < N → NQ (Ks i) qn qh (ws i) (whs i) (wfs i)) (hN0 : 0 < N) (hqh : qn ≤ 2 * qh) (hpf : PFd pf pg AW Ks ws whs wfs N r om ts tz) (hp5 : PF5 pf AW tz cg) (hFF : 16384 ≤ F) (htz : now ≤ tz) (h : HBd AW now c dl R lo lw hi q n0 s o (l1 ++ n :: l2) g j) (hn : isA n) (ht : n.1 = now) (hl : ∀ a ∈ l1, now < a.1) (hr : ∀ a ∈ l2, now ≤ a.1) (hlp : lsN n0 (l1 ++ l2) (now + R)) (hQ : QF q now q1 qn) (hq : hi - lw ≤ q1) (hR : R ≤ 60) :
    ∃ j2, HBd AW now c dl R lo lw hi q n0 (ackM s n.2.2.2 (now / 200)) o (l1 ++ l2) (stepG tqB T0B now s.2.1 g n) j2 ∧ hPq pf n0 now j2.1 (ackM s n.2.2.2 (now / 200), o, l1 ++ l2) (stepG tqB T0B now s.2.1 g n).2.1 + cg * (grw F now s n : Int) ≤ hPq pf n0 now j.1 (s, o, l1 ++ n :: l2) g.2.1 := by
  obtain ⟨hH, hA⟩ := h
  have hV := hH.1.1
  have hF := hV.1
  have hI := hV.2.2.2.2
  have hS0 := hV.2.2.1
  have hn0 : n.2.2.1 = 0 := hn
  have hst := hV.stor hn ht
  have eg0 : stepG tqB T0B now s.2.1 g n = (kaN tqB now g.1 n, ackL tqB T0B now n.2.2.2 g.2.1, ackF tqB T0B now s.2.1 g.2.2) := if_pos ⟨ht, hn⟩
  have hAn : AW now n.2.2.2 := by
    have := hA.2 n (List.mem_append_right _ List.mem_cons_self) hn
    rw [ht] at this
    exact this
  have hA2 : AWq AW (ackL tqB T0B now n.2.2.2 g.2.1) (l1 ++ l2) := (hA.sub (fun a ha => mid_mem ha)).ack hAn
  have ea : aNl (l1 ++ n :: l2) = aNl (l1 ++ l2) + 1 := by rw [aNl_mid, if_pos hn0]
  obtain ⟨p1, p2, p3, p4, -, -⟩ := hpf
  -- a depth gd below K
  have fin : ∀ (K w wh wf : Int) (gd : Nat), NQ K qn qh w wh wf → - (gd : Int) ≤ queueM (enterM s n.2.2.2 (now / 200)) (now / 200) → 1 + (gd : Int) ≤ K → (queueM (enterM s n.2.2.2 (now / 200)) (now / 200) < 0 → ∀ b : Int, 256 * b ≤ lvS s + 2048 → lvS (ackM s n.2.2.2 (now / 200)) ≤ lvS s + 512 → b ≤ prQ j.1 now g.2.1 w wh wf → pf j.1 now (ackL tqB T0B now n.2.2.2 g.2.1) (lvS (ackM s n.2.2.2 (now / 200))) (aNl (l1 ++ l2)) + (b + 5) ≤ pf j.1 now g.2.1 (lvS s) (aNl (l1 ++ l2) + 1)) → ∃ j2, HBd AW now c dl R lo lw hi q n0 (ackM s n.2.2.2 (now / 200)) o (l1 ++ l2) (stepG tqB T0B now s.2.1 g n) j2 ∧ hPq pf n0 now j2.1 (ackM s n.2.2.2 (now / 200), o, l1 ++ l2) (stepG tqB T0B now s.2.1 g n).2.1 + cg * (grw F now s n : Int) ≤ hPq pf n0 now j.1 (s, o, l1 ++ n :: l2) g.2.1 := by
    intro K w wh wf gd hNK hg hKd hb
    obtain ⟨-, X, X2, C, c1, Xh, Ch, ch, hP, hPh⟩ := hNK
    obtain ⟨j2, h2, eg, eo, hc⟩ := HBo.ackC hP hPh hqh hH hn ht hl hr hlp hg hKd hQ hq hR
    refine ⟨j2, ⟨h2, by rw [eg]; exact hA2⟩, ?_⟩
    unfold hPq
    dsimp only
    rw [eg, eo, ea]
    rcases hc with ⟨c1, c2, c3⟩ | ⟨c1, c2, c3, c4, c5⟩
    · have lv := lvS_ack (d := n.2.2.2) (mi := now / 200) hI c3
      have m := p2 (j.1 + 1) j2.1 now (ackL tqB T0B now n.2.2.2 g.2.1) (lvS (ackM s n.2.2.2 (now / 200))) (aNl (l1 ++ l2)) c1
      have k := p3 j.1 now g.1 tqB T0B n.2.2.2 g.2.1 _ _ _ (lvS s) (lvS (ackM s n.2.2.2 (now / 200))) (aNl (l1 ++ l2)) hS0 htz hA.1 hAn
      rcases grw_01 (F := F) (now := now) (s := s) (n := n) with gq | gq
      · rw [gq]
        have gz : cg * ((0 : Nat) : Int) = 0 := Int.mul_zero _
        by_cases z : 8192 ≤ lvS s
        · have a3 := pVo_ack3 (n0 := n0) (mi := now / 200) hF hI hn0 c3 z
          have := k.2 z (lv.2 z)
          omega
        · have := k.1 (by omega) lv.1
          omega
      · rw [gq]
        obtain ⟨gs, gq0, hgr⟩ := grw_1 gq
        have gz : cg * ((1 : Nat) : Int) = cg := Int.mul_one _
        have z : 8192 ≤ lvS s := by
          have l1 := lv.1
          unfold lvF lvE at hgr
          unfold lvS at l1 ⊢
          omega
        have a3 := pVo_ack3 (n0 := n0) (mi := now / 200) hF hI hn0 c3 z
        have := hp5 j.1 now g.1 tqB T0B n.2.2.2 g.2.1 _ _ _ (lvS s) (lvS (ackM s n.2.2.2 (now / 200))) (aNl (l1 ++ l2)) hS0 htz hA.1 hAn z (lv.2 z)
        omega
    · have lv := lvS_neg (d := n.2.2.2) (mi := now / 200) hI c2 hg
      have m := p2 j.1 j2.1 now (ackL tqB T0B now n.2.2.2 g.2.1) (lvS (ackM s n.2.2.2 (now / 200))) (aNl (l1 ++ l2)) c1
      have tf := pVo_negf (n0 := n0) hF hI hn0 c2 c3 hg
      have f5 : 256 * s.1 5 ≤ lvS s := by unfold lvS; omega
      have f6 : 0 ≤ s.1 5 := by rw [hF.1]; omega
      -- the cost
      have pr : ∃ b : Int, 256 * b ≤ lvS s + 2048 ∧ b ≤ prQ j.1 now g.2.1 w wh wf ∧ (PVo n0 (ackM s n.2.2.2 (now / 200), o, l1 ++ l2) : Int) ≤ (PVo n0 (s, o, l1 ++ n :: l2) : Int) + (b + 5) := by
        have pw : w ≤ prQ j.1 now g.2.1 w wh wf := by
          unfold prQ
          split <;> omega
        have far : (1 ≤ j.1 ∧ j.1 ≤ 2 ∧ mn2 now g.2.1 + 5 ≤ now / 200 ∧ now / 200 ≤ mn0 now g.2.1 + 1) → (if j.1 = 1 then wh else wf) ≤ prQ j.1 now g.2.1 w wh wf := by
          intro y
          unfold prQ
          rw [if_pos (show mn2 now g.2.1 + 5 ≤ now / 200 ∧ now / 200 ≤ mn0 now g.2.1 + 1 ∧ 1 ≤ j.1 ∧ j.1 ≤ 2 from ⟨y.2.2.1, y.2.2.2, y.1, y.2.1⟩)]
          omega
        generalize prQ j.1 now g.2.1 w wh wf = P at *
        refine ⟨min P ((s.1 5).toNat + 3), by omega, by omega, ?_⟩
        rcases c5 with z | z
        · omega
        · have := far ⟨z.1, z.2.1, z.2.2.1, z.2.2.2.1⟩
          have := z.2.2.2.2
          omega
      obtain ⟨b, b1, b2, b3⟩ := pr
      have := hb c3 b b1 lv b2
      rw [grw_neg c3]
      have gz : cg * ((0 : Nat) : Int) = 0 := Int.mul_zero _
      omega
  by_cases hneg : queueM (enterM s n.2.2.2 (now / 200)) (now / 200) < 0
  · have hst1 := hst.1
    rw [eg0] at hst1
    dsimp only at hst1
    have hmn := neg_in hS0 hst1 hneg
    obtain ⟨i, hi1, hi2, hi3⟩ := p4 j.1 now g.1 tqB T0B n.2.2.2 g.2.1 _ _ _ hS0 htz hA.1 hAn hmn
    have hNi := hN i hi1
    have hK1 := hNi.1
    obtain ⟨p, a, b, r, f1, f2, f3, f4, e, he, f5, f6, f7⟩ := SF.neg hst.1 hst.2.1 rfl hneg
    rw [eg0] at f1
    dsimp only at f1
    have hd := hi2 p a b r f1 f2 f4.2 (fun hp => by
      rcases f3 with z | z
      · exfalso
        rw [hp] at f1
        unfold ackL at f1
        rw [List.take_succ_cons, List.nil_append] at f1
        obtain ⟨g1, g2⟩ := List.cons.inj f1
        have e1 : a.1 = now := by rw [← g1]
        obtain ⟨-, -, -, -, h5, -, -⟩ := hS0
        cases hL : g.2.1 with
        | nil => rw [hL] at g2; cases g2
        | cons x M =>
          rw [hL, List.take_succ_cons] at g2
          obtain ⟨g3, -⟩ := List.cons.inj g2
          have k := (h5 x M hL).1
          rw [g3] at k
          have ne : b.1 / 200 ≠ now / 200 := by
            rw [e1] at f2
            omega
          have z : (if b.1 / 200 = now / 200 then omin (s.2.1 (now / 200)) (some n.2.2.2) else s.2.1 (b.1 / 200)) = none := z
          rw [if_neg ne] at z
          exact k z
      · exact z) e he
    refine fin (Ks i) (ws i) (whs i) (wfs i) (Ks i - 1).toNat hNi (by omega) (by omega) (fun _ b b1 lv b2 => ?_)
    exact hi3 (lvS s) (lvS (ackM s n.2.2.2 (now / 200))) b (aNl (l1 ++ l2)) lv b1 b2
  · have hN00 := hN 0 hN0
    have := hN00.1
    exact fin (Ks 0) (ws 0) (whs 0) (wfs 0) 0 hN00 (by omega) (by omega) (fun z => absurd z hneg)
end HBDA2
section HBDT2
variable {AW : Int → Int → Prop} {now c dl R lo lw hi q1 qn qh n0 r ts tz F cg : Int} {Ks ws whs wfs : Nat → Int} {N : Nat} {om : Int → Int} {q : Int → Int} {pf pg : PFt} {o : List Int}
theorem HBd.hndG (hN : ∀ i, i < N → NQ (Ks i) qn qh (ws i) (whs i) (wfs i)) (hN0 : 0 < N) (hqh : qn ≤ 2 * qh) (hpf : PFd pf pg AW Ks ws whs wfs N r om ts tz) (hp5 : PF5 pf AW tz cg) (hFF : 16384 ≤ F) (htz : now ≤ tz) (hQ : QF q now q1 qn) (hq : hi - lw ≤ q1) (hR : R ≤ 60) (hnow : now ≤ tqB) : ∀ (t ks : List NtM) (s : SdM) (g : Gh) (j : GJh), HBd AW now c dl R lo lw hi q n0 s o (ks ++ t) g j → (∀ a ∈ ks, now < a.1) → (∀ a ∈ t, now ≤ a.1) → lsN n0 (ks ++ t) (now + R) →
    ∃ g2 j2, HBd AW now c dl R lo lw hi q n0 (t.foldl (hndS now) s) o (ks ++ t.filter (fun n => decide (n.1 ≠ now))) g2 j2 ∧ hPq pf n0 now j2.1 (t.foldl (hndS now) s, o, ks ++ t.filter (fun n => decide (n.1 ≠ now))) g2.2.1 + cg * (grN F now s t : Int) ≤ hPq pf n0 now j.1 (s, o, ks ++ t) g.2.1 + (frN now s t : Int) ∧ g2.1 = g.1 := by
  intro t
  induction t with
  | nil =>
    intro ks s g j h _ _ _
    refine ⟨g, j, h, ?_, rfl⟩
    show hPq pf n0 now j.1 (s, o, ks ++ []) g.2.1 + cg * ((0 : Nat) : Int) ≤ hPq pf n0 now j.1 (s, o, ks ++ []) g.2.1 + ((0 : Nat) : Int)
    have gz : cg * ((0 : Nat) : Int) = 0 := Int.mul_zero _
    omega
  | cons n t ih =>
    intro ks s g j h hks ht hl
    rw [List.foldl_cons]
    have ef : frN now s (n :: t) = (if n.1 = now ∧ ¬ isA n ∧ ¬ n.2.2.2 < s.1 9 then 1 else 0) + frN now (hndS now s n) t := rfl
    rw [ef]
    have eN : grN F now s (n :: t) = grw F now s n + grN F now (hndS now s n) t := rfl
    have eK : cg * ((grw F now s n + grN F now (hndS now s n) t : Nat) : Int) = cg * (grw F now s n : Int) + cg * (grN F now (hndS now s n) t : Int) := by
      push_cast
      rw [Int.mul_add]
    rw [eN, eK]
    have z00 : cg * ((0 : Nat) : Int) = 0 := Int.mul_zero _
    have ht2 : ∀ a ∈ t, now ≤ a.1 := fun a ha => ht a (List.mem_cons_of_mem _ ha)
    by_cases e : n.1 = now
    · rw [List.filter_cons_of_neg (by simp [e])]
      have eh : hndS now s n = reachM s n.2.2.1 n.2.2.2 (now / 200) := if_pos e
      have hl2 : lsN n0 (ks ++ t) (now + R) := hl.sub (fun a ha => mid_mem ha)
      by_cases z : isA n
      · have er : reachM s n.2.2.1 n.2.2.2 (now / 200) = ackM s n.2.2.2 (now / 200) := if_pos z
        rw [eh, er]
        obtain ⟨j2, h2, p2⟩ := h.ackG hN hN0 hqh hpf hp5 hFF htz z e hks ht2 hl2 hQ hq hR
        have k1 : (stepG tqB T0B now s.2.1 g n).1 = g.1 := by
          unfold stepG
          rw [if_pos ⟨e, z⟩]
          show kaN tqB now g.1 n = g.1
          unfold kaN
          rw [if_neg (fun y => by have := y.2.2; omega)]
        obtain ⟨g3, j3, h3, p3, k3⟩ := ih ks _ _ j2 h2 hks ht2 hl2
        refine ⟨g3, j3, h3, ?_, k3.trans k1⟩
        have hn0 : ¬ (n.1 = now ∧ ¬ isA n ∧ ¬ n.2.2.2 < s.1 9) := fun y => y.2.1 z
        rw [if_neg hn0]
        omega
      · have er : reachM s n.2.2.1 n.2.2.2 (now / 200) = lostM s n.2.2.2 := if_neg z
        rw [eh, er, grw_no (fun y => z y.2), z00]
        obtain ⟨h2, p2⟩ := h.lost hpf z
        obtain ⟨g3, j3, h3, p3, k3⟩ := ih ks _ _ j h2 hks ht2 hl2
        refine ⟨g3, j3, h3, ?_, k3⟩
        by_cases y : n.2.2.2 < s.1 9
        · rw [if_pos y] at p2
          rw [if_neg (fun w => w.2.2 y)]
          omega
        · rw [if_neg y] at p2
          rw [if_pos ⟨e, z, y⟩]
          omega
    · rw [List.filter_cons_of_pos (by simp [e])]
      have eh : hndS now s n = s := if_neg e
      rw [eh, if_neg (fun y => e y.1), grw_no (fun y => e y.1), z00]
      have el : ks ++ n :: t = (ks ++ [n]) ++ t := by simp
      have el2 : ks ++ n :: t.filter (fun n => decide (n.1 ≠ now)) = (ks ++ [n]) ++ t.filter (fun n => decide (n.1 ≠ now)) := by simp
      rw [el] at h hl
      rw [el, el2]
      have hn := ht n List.mem_cons_self
      obtain ⟨g3, j3, h3, p3, k3⟩ := ih (ks ++ [n]) s g j h (fun a ha => by
        rcases List.mem_append.mp ha with w | w
        · exact hks a w
        · rw [List.mem_singleton] at w
          rw [w]
          omega) ht2 hl
      exact ⟨g3, j3, h3, by omega, k3⟩
theorem HBbd.tickG {fw bk iv : Int} {v : SV} {g : Gh} {j : GJh} {k : Nat} {bs : List Bool} {z : Bool} (hN : ∀ i, i < N → NQ (Ks i) qn qh (ws i) (whs i) (wfs i)) (hN0 : 0 < N) (hqh : qn ≤ 2 * qh) (hpf : PFd pf pg AW Ks ws whs wfs N r om ts tz) (hp5 : PF5 pf AW tz cg) (hFF : 16384 ≤ F) (hts : ts ≤ now) (htE : now < tz) (hQ : QF q (now + 1) q1 qn) (hq : hi - lw ≤ q1) (h : HBbd AW now c dl R lo lw hi q n0 v g j) (h0 : 0 ≤ now + 1) (hnow : now + 1 ≤ tqB) (hR : R ≤ 60) (hR1 : 1 ≤ R) (hc : c = bk - v.1.1 2) (hd : dl = fw + v.1.1 2) (hRR : R = fw + bk)
    (hs : sndOK (now + 1) (now + 1 + fw + bk) k bs (slowM (hndV (now + 1) v).1 (now + 1) iv, (hndV (now + 1) v).2)) (hz : z = true → (sndV (now + 1) (now + 1 + fw + bk) k bs (slowM (hndV (now + 1) v).1 (now + 1) iv, (hndV (now + 1) v).2)).2.1 ≠ [])
    (hr : z = true → ∀ x t, (sndV (now + 1) (now + 1 + fw + bk) k bs (slowM (hndV (now + 1) v).1 (now + 1) iv, (hndV (now + 1) v).2)).2.1 = x :: t → (lo ≤ now + 1 + fw - x + v.1.1 2 ∧ now + 1 + fw - x + v.1.1 2 ≤ hi) ∧ AW (now + 1 + fw + bk) (now + 1 + fw - x + v.1.1 2)) :
    ∃ g2 j2, HBbd AW (now + 1) c dl R lo lw hi q n0 (finV (now + 1 + fw) (now + 1 + fw + bk) k z (sndV (now + 1) (now + 1 + fw + bk) k bs (slowM (hndV (now + 1) v).1 (now + 1) iv, (hndV (now + 1) v).2))) g2 j2 ∧ hPq pg n0 (now + 1) j2.1 (finV (now + 1 + fw) (now + 1 + fw + bk) k z (sndV (now + 1) (now + 1 + fw + bk) k bs (slowM (hndV (now + 1) v).1 (now + 1) iv, (hndV (now + 1) v).2))) g2.2.1 + (bs.length : Int) + cg * (grN F (now + 1) v.1 v.2.2 : Int) ≤ hPq pg n0 now j.1 v g.2.1 + (frN (now + 1) v.1 v.2.2 : Int) + (bgN (endsM (hndV (now + 1) v).1 (now + 1)) (now + 1) iv : Int) + (if z = true then om (now + 1) else 0) + r * ((now + 1) / 200 - now / 200) := by
  obtain ⟨hI, hp, hl, hGR⟩ := h
  obtain ⟨h1, p1⟩ := hI.nxt hpf hts htE
  have hpt : ∀ a ∈ v.2.2, now + 1 ≤ a.1 := fun a ha => by have := hp a ha; omega
  have hl1 : lsN n0 v.2.2 (now + 1 + R) := fun a ha hA hz => by have := hl a ha hA hz; omega
  obtain ⟨g2, j2, h2, p2, k5⟩ := HBd.hndG hN hN0 hqh hpf hp5 hFF (by omega) hQ hq hR hnow v.2.2 [] v.1 g j h1 (fun a ha => by cases ha) hpt hl1
  have e2 : hndV (now + 1) v = (v.2.2.foldl (hndS (now + 1)) v.1, v.2.1, [] ++ v.2.2.filter (fun n => decide (n.1 ≠ now + 1))) := rfl
  rw [e2] at hs hz hr ⊢
  dsimp only at hs hz hr ⊢
  have hk2 : ∀ a ∈ [] ++ v.2.2.filter (fun n => decide (n.1 ≠ now + 1)), now + 1 < a.1 ∧ a ∈ v.2.2 := by
    intro a ha
    rw [List.nil_append, List.mem_filter] at ha
    have b1 := hpt a ha.1
    have b2 := of_decide_eq_true ha.2
    exact ⟨by omega, ha.1⟩
  obtain ⟨j3, h3, p3⟩ := h2.ends hpf (fun a ha => (hk2 a ha).1)
  have hP3 : lsN n0 ([] ++ v.2.2.filter (fun n => decide (n.1 ≠ now + 1))) (now + 1 - 1 + R) := fun a ha hA hz => by
    have := hl a (hk2 a ha).2 hA hz
    omega
  obtain ⟨h4, p4⟩ := h3.begins (iv := iv) h0 hP3 hR (pf := pf)
  have h4 : HBd AW (now + 1) c dl R lo lw hi q n0 (slowM (v.2.2.foldl (hndS (now + 1)) v.1) (now + 1) iv) v.2.1 ([] ++ v.2.2.filter (fun n => decide (n.1 ≠ now + 1))) g2 j3 := h4
  obtain ⟨j5, h5, p5⟩ := HBd.snds hpf bs _ _ _ g2 j3 h4 hs
  have f2 : (slowM (v.2.2.foldl (hndS (now + 1)) v.1) (now + 1) iv).1 2 = v.1.1 2 := by
    unfold slowM
    rw [begins_o (by decide) (by decide) (by decide), ends_o (by decide) (by decide) (by decide), hnd_2]
  generalize hvs : sndV (now + 1) (now + 1 + fw + bk) k bs (slowM (v.2.2.foldl (hndS (now + 1)) v.1) (now + 1) iv, v.2.1, [] ++ v.2.2.filter (fun n => decide (n.1 ≠ now + 1))) = vs at *
  have f3 : vs.1.1 2 = v.1.1 2 := by
    rw [← hvs, snd_2]
    exact f2
  obtain ⟨h6, p6⟩ := h5.fin (k := k) (z := z) (fw := fw) (bk := bk) hpf hz (by rw [f3]; exact hc) (by rw [f3]; exact hd) hRR (by rw [f3]; exact hr)
  have evs : (vs.1, vs.2.1, vs.2.2) = vs := rfl
  rw [evs] at h6 p6
  refine ⟨g2, j5, ⟨h6, ?_, ?_, by unfold GR at hGR ⊢; rw [k5]; exact hGR⟩, ?_⟩
  · intro a ha
    rcases fin_mem ha with x | x
    · rw [← hvs] at x
      rcases snd_mem _ _ _ x with y | y
      · exact (hk2 a y).1
      · omega
    · omega
  · intro a ha hA hz
    rcases fin_mem ha with x | x
    · rw [← hvs] at x
      rcases snd_mem _ _ _ x with y | y
      · exact hl1 a (hk2 a y).2 hA hz
      · omega
    · exact absurd x.2.1 hA
  · have e1 : ([] ++ v.2.2 : List NtM) = v.2.2 := List.nil_append _
    rw [e1] at p2
    have v1 : (v.1, v.2.1, v.2.2) = v := rfl
    rw [v1] at p1 p2
    have p4 : hPq pf n0 (now + 1) j3.1 (slowM (v.2.2.foldl (hndS (now + 1)) v.1) (now + 1) iv, v.2.1, [] ++ v.2.2.filter (fun n => decide (n.1 ≠ now + 1))) g2.2.1 ≤ hPq pf n0 (now + 1) j3.1 (endsM (v.2.2.foldl (hndS (now + 1)) v.1) (now + 1), v.2.1, [] ++ v.2.2.filter (fun n => decide (n.1 ≠ now + 1))) g2.2.1 + bgN (endsM (v.2.2.foldl (hndS (now + 1)) v.1) (now + 1)) (now + 1) iv := p4
    omega
theorem HBcd.tickG {fw bk iv : Int} {v : SV} {g : Gh} {j : GJh} {th be : Int} {k : Nat} {bs : List Bool} {z : Bool} (hN : ∀ i, i < N → NQ (Ks i) qn qh (ws i) (whs i) (wfs i)) (hN0 : 0 < N) (hqh : qn ≤ 2 * qh) (hpf : PFd pf pg AW Ks ws whs wfs N r om ts tz) (hp5 : PF5 pf AW tz cg) (hFF : 16384 ≤ F) (hts : ts ≤ now) (htE : now < tz) (hQ : QF q (now + 1) q1 qn) (hq : hi - lw ≤ q1) (h : HBcd AW now c dl R lo lw hi q n0 v g j th be) (h0 : 0 ≤ now + 1) (hnow : now + 1 ≤ tqB) (hR : R ≤ 60) (hR1 : 1 ≤ R) (hc : c = bk - v.1.1 2) (hd : dl = fw + v.1.1 2) (hRR : R = fw + bk)
    (hs : sndOK (now + 1) (now + 1 + fw + bk) k bs (slowM (hndV (now + 1) v).1 (now + 1) iv, (hndV (now + 1) v).2)) (hz : z = true → (sndV (now + 1) (now + 1 + fw + bk) k bs (slowM (hndV (now + 1) v).1 (now + 1) iv, (hndV (now + 1) v).2)).2.1 ≠ [])
    (hr : z = true → ∀ x t, (sndV (now + 1) (now + 1 + fw + bk) k bs (slowM (hndV (now + 1) v).1 (now + 1) iv, (hndV (now + 1) v).2)).2.1 = x :: t → (lo ≤ now + 1 + fw - x + v.1.1 2 ∧ now + 1 + fw - x + v.1.1 2 ≤ hi) ∧ AW (now + 1 + fw + bk) (now + 1 + fw - x + v.1.1 2)) :
    ∃ g2 j2 th2 be2, HBcd AW (now + 1) c dl R lo lw hi q n0 (finV (now + 1 + fw) (now + 1 + fw + bk) k z (sndV (now + 1) (now + 1 + fw + bk) k bs (slowM (hndV (now + 1) v).1 (now + 1) iv, (hndV (now + 1) v).2))) g2 j2 th2 be2 ∧ hYd pg n0 (now + 1) R j2.1 (finV (now + 1 + fw) (now + 1 + fw + bk) k z (sndV (now + 1) (now + 1 + fw + bk) k bs (slowM (hndV (now + 1) v).1 (now + 1) iv, (hndV (now + 1) v).2))) g2 th2 be2 + 61 * (R * (bs.length : Int)) + 61 * (R * (cg * (grN F (now + 1) v.1 v.2.2 : Int))) ≤ hYd pg n0 now R j.1 v g th be + 61 * (R * ((if z = true then om (now + 1) else 0) + r * ((now + 1) / 200 - now / 200))) + 61 + R := by
  obtain ⟨hI, hH, hth, hB⟩ := h
  obtain ⟨g2, j2, h2, p2⟩ := HBbd.tickG hN hN0 hqh hpf hp5 hFF hts htE hQ hq hI h0 hnow hR hR1 hc hd hRR hs hz hr
  have hI1 := (hI.1.nxt hpf hts htE).1.1.1
  have hpt : ∀ a ∈ v.2.2, now + 1 ≤ a.1 := fun a ha => by have := hI.2.1 a ha; omega
  obtain ⟨th2, t1, t2, t3⟩ := HTg.hnd v.2.2 [] v.1 g th hI1 (fun a ha => by cases ha) hpt hH (by omega)
  have hB1 : BG now be (v.2.2.foldl (hndS (now + 1)) v.1) := BG.hnd v.2.2 v.1 hB
  obtain ⟨be2, b1, b2⟩ := hB1.slow (iv := iv) h0
  have e2 : hndV (now + 1) v = (v.2.2.foldl (hndS (now + 1)) v.1, v.2.1, v.2.2.filter (fun n => decide (n.1 ≠ now + 1))) := rfl
  refine ⟨g2, j2, th2, be2, ⟨h2, ?_, t1, ?_⟩, ?_⟩
  · refine HT.fin ?_
    refine HT.snds (by omega) bs _ ?_
    rw [e2]
    exact t2.slow
  · rw [fin_s]
    refine BG.same ?_ (snd_o (by decide) (by decide) bs _) (snd_o (by decide) (by decide) bs _)
    rw [e2]
    exact b1
  · unfold hYd
    have e3 : (hndV (now + 1) v).1 = v.2.2.foldl (hndS (now + 1)) v.1 := rfl
    generalize hPq pg n0 (now + 1) j2.1 (finV (now + 1 + fw) (now + 1 + fw + bk) k z (sndV (now + 1) (now + 1 + fw + bk) k bs (slowM (hndV (now + 1) v).1 (now + 1) iv, (hndV (now + 1) v).2))) g2.2.1 = P2 at p2
    rw [e3] at p2
    generalize hPq pg n0 now j.1 v g.2.1 = P1 at p2
    generalize (frN (now + 1) v.1 v.2.2 : Int) = fr at p2 t3
    generalize (bgN (endsM (v.2.2.foldl (hndS (now + 1)) v.1) (now + 1)) (now + 1) iv : Int) = bg at p2 b2
    generalize (if z = true then om (now + 1) else 0) = Z1 at p2 ⊢
    generalize r * ((now + 1) / 200 - now / 200) = Z2 at p2 ⊢
    generalize cg * (grN F (now + 1) v.1 v.2.2 : Int) = gc at p2 ⊢
    have q1 : P2 + (bs.length : Int) + gc ≤ P1 + fr + bg + (Z1 + Z2) := by omega
    generalize Z1 + Z2 = Z at q1 ⊢
    have q2 : R * (P2 + (bs.length : Int) + gc) ≤ R * (P1 + fr + bg + Z) := Int.mul_le_mul_of_nonneg_left q1 (by omega)
    have q3 : R * (P2 + (bs.length : Int) + gc) = R * P2 + R * (bs.length : Int) + R * gc := by rw [Int.mul_add, Int.mul_add]
    have q4 : R * (P1 + fr + bg + Z) = R * P1 + R * fr + R * bg + R * Z := by
      rw [Int.mul_add, Int.mul_add, Int.mul_add]
    have q5 : R * (61 * bg) ≤ R * (be2 - be) := Int.mul_le_mul_of_nonneg_left b2 (by omega)
    have q6 : R * (61 * bg) = 61 * (R * bg) := Int.mul_left_comm _ _ _
    have q7 : R * (now + 1 - be2) = R * (now - be) + R - R * (be2 - be) := by
      have : now + 1 - be2 = (now - be) + 1 - (be2 - be) := by omega
      rw [this, Int.mul_sub, Int.mul_add, Int.mul_one]
    rw [q7]
    omega
end HBDT2
def yHG (F cg : Int) (nS nC : Nat) (m : MS) (om : Int → Int) (r : Int) (y : Nat → Int) : Nat → Int := fun k => yHq nS nC m om r y k + (-61 * ((mg m 2 + mg m 3) * cg)) * (grV F m k : Int)
section MHDG
variable {nS nC : Nat} {m : MS} {AW : Nat → Int → Int → Prop} {lo lw hi n0 : Nat → Int} {Ks ws whs wfs : Nat → Nat → Int} {N : Nat} {q1 qn qh r ts tz F cg : Int} {om : Int → Int} {q : Int → Int} {pf pg : Nat → PFt} {y : Nat → Int}
theorem yHG_sum (hR1 : 1 ≤ mg m 2 + mg m 3) (ho : 0 ≤ om (mg m 5 + 1)) : sumN (yHG F cg nS nC m om r y) nS + 61 * ((mg m 2 + mg m 3) * (sntM nS (tickM nS nC m) - sntM nS m)) + 61 * ((mg m 2 + mg m 3) * (cg * sumN (fun k => (grV F m k : Int)) nS)) ≤ sumN y nS + 61 * ((mg m 2 + mg m 3) * (om (mg m 5 + 1) * fiB (beginM (midM nS nC m)))) + nS * (61 * ((mg m 2 + mg m 3) * (r * ((mg m 5 + 1) / 200 - mg m 5 / 200))) + 61 + (mg m 2 + mg m 3)) := by
  have a := yHq_sum (nS := nS) (nC := nC) (m := m) (om := om) (r := r) (y := y) hR1 ho
  have e : sumN (yHG F cg nS nC m om r y) nS = sumN (yHq nS nC m om r y) nS + (-61 * ((mg m 2 + mg m 3) * cg)) * sumN (fun k => (grV F m k : Int)) nS := by
    unfold yHG
    rw [sumN_add, sumN_mul]
  rw [e]
  have z : (-61 * ((mg m 2 + mg m 3) * cg)) * sumN (fun k => (grV F m k : Int)) nS = -61 * ((mg m 2 + mg m 3) * (cg * sumN (fun k => (grV F m k : Int)) nS)) := by rw [Int.mul_assoc, Int.mul_assoc]
  rw [z]
  omega
theorem MHd.tickG (hN : ∀ k, k < nS → ∀ i, i < N → NQ (Ks k i) qn qh (ws k i) (whs k i) (wfs k i)) (hN0 : 0 < N) (hqh : qn ≤ 2 * qh) (hpf : ∀ k, k < nS → PFd (pf k) (pg k) (AW k) (Ks k) (ws k) (whs k) (wfs k) N r om ts tz) (hp5 : ∀ k, k < nS → PF5 (pf k) (AW k) tz cg) (hFF : 16384 ≤ F) (hts : ts ≤ mg m 5) (htE : mg m 5 < tz) (hQ : QF q (mg m 5 + 1) q1 qn) (hq : ∀ k, k < nS → hi k - lw k ≤ q1) (h4 : nS ≤ 4) (h : MHd nS m AW lo lw hi n0 q pg y) (h0 : 0 ≤ mg m 5 + 1) (hnow : mg m 5 + 1 ≤ tqB) (hR : mg m 2 + mg m 3 ≤ 60) (hR1 : 1 ≤ mg m 2 + mg m 3) (hf : frOK nS nC m lo hi) (hA : frAW AW nS nC m) : MHd nS (tickM nS nC m) AW lo lw hi n0 q pg (yHG F cg nS nC m om r y) := by
  intro k hk
  obtain ⟨g, j, th, be, hI, hY⟩ := h k hk
  obtain ⟨bs, z, h1, h2, h3, h5, h6, h7⟩ := tick_vo (nC := nC) hk h4 (m := m)
  obtain ⟨g2, j2, th2, be2, hI2, hY2⟩ := HBcd.tickG (iv := mg m 4) (hN k hk) hN0 hqh (hpf k hk) (hp5 k hk) hFF hts htE hQ (hq k hk) hI h0 hnow hR hR1 rfl rfl rfl h1 h6 (fun hz x t hx => by
    rw [h7] at hx
    rw [h5] at hz
    exact ⟨hf k hk hz x t hx, hA k hk hz x t hx⟩)
  rw [← h2] at hI2 hY2
  have e2 := tick_s2 (nC := nC) hk h4 (m := m)
  have e6 : (ms (tickM nS nC m) k).1 6 = (ms m k).1 6 + bs.length := by
    have : (vwK k (tickM nS nC m)).1.1 6 = (ms m k).1 6 + bs.length := by
      rw [h2, fin_s, snd_6]
      congr 1
      show (slowM (hndV (mg m 5 + 1) (vwK k m)).1 (mg m 5 + 1) (mg m 4)).1 6 = _
      unfold slowM
      rw [begins_o (by decide) (by decide) (by decide), ends_o (by decide) (by decide) (by decide)]
      exact hnd_6 _ _
    exact this
  refine ⟨g2, j2, th2, be2, ?_, ?_⟩
  · rw [tick_g5, tick_g (by decide) (by decide) (by decide) (by decide) (by decide) (by decide), tick_g (by decide) (by decide) (by decide) (by decide) (by decide) (by decide), e2]
    exact hI2
  · rw [tick_g5, tick_g (by decide) (by decide) (by decide) (by decide) (by decide) (by decide), tick_g (by decide) (by decide) (by decide) (by decide) (by decide) (by decide)]
    have eG : (-61 * ((mg m 2 + mg m 3) * cg)) * (grV F m k : Int) = -61 * ((mg m 2 + mg m 3) * (cg * (grN F (mg m 5 + 1) (vwK k m).1 (vwK k m).2.2 : Int))) := by
      rw [Int.mul_assoc, Int.mul_assoc]
      rfl
    unfold yHG yHq
    rw [e6, ← h5, eG]
    have e7 : (ms m k).1 6 + (bs.length : Int) - (ms m k).1 6 = bs.length := by omega
    rw [e7]
    omega
theorem MHd.runG (hN : ∀ k, k < nS → ∀ i, i < N → NQ (Ks k i) qn qh (ws k i) (whs k i) (wfs k i)) (hN0 : 0 < N) (hqh : qn ≤ 2 * qh) (hpf : ∀ k, k < nS → PFd (pf k) (pg k) (AW k) (Ks k) (ws k) (whs k) (wfs k) N r om ts tz) (hp5 : ∀ k, k < nS → PF5 (pf k) (AW k) tz cg) (hFF : 16384 ≤ F) (hq : ∀ k, k < nS → hi k - lw k ≤ q1) (h4 : nS ≤ 4) (h : MHd nS m AW lo lw hi n0 q pg y) (hts : ts ≤ mg m 5) (h0 : 0 ≤ mg m 5 + 1) (hR : mg m 2 + mg m 3 ≤ 60) (hR1 : 1 ≤ mg m 2 + mg m 3) (ho : ∀ t, 0 ≤ om t) : ∀ T : Nat, mg m 5 + T ≤ tqB → mg m 5 + T ≤ tz → (∀ i : Nat, 1 ≤ i → i ≤ T → QF q (mg m 5 + i) q1 qn) → (∀ i, i < T → frOK nS nC (tkN nS nC i m) lo hi ∧ frAW AW nS nC (tkN nS nC i m)) → ∃ y2, MHd nS (tkN nS nC T m) AW lo lw hi n0 q pg y2 ∧ sumN y2 nS + 61 * ((mg m 2 + mg m 3) * (sntM nS (tkN nS nC T m) - sntM nS m)) + 61 * ((mg m 2 + mg m 3) * (cg * grT F nS nC T m)) ≤ sumN y nS + 61 * ((mg m 2 + mg m 3) * omT om nS nC T m) + nS * (T * (61 + (mg m 2 + mg m 3)) + 61 * ((mg m 2 + mg m 3) * (r * ((mg m 5 + T) / 200 - mg m 5 / 200)))) := by
  intro T
  induction T with
  | zero =>
    intro _ _ _ _
    refine ⟨y, h, ?_⟩
    have e : tkN nS nC 0 m = m := rfl
    have eo : omT om nS nC 0 m = 0 := rfl
    have eg : grT F nS nC 0 m = 0 := rfl
    rw [e, eo, eg, Int.sub_self]
    have : (mg m 5 + ((0 : Nat) : Int)) / 200 - mg m 5 / 200 = 0 := by
      rw [show mg m 5 + ((0 : Nat) : Int) = mg m 5 by omega]
      omega
    rw [this]
    simp
  | succ T ih =>
    intro hT hE hQ hf
    obtain ⟨y2, hM, hY⟩ := ih (by omega) (by omega) (fun i h1 hi => hQ i h1 (by omega)) (fun i hi => hf i (by omega))
    obtain ⟨hfT, hAT⟩ := hf T (by omega)
    have g2 := tkN_g (nS := nS) (nC := nC) (m := m) (i := 2) (by decide) (by decide) (by decide) (by decide) (by decide) (by decide) T
    have g3 := tkN_g (nS := nS) (nC := nC) (m := m) (i := 3) (by decide) (by decide) (by decide) (by decide) (by decide) (by decide) T
    have g5 := tkN_5 (nS := nS) (nC := nC) (m := m) T
    have et : tkN nS nC (T + 1) m = tickM nS nC (tkN nS nC T m) := rfl
    have eo : omT om nS nC (T + 1) m = omT om nS nC T m + om (mg m 5 + T + 1) * fiB (beginM (midM nS nC (tkN nS nC T m))) := rfl
    have eg : grT F nS nC (T + 1) m = grT F nS nC T m + sumN (fun k => (grV F (tkN nS nC T m) k : Int)) nS := rfl
    rw [et, eo, eg]
    generalize grT F nS nC T m = G1 at *
    generalize omT om nS nC T m = W1 at *
    generalize tkN nS nC T m = x at *
    have hQ2 : QF q (mg x 5 + 1) q1 qn := by
      have z := hQ (T + 1) (by omega) (by omega)
      have e : mg x 5 + 1 = mg m 5 + ((T + 1 : Nat) : Int) := by omega
      rw [e]
      exact z
    have hM2 := hM.tickG (nC := nC) hN hN0 hqh hpf hp5 hFF (by rw [g5]; omega) (by rw [g5]; omega) hQ2 hq h4 (by rw [g5]; omega) (by rw [g5]; omega) (by rw [g2, g3]; exact hR) (by rw [g2, g3]; exact hR1) hfT hAT
    have hS := yHG_sum (F := F) (cg := cg) (nS := nS) (nC := nC) (m := x) (om := om) (r := r) (y := y2) (by rw [g2, g3]; exact hR1) (ho _)
    refine ⟨yHG F cg nS nC x om r y2, hM2, ?_⟩
    rw [g2, g3, g5] at hS
    generalize hRR : mg m 2 + mg m 3 = R at *
    generalize mg m 5 = a at *
    generalize sumN (yHG F cg nS nC x om r y2) nS = Y3 at *
    generalize sumN y2 nS = Y2 at *
    generalize sumN y nS = Y1 at *
    generalize sntM nS (tickM nS nC x) = S3 at *
    generalize sntM nS x = S2 at *
    generalize sntM nS m = S1 at *
    generalize om (a + (T : Int) + 1) * fiB (beginM (midM nS nC x)) = Fi at *
    generalize sumN (fun k => (grV F x k : Int)) nS = G2 at *
    have eT : a + ((T + 1 : Nat) : Int) = a + T + 1 := by omega
    rw [eT]
    generalize hD1 : (a + (T : Int)) / 200 - a / 200 = D1 at *
    have hD2 : (a + (T : Int) + 1) / 200 - a / 200 = D1 + ((a + (T : Int) + 1) / 200 - (a + (T : Int)) / 200) := by omega
    rw [hD2]
    generalize (a + (T : Int) + 1) / 200 - (a + (T : Int)) / 200 = D2 at *
    have c3 : R * (S3 - S1) = R * (S3 - S2) + R * (S2 - S1) := by
      rw [← Int.mul_add]
      congr 1
      omega
    have c4 : R * (W1 + Fi) = R * W1 + R * Fi := Int.mul_add _ _ _
    have c6 : R * (cg * (G1 + G2)) = R * (cg * G1) + R * (cg * G2) := by rw [Int.mul_add, Int.mul_add]
    have c5 : (nS : Int) * (((T + 1 : Nat) : Int) * (61 + R) + 61 * (R * (r * (D1 + D2)))) = nS * (T * (61 + R) + 61 * (R * (r * D1))) + nS * (61 * (R * (r * D2)) + 61 + R) := by
      rw [← Int.mul_add]
      congr 1
      push_cast
      rw [Int.add_mul, Int.one_mul, Int.mul_add r, Int.mul_add R]
      omega
    rw [c3, c4, c5, c6]
    omega
end MHDG
