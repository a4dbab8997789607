/-! Bounds, mode H with a price of what is to come: how deep a negative one is, by pairs of entries that a minute's boundary lies between -/
/-- behind an acknowledgment: where a boundary lies between neighbours a, b (a kept), a is at most K - 1 above b and all older ones -/
def DQ (K now : Int) (L : List EnF) : Prop := ∀ (p : List EnF) (a b : EnF) (r : List EnF), L = p ++ a :: b :: r → b.1 / 200 < a.1 / 200 → now / 200 - 4 ≤ a.1 / 200 → (p = [] → b.1 / 200 < now / 200 - 4) → ∀ e ∈ b :: r, a.2.2 - e.2.2 + 1 ≤ K
/-- pf: price from a tick's beginning up to the finishing; pg: behind it -/
def PFd (pf pg : PFt) (AW : Int → Int → Prop) (Ks ws whs wfs : Nat → Int) (N : Nat) (r : Int) (om : Int → Int) (ts tz : Int) : Prop :=
  (∀ c now L z z2 a, z2 ≤ max z 512 → pf c now L z2 a ≤ pf c now L z a) ∧
  (∀ c c2 now L z a, c2 ≤ c → pf c2 now L z a ≤ pf c now L z a) ∧
  (∀ (c : Nat) (now ka tq T0 d : Int) (L : List EnF) (fa : Int → Int) (f : Int → Option Int) (la : List Int) (z z2 : Int) (a : Nat), SF now ka tq T0 L fa f la → now ≤ tz → (∀ e ∈ L, AW e.1 e.2.2) → AW now d → (z < 8192 → z2 ≤ z + 512 → pf (c + 1) now (ackL tq T0 now d L) z2 a + 5 ≤ pf c now L z (a + 1)) ∧ (8192 ≤ z → z2 ≤ z + 65 → pf (c + 1) now (ackL tq T0 now d L) z2 a + 3 ≤ pf c now L z (a + 1))) ∧
  (∀ (c : Nat) (now ka tq T0 d : Int) (L : List EnF) (fa : Int → Int) (f : Int → Option Int) (la : List Int), SF now ka tq T0 L fa f la → now ≤ tz → (∀ e ∈ L, AW e.1 e.2.2) → AW now d → (mn2 now L < mn0 now L ∨ mn2 now L + 5 ≤ now / 200) → ∃ i, i < N ∧ DQ (Ks i) now (ackL tq T0 now d L) ∧ ∀ (z z2 b : Int) (a : Nat), z2 ≤ z + 512 → 256 * b ≤ z + 2048 → b ≤ prQ c now L (ws i) (whs i) (wfs i) → pf c now (ackL tq T0 now d L) z2 a + (b + 5) ≤ pf c now L z (a + 1)) ∧
  ((∀ c now L z a, pg c now L z (a + 1) ≤ pf c now L z a + om now) ∧ (∀ c now L z a, pg c now L z a ≤ pf c now L z a)) ∧
  (∀ (c : Nat) (now ka tq T0 : Int) (L : List EnF) (fa : Int → Int) (f : Int → Option Int) (la : List Int) (z : Int) (a : Nat), SF now ka tq T0 L fa f la → ts ≤ now → now < tz → pf c (now + 1) L z a ≤ pg c now L z a + r * ((now + 1) / 200 - now / 200))
def HBd (AW : Int → Int → Prop) (now c dl R lo lw hi : Int) (q : Int → Int) (n0 : Int) (s : SdM) (o : List Int) (l : List NtM) (g : Gh) (j : GJh) : Prop := HBo now c dl R lo lw hi q n0 s o l g j ∧ AWq AW g.2.1 l
section HBDA
variable {AW : Int → Int → Prop} {now c dl R lo lw hi q1 qn qh n0 r ts tz : Int} {Ks ws whs wfs : Nat → Int} {N : Nat} {om : Int → Int} {q : Int → Int} {pf pg : PFt} {s : SdM} {o : List Int} {l l1 l2 : List NtM} {n : NtM} {g : Gh} {j : GJh}
theorem HBd.ack (hN : ∀ i, i < N → NQ (Ks i) qn qh (ws i) (whs i) (wfs i)) (hN0 : 0 < N) (hqh : qn ≤ 2 * qh) (hpf : PFd pf pg AW Ks ws whs wfs N r om ts tz) (htz : now ≤ tz) (h : HBd AW now c dl R lo lw hi q n0 s o (l1 ++ n :: l2) g j) (hn : isA n) (ht : n.1 = now) (hl : ∀ a ∈ l1, now < a.1) (hr : ∀ a ∈ l2, now ≤ a.1) (hlp : lsN n0 (l1 ++ l2) (now + R)) (hQ : QF q now q1 qn) (hq : hi - lw ≤ q1) (hR : R ≤ 60) :
    ∃ j2, HBd AW now c dl R lo lw hi q n0 (ackM s n.2.2.2 (now / 200)) o (l1 ++ l2) (stepG tqB T0B now s.2.1 g n) j2 ∧ hPq pf n0 now j2.1 (ackM s n.2.2.2 (now / 200), o, l1 ++ l2) (stepG tqB T0B now s.2.1 g n).2.1 ≤ hPq pf n0 now j.1 (s, o, l1 ++ n :: l2) g.2.1 := by
  obtain ⟨hH, hA⟩ := h
  have hV := hH.1.1
  have hF := hV.1
  have hI := hV.2.2.2.2
  have hS0 := hV.2.2.1
  have hn0 : n.2.2.1 = 0 := hn
  have hst := hV.stor hn ht
  have eg0 : stepG tqB T0B now s.2.1 g n = (kaN tqB now g.1 n, ackL tqB T0B now n.2.2.2 g.2.1, ackF tqB T0B now s.2.1 g.2.2) := if_pos ⟨ht, hn⟩
  have hAn : AW now n.2.2.2 := by
    have := hA.2 n (List.mem_append_right _ List.mem_cons_self) hn
    rw [ht] at this
    exact this
  have hA2 : AWq AW (ackL tqB T0B now n.2.2.2 g.2.1) (l1 ++ l2) := (hA.sub (fun a ha => mid_mem ha)).ack hAn
  have ea : aNl (l1 ++ n :: l2) = aNl (l1 ++ l2) + 1 := by rw [aNl_mid, if_pos hn0]
  obtain ⟨p1, p2, p3, p4, -, -⟩ := hpf
  -- a depth gd below K
  have fin : ∀ (K w wh wf : Int) (gd : Nat), NQ K qn qh w wh wf → - (gd : Int) ≤ queueM (enterM s n.2.2.2 (now / 200)) (now / 200) → 1 + (gd : Int) ≤ K → (queueM (enterM s n.2.2.2 (now / 200)) (now / 200) < 0 → ∀ b : Int, 256 * b ≤ lvS s + 2048 → lvS (ackM s n.2.2.2 (now / 200)) ≤ lvS s + 512 → b ≤ prQ j.1 now g.2.1 w wh wf → pf j.1 now (ackL tqB T0B now n.2.2.2 g.2.1) (lvS (ackM s n.2.2.2 (now / 200))) (aNl (l1 ++ l2)) + (b + 5) ≤ pf j.1 now g.2.1 (lvS s) (aNl (l1 ++ l2) + 1)) → ∃ j2, HBd AW now c dl R lo lw hi q n0 (ackM s n.2.2.2 (now / 200)) o (l1 ++ l2) (stepG tqB T0B now s.2.1 g n) j2 ∧ hPq pf n0 now j2.1 (ackM s n.2.2.2 (now / 200), o, l1 ++ l2) (stepG tqB T0B now s.2.1 g n).2.1 ≤ hPq pf n0 now j.1 (s, o, l1 ++ n :: l2) g.2.1 := by
    intro K w wh wf gd hNK hg hKd hb
    obtain ⟨-, X, X2, C, c1, Xh, Ch, ch, hP, hPh⟩ := hNK
    obtain ⟨j2, h2, eg, eo, hc⟩ := HBo.ackC hP hPh hqh hH hn ht hl hr hlp hg hKd hQ hq hR
    refine ⟨j2, ⟨h2, by rw [eg]; exact hA2⟩, ?_⟩
    unfold hPq
    dsimp only
    rw [eg, eo, ea]
    rcases hc with ⟨c1, c2, c3⟩ | ⟨c1, c2, c3, c4, c5⟩
    · have lv := lvS_ack (d := n.2.2.2) (mi := now / 200) hI c3
      have m := p2 (j.1 + 1) j2.1 now (ackL tqB T0B now n.2.2.2 g.2.1) (lvS (ackM s n.2.2.2 (now / 200))) (aNl (l1 ++ l2)) c1
      have k := p3 j.1 now g.1 tqB T0B n.2.2.2 g.2.1 _ _ _ (lvS s) (lvS (ackM s n.2.2.2 (now / 200))) (aNl (l1 ++ l2)) hS0 htz hA.1 hAn
      by_cases z : 8192 ≤ lvS s
      · have a3 := pVo_ack3 (n0 := n0) (mi := now / 200) hF hI hn0 c3 z
        have := k.2 z (lv.2 z)
        omega
      · have := k.1 (by omega) lv.1
        omega
    · have lv := lvS_neg (d := n.2.2.2) (mi := now / 200) hI c2 hg
      have m := p2 j.1 j2.1 now (ackL tqB T0B now n.2.2.2 g.2.1) (lvS (ackM s n.2.2.2 (now / 200))) (aNl (l1 ++ l2)) c1
      have tf := pVo_negf (n0 := n0) hF hI hn0 c2 c3 hg
      have f5 : 256 * s.1 5 ≤ lvS s := by unfold lvS; omega
      have f6 : 0 ≤ s.1 5 := by rw [hF.1]; omega
      -- the cost
      have pr : ∃ b : Int, 256 * b ≤ lvS s + 2048 ∧ b ≤ prQ j.1 now g.2.1 w wh wf ∧ (PVo n0 (ackM s n.2.2.2 (now / 200), o, l1 ++ l2) : Int) ≤ (PVo n0 (s, o, l1 ++ n :: l2) : Int) + (b + 5) := by
        have pw : w ≤ prQ j.1 now g.2.1 w wh wf := by
          unfold prQ
          split <;> omega
        have far : (1 ≤ j.1 ∧ j.1 ≤ 2 ∧ mn2 now g.2.1 + 5 ≤ now / 200 ∧ now / 200 ≤ mn0 now g.2.1 + 1) → (if j.1 = 1 then wh else wf) ≤ prQ j.1 now g.2.1 w wh wf := by
          intro y
          unfold prQ
          rw [if_pos (show mn2 now g.2.1 + 5 ≤ now / 200 ∧ now / 200 ≤ mn0 now g.2.1 + 1 ∧ 1 ≤ j.1 ∧ j.1 ≤ 2 from ⟨y.2.2.1, y.2.2.2, y.1, y.2.1⟩)]
          omega
        generalize prQ j.1 now g.2.1 w wh wf = P at *
        refine ⟨min P ((s.1 5).toNat + 3), by omega, by omega, ?_⟩
        rcases c5 with z | z
        · omega
        · have := far ⟨z.1, z.2.1, z.2.2.1, z.2.2.2.1⟩
          have := z.2.2.2.2
          omega
      obtain ⟨b, b1, b2, b3⟩ := pr
      have := hb c3 b b1 lv b2
      omega
  by_cases hneg : queueM (enterM s n.2.2.2 (now / 200)) (now / 200) < 0
  · have hst1 := hst.1
    rw [eg0] at hst1
    dsimp only at hst1
    have hmn := neg_in hS0 hst1 hneg
    obtain ⟨i, hi1, hi2, hi3⟩ := p4 j.1 now g.1 tqB T0B n.2.2.2 g.2.1 _ _ _ hS0 htz hA.1 hAn hmn
    have hNi := hN i hi1
    have hK1 := hNi.1
    obtain ⟨p, a, b, r, f1, f2, f3, f4, e, he, f5, f6, f7⟩ := SF.neg hst.1 hst.2.1 rfl hneg
    rw [eg0] at f1
    dsimp only at f1
    have hd := hi2 p a b r f1 f2 f4.2 (fun hp => by
      rcases f3 with z | z
      · exfalso
        rw [hp] at f1
        unfold ackL at f1
        rw [List.take_succ_cons, List.nil_append] at f1
        obtain ⟨g1, g2⟩ := List.cons.inj f1
        have e1 : a.1 = now := by rw [← g1]
        obtain ⟨-, -, -, -, h5, -, -⟩ := hS0
        cases hL : g.2.1 with
        | nil => rw [hL] at g2; cases g2
        | cons x M =>
          rw [hL, List.take_succ_cons] at g2
          obtain ⟨g3, -⟩ := List.cons.inj g2
          have k := (h5 x M hL).1
          rw [g3] at k
          have ne : b.1 / 200 ≠ now / 200 := by
            rw [e1] at f2
            omega
          have z : (if b.1 / 200 = now / 200 then omin (s.2.1 (now / 200)) (some n.2.2.2) else s.2.1 (b.1 / 200)) = none := z
          rw [if_neg ne] at z
          exact k z
      · exact z) e he
    refine fin (Ks i) (ws i) (whs i) (wfs i) (Ks i - 1).toNat hNi (by omega) (by omega) (fun _ b b1 lv b2 => ?_)
    exact hi3 (lvS s) (lvS (ackM s n.2.2.2 (now / 200))) b (aNl (l1 ++ l2)) lv b1 b2
  · have hN00 := hN 0 hN0
    have := hN00.1
    exact fin (Ks 0) (ws 0) (whs 0) (wfs 0) 0 hN00 (by omega) (by omega) (fun z => absurd z hneg)
end HBDA
