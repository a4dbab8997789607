/-! Bounds, mode H with a price of what is to come: by drops behind (c), time, latest entries, level (256ths), own acknowledgments on their way -/
def prQ (c : Nat) (now : Int) (L : List EnF) (w wh wf : Int) : Int := if mn2 now L + 5 ≤ now / 200 ∧ now / 200 ≤ mn0 now L + 1 ∧ 1 ≤ c ∧ c ≤ 2 then max w (if c = 1 then wh else wf) else w
/-- not deeper than K2 - 1 -/
def k2Q (K2 d : Int) (L : List EnF) : Prop := ∀ e ∈ L.take 3, d - e.2.2 + 1 ≤ K2
abbrev PFt := Nat → Int → List EnF → Int → Nat → Int
/-- AW: what is known of an acknowledgment by its arrival and delay; om: what a finished packet brings -/
def PFk (pf : PFt) (AW : Int → Int → Prop) (K2 w1 wh1 wf1 w2 wh2 wf2 r : Int) (om : Int → Int) (tz : Int) : Prop :=
  (∀ c now L z z2 a, z2 ≤ max z 512 → pf c now L z2 a ≤ pf c now L z a) ∧
  (∀ c c2 now L z a, c2 ≤ c → pf c2 now L z a ≤ pf c now L z a) ∧
  (∀ (c : Nat) (now ka tq T0 d : Int) (L : List EnF) (fa : Int → Int) (f : Int → Option Int) (la : List Int) (z z2 : Int) (a : Nat), SF now ka tq T0 L fa f la → now ≤ tz → (∀ e ∈ L, AW e.1 e.2.2) → AW now d → (z < 8192 → z2 ≤ z + 512 → pf (c + 1) now (ackL tq T0 now d L) z2 a + 5 ≤ pf c now L z (a + 1)) ∧ (8192 ≤ z → z2 ≤ z + 65 → pf (c + 1) now (ackL tq T0 now d L) z2 a + 3 ≤ pf c now L z (a + 1))) ∧
  (∀ (c : Nat) (now ka tq T0 d : Int) (L : List EnF) (fa : Int → Int) (f : Int → Option Int) (la : List Int) (z z2 b : Int) (a : Nat), SF now ka tq T0 L fa f la → now ≤ tz → (∀ e ∈ L, AW e.1 e.2.2) → AW now d → (mn2 now L < mn0 now L ∨ mn2 now L + 5 ≤ now / 200) → z2 ≤ z + 512 → 256 * b ≤ z + 2048 → (b ≤ prQ c now L w1 wh1 wf1 → pf c now (ackL tq T0 now d L) z2 a + (b + 5) ≤ pf c now L z (a + 1) ∨ k2Q K2 d L) ∧ (k2Q K2 d L → b ≤ prQ c now L w2 wh2 wf2 → pf c now (ackL tq T0 now d L) z2 a + (b + 5) ≤ pf c now L z (a + 1))) ∧
  (∀ c now L z a, pf c now L z (a + 1) ≤ pf c now L z a + om now) ∧
  (∀ (c : Nat) (now ka tq T0 : Int) (L : List EnF) (fa : Int → Int) (f : Int → Option Int) (la : List Int) (z : Int) (a : Nat), SF now ka tq T0 L fa f la → now < tz → pf c (now + 1) L z a ≤ pf c now L z a + r * ((now + 1) / 200 - now / 200))
/-- the numbers of a depth -/
def NQ (K qn qh w wh wf : Int) : Prop := 1 ≤ K ∧ ∃ X X2 C c1 Xh Ch ch : Nat, PHo K qn X X2 C c1 w wf ∧ PHo K qh X Xh Ch ch w wh
def AWq (AW : Int → Int → Prop) (L : List EnF) (l : List NtM) : Prop := (∀ e ∈ L, AW e.1 e.2.2) ∧ ∀ n ∈ l, isA n → AW n.1 n.2.2.2
theorem AWq.sub {AW : Int → Int → Prop} {L : List EnF} {l l2 : List NtM} (h : AWq AW L l) (hs : ∀ n ∈ l2, n ∈ l) : AWq AW L l2 := ⟨h.1, fun n hn => h.2 n (hs n hn)⟩
theorem AWq.app {AW : Int → Int → Prop} {L : List EnF} {l : List NtM} {n : NtM} (h : AWq AW L l) (hn : isA n → AW n.1 n.2.2.2) : AWq AW L (l ++ [n]) := by
  refine ⟨h.1, fun a ha hA => ?_⟩
  rcases List.mem_append.mp ha with q | q
  · exact h.2 a q hA
  · rw [List.mem_singleton] at q
    rw [q] at hA ⊢
    exact hn hA
theorem AWq.ack {AW : Int → Int → Prop} {now tq T0 d : Int} {L : List EnF} {l : List NtM} (h : AWq AW L l) (hd : AW now d) : AWq AW (ackL tq T0 now d L) l := by
  refine ⟨fun e he => ?_, h.2⟩
  rcases List.mem_cons.mp (List.mem_of_mem_take he) with q | q
  · rw [q]; exact hd
  · exact h.1 e q
def HBq (AW : Int → Int → Prop) (now c dl R lo lw hi : Int) (q : Int → Int) (n0 : Int) (s : SdM) (o : List Int) (l : List NtM) (g : Gh) (j : GJh) : Prop := HBo now c dl R lo lw hi q n0 s o l g j ∧ AWq AW g.2.1 l
def hPq (pf : PFt) (n0 now : Int) (c : Nat) (v : SV) (L : List EnF) : Int := (PVo n0 v : Int) + obN n0 v.1 + pf c now L (lvS v.1) (aNl v.2.2)
theorem lvS_lost {s : SdM} {num tk : Int} (hI : sdB tk s) (hk : sW s) : lvS (lostM s num) ≤ lvS s := by
  have hm := mW_256 hI hk
  unfold lvS
  rw [lost_5]
  by_cases z : num < s.1 9
  · rw [mW_st z]
    omega
  · rw [mW_fr z]
    have : halfM (mW s) ≤ mW s := by
      unfold halfM
      split <;> omega
    omega
theorem lvS_ends {s : SdM} {tk : Int} : lvS (endsM s tk) = lvS s := (rs_ends (U := 0) (Lf := 0)).2
theorem lvS_begins {s : SdM} {tk iv : Int} (h0 : 0 ≤ tk) : lvS (beginsM s tk iv) = lvS s := (rs_begins (U := 0) (Lf := 0) h0).2
section HBQ
variable {AW : Int → Int → Prop} {now c dl R lo lw hi q1 qn qh n0 K1 K2 w1 wh1 wf1 w2 wh2 wf2 r tz : Int} {om : Int → Int} {q : Int → Int} {pf : PFt} {s : SdM} {o : List Int} {l l1 l2 : List NtM} {n : NtM} {g : Gh} {j : GJh}
theorem HBq.ack (hN1 : NQ K1 qn qh w1 wh1 wf1) (hN2 : NQ K2 qn qh w2 wh2 wf2) (hqh : qn ≤ 2 * qh) (hpf : PFk pf AW K2 w1 wh1 wf1 w2 wh2 wf2 r om tz) (htz : now ≤ tz) (h : HBq AW now c dl R lo lw hi q n0 s o (l1 ++ n :: l2) g j) (hn : isA n) (ht : n.1 = now) (hl : ∀ a ∈ l1, now < a.1) (hr : ∀ a ∈ l2, now ≤ a.1) (hlp : lsN n0 (l1 ++ l2) (now + R)) (hK : hi - lo + 1 ≤ K1) (hQ : QF q now q1 qn) (hq : hi - lw ≤ q1) (hR : R ≤ 60) :
    ∃ j2, HBq AW now c dl R lo lw hi q n0 (ackM s n.2.2.2 (now / 200)) o (l1 ++ l2) (stepG tqB T0B now s.2.1 g n) j2 ∧ hPq pf n0 now j2.1 (ackM s n.2.2.2 (now / 200), o, l1 ++ l2) (stepG tqB T0B now s.2.1 g n).2.1 ≤ hPq pf n0 now j.1 (s, o, l1 ++ n :: l2) g.2.1 := by
  obtain ⟨hH, hA⟩ := h
  have hLQ := hH.2.2.2.2.2.2.1
  have hV := hH.1.1
  have hF := hV.1
  have hI := hV.2.2.2.2
  have hk := hV.2.2.2.1
  have hS0 := hV.2.2.1
  have hn0 : n.2.2.1 = 0 := hn
  have hAn : AW now n.2.2.2 := by
    have := hA.2 n (List.mem_append_right _ List.mem_cons_self) hn
    rw [ht] at this
    exact this
  have hA2 : AWq AW (ackL tqB T0B now n.2.2.2 g.2.1) (l1 ++ l2) := (hA.sub (fun a ha => mid_mem ha)).ack hAn
  have ea : aNl (l1 ++ n :: l2) = aNl (l1 ++ l2) + 1 := by rw [aNl_mid, if_pos hn0]
  have rl := hLQ.q (now := now) hn
  have hdl := hLQ.2 n (List.mem_append_right _ List.mem_cons_self) hn
  obtain ⟨p1, p2, p3, p4, p5, p6⟩ := hpf
  -- a depth gd below K
  have fin : ∀ (K w wh wf : Int) (gd : Nat), NQ K qn qh w wh wf → - (gd : Int) ≤ queueM (enterM s n.2.2.2 (now / 200)) (now / 200) → 1 + (gd : Int) ≤ K → (∀ b : Int, 256 * b ≤ lvS s + 2048 → b ≤ prQ j.1 now g.2.1 w wh wf → (mn2 now g.2.1 < mn0 now g.2.1 ∨ mn2 now g.2.1 + 5 ≤ now / 200) → pf j.1 now (ackL tqB T0B now n.2.2.2 g.2.1) (lvS (ackM s n.2.2.2 (now / 200))) (aNl (l1 ++ l2)) + (b + 5) ≤ pf j.1 now g.2.1 (lvS s) (aNl (l1 ++ l2) + 1)) → ∃ j2, HBq AW now c dl R lo lw hi q n0 (ackM s n.2.2.2 (now / 200)) o (l1 ++ l2) (stepG tqB T0B now s.2.1 g n) j2 ∧ hPq pf n0 now j2.1 (ackM s n.2.2.2 (now / 200), o, l1 ++ l2) (stepG tqB T0B now s.2.1 g n).2.1 ≤ hPq pf n0 now j.1 (s, o, l1 ++ n :: l2) g.2.1 := by
    intro K w wh wf gd hN hg hKd hb
    obtain ⟨-, X, X2, C, c1, Xh, Ch, ch, hP, hPh⟩ := hN
    obtain ⟨j2, h2, eg, eo, hc⟩ := HBo.ackC hP hPh hqh hH hn ht hl hr hlp hg hKd hQ hq hR
    refine ⟨j2, ⟨h2, by rw [eg]; exact hA2⟩, ?_⟩
    unfold hPq
    dsimp only
    rw [eg, eo, ea]
    rcases hc with ⟨c1, c2, c3⟩ | ⟨c1, c2, c3, c4, c5⟩
    · have lv := lvS_ack (d := n.2.2.2) (mi := now / 200) hI c3
      have m := p2 (j.1 + 1) j2.1 now (ackL tqB T0B now n.2.2.2 g.2.1) (lvS (ackM s n.2.2.2 (now / 200))) (aNl (l1 ++ l2)) c1
      have k := p3 j.1 now g.1 tqB T0B n.2.2.2 g.2.1 _ _ _ (lvS s) (lvS (ackM s n.2.2.2 (now / 200))) (aNl (l1 ++ l2)) hS0 htz hA.1 hAn
      by_cases z : 8192 ≤ lvS s
      · have a3 := pVo_ack3 (n0 := n0) (mi := now / 200) hF hI hn0 c3 z
        have := k.2 z (lv.2 z)
        omega
      · have := k.1 (by omega) lv.1
        omega
    · have lv := lvS_neg (d := n.2.2.2) (mi := now / 200) hI c2 hg
      have m := p2 j.1 j2.1 now (ackL tqB T0B now n.2.2.2 g.2.1) (lvS (ackM s n.2.2.2 (now / 200))) (aNl (l1 ++ l2)) c1
      have tf := pVo_negf (n0 := n0) hF hI hn0 c2 c3 hg
      have f5 : 256 * s.1 5 ≤ lvS s := by unfold lvS; omega
      have f6 : 0 ≤ s.1 5 := by rw [hF.1]; omega
      -- the cost
      have pr : ∃ b : Int, 256 * b ≤ lvS s + 2048 ∧ b ≤ prQ j.1 now g.2.1 w wh wf ∧ (PVo n0 (ackM s n.2.2.2 (now / 200), o, l1 ++ l2) : Int) ≤ (PVo n0 (s, o, l1 ++ n :: l2) : Int) + (b + 5) := by
        have pw : w ≤ prQ j.1 now g.2.1 w wh wf := by
          unfold prQ
          split <;> omega
        have far : (1 ≤ j.1 ∧ j.1 ≤ 2 ∧ mn2 now g.2.1 + 5 ≤ now / 200 ∧ now / 200 ≤ mn0 now g.2.1 + 1) → (if j.1 = 1 then wh else wf) ≤ prQ j.1 now g.2.1 w wh wf := by
          intro y
          unfold prQ
          rw [if_pos (show mn2 now g.2.1 + 5 ≤ now / 200 ∧ now / 200 ≤ mn0 now g.2.1 + 1 ∧ 1 ≤ j.1 ∧ j.1 ≤ 2 from ⟨y.2.2.1, y.2.2.2, y.1, y.2.1⟩)]
          omega
        generalize prQ j.1 now g.2.1 w wh wf = P at *
        refine ⟨min P ((s.1 5).toNat + 3), by omega, by omega, ?_⟩
        rcases c5 with z | z
        · omega
        · have := far ⟨z.1, z.2.1, z.2.2.1, z.2.2.2.1⟩
          have := z.2.2.2.2
          omega
      obtain ⟨b, b1, b2, b3⟩ := pr
      have := hb b b1 b2 c4
      omega
  have lvn : s.1 11 = -1 → lvS (ackM s n.2.2.2 (now / 200)) ≤ lvS s + 512 := fun y => lvS_neg (d := n.2.2.2) (mi := now / 200) (gd := (- queueM (enterM s n.2.2.2 (now / 200)) (now / 200)).toNat) hI y (by omega)
  have lva : lvS (ackM s n.2.2.2 (now / 200)) ≤ lvS s + 512 := by
    by_cases y : s.1 11 = -1
    · exact lvn y
    · exact (lvS_ack (d := n.2.2.2) (mi := now / 200) hI (fun w => absurd w y)).1
  have hne := fun (b : Int) (hb : 256 * b ≤ lvS s + 2048) (hm : mn2 now g.2.1 < mn0 now g.2.1 ∨ mn2 now g.2.1 + 5 ≤ now / 200) => p4 j.1 now g.1 tqB T0B n.2.2.2 g.2.1 _ _ _ (lvS s) (lvS (ackM s n.2.2.2 (now / 200))) b (aNl (l1 ++ l2)) hS0 htz hA.1 hAn hm lva hb
  have hK2 := hN2.1
  by_cases k2 : k2Q K2 n.2.2.2 g.2.1
  · -- all of the latest three near
    have hq2 : - ((K2 - 1).toNat : Int) ≤ queueM (enterM s n.2.2.2 (now / 200)) (now / 200) := by
      have la := hS0.1
      have p := (q_range (s := s) (d := n.2.2.2) (mi := now / 200) (lo := n.2.2.2 - ((K2 - 1).toNat : Int)) (fun x hx => by
        have hx : x ∈ (n.2.2.2 :: s.2.2).take 4 := hx
        rw [List.take_succ_cons, List.mem_cons] at hx
        rcases hx with q | q
        · omega
        · rw [la, ← List.map_take, List.mem_map] at q
          obtain ⟨e, e1, e2⟩ := q
          have := k2 e e1
          omega)).1
      omega
    exact fin K2 w2 wh2 wf2 (K2 - 1).toNat hN2 hq2 (by omega) (fun b b1 b2 hm => (hne b b1 hm).2 k2 b2)
  · exact fin K1 w1 wh1 wf1 (hi - lo).toNat hN1 (by omega) (by omega) (fun b b1 b2 hm => by
      rcases (hne b b1 hm).1 b2 with z | z
      · exact z
      · exact absurd z k2)
end HBQ
