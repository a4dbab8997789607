/-! Bounds, levels by squares, finer: only acknowledgments that raise a level count -/
/-- an acknowledgment of now that raises the level -/
def grw (F now : Int) (s : SdM) (n : NtM) : Nat := if n.1 = now ∧ isA n ∧ s.1 11 = -1 ∧ 0 ≤ queueM (enterM s n.2.2.2 (now / 200)) (now / 200) ∧ lvF F s < lvF F (ackM s n.2.2.2 (now / 200)) then 1 else 0
/-- their number in a tick -/
def grN (F now : Int) : SdM → List NtM → Nat
  | _, [] => 0
  | s, n :: t => grw F now s n + grN F now (hndS now s n) t
theorem grw_no {F now : Int} {s : SdM} {n : NtM} (h : ¬ (n.1 = now ∧ isA n)) : grw F now s n = 0 := if_neg (fun y => h ⟨y.1, y.2.1⟩)
theorem grw_01 {F now : Int} {s : SdM} {n : NtM} : grw F now s n = 0 ∨ grw F now s n = 1 := by
  unfold grw
  split
  · exact Or.inr rfl
  · exact Or.inl rfl
theorem grw_key {F now : Int} {s : SdM} {n : NtM} (h : grw F now s n = 0) (h1 : n.1 = now) (ha : isA n) (hs : s.1 11 = -1) (hq : 0 ≤ queueM (enterM s n.2.2.2 (now / 200)) (now / 200)) : lvF F (ackM s n.2.2.2 (now / 200)) ≤ lvF F s := by
  apply Decidable.byContradiction
  intro y
  have : grw F now s n = 1 := if_pos ⟨h1, ha, hs, hq, by omega⟩
  omega
section SQG
variable {now c dl tq R lo hi jg ts D F dm Q : Int} {i : Nat} {s : SdM} {o : List Int} {l l1 l2 : List NtM} {n : NtM} {g : Gh}
theorem ZE.ack0 (hP : SQn F dm) (h : CA now c dl tq R lo hi jg ts D i s o (l1 ++ n :: l2) g) (hn : isA n) (ht : n.1 = now) (hl : ∀ a ∈ l1, now < a.1) (hr : ∀ a ∈ l2, now ≤ a.1) (hQ : hi - lo ≤ Q) (hQ0 : 0 ≤ Q) (hD : D = 4194304 * Q) (hg0 : grw F now s n = 0) : ZE F now tq jg (ackM s n.2.2.2 (now / 200), o, l1 ++ l2) (stepG tq T0C now s.2.1 g n).2.1 ≤ ZE F now tq jg (s, o, l1 ++ n :: l2) g.2.1 := by
  have h9 := h.ack hn ht hl hr hQ hQ0 hD
  have r1 := PT_rng h
  have r2 := PT_rng h9
  obtain ⟨hV, hR, hJ, hX, -⟩ := h
  have hI := hV.2.2.2.2
  have hS := hV.2.2.1
  have hst := (hV.stor hn ht).1
  have hF1 := fl_mid hV.1
  have eg : stepG tq T0C now s.2.1 g n = (kaN tq now g.1 n, ackL tq T0C now n.2.2.2 g.2.1, ackF tq T0C now s.2.1 g.2.2) := if_pos ⟨ht, hn⟩
  rw [eg] at hst r2 ⊢
  dsimp only at hst r2 ⊢
  have hn1 := nv_ack (now := now) (tq := tq) (T0 := T0C) (d := n.2.2.2) (L := g.2.1) hX.2.2.2.2.2.2
  have h5 : 1 ≤ s.1 5 := by omega
  have e5 : (ackM s n.2.2.2 (now / 200)).1 5 = s.1 5 - 1 := ack_5
  have h8 := hP.1
  have k0 : 0 ≤ kSq dm := by
    unfold kSq
    have := Int.mul_nonneg hP.2.1 hP.2.1
    have := hP.2.1
    omega
  -- what the permissions give
  have pt : PT cS0 0 now tq jg (ackL tq T0C now n.2.2.2 g.2.1) + 12800 * (if mn2 now g.2.1 < jxP now jg then 1 else 0) = PT cS0 0 now tq jg g.2.1 := by
    unfold PT
    rw [hn1]
    push_cast
    split <;> omega
  have le : lvF F (ackM s n.2.2.2 (now / 200)) * 25 + PT cS0 0 now tq jg (ackL tq T0C now n.2.2.2 g.2.1) ≤ lvF F s * 25 + PT cS0 0 now tq jg g.2.1 → ZE F now tq jg (ackM s n.2.2.2 (now / 200), o, l1 ++ l2) (ackL tq T0C now n.2.2.2 g.2.1) ≤ ZE F now tq jg (s, o, l1 ++ n :: l2) g.2.1 := by
    intro y
    unfold ZE
    dsimp only
    omega
  have m0 : (0 : Int) ≤ 12800 * (if mn2 now g.2.1 < jxP now jg then 1 else 0) := by
    split <;> omega
  by_cases hs : s.1 11 = -1
  · have hI' := hI
    unfold sdB at hI'
    by_cases hneg : queueM (enterM s n.2.2.2 (now / 200)) (now / 200) < 0
    · have hm := neg_j hJ hS hst hneg
      have st := (ack_4 (d := n.2.2.2) (mi := now / 200) (g := ((- queueM (enterM s n.2.2.2 (now / 200)) (now / 200)).toNat : Int)) hI hs (by omega) (by omega)).2.1
      refine le ?_
      rw [if_pos hm] at pt
      have : lvF F (ackM s n.2.2.2 (now / 200)) ≤ lvF F s + 512 := by
        unfold lvF lvE
        rw [mW_n hs, mW_ackn hs, e5]
        omega
      omega
    · have key := grw_key hg0 ht hn hs (by omega)
      exact le (by omega)
  · refine le ?_
    have : lvF F (ackM s n.2.2.2 (now / 200)) ≤ lvF F s := by
      unfold lvF lvE
      rw [mW_acks hs, e5]
      omega
    omega
theorem ZE.ackG (hP : SQn F dm) (h : CA now c dl tq R lo hi jg ts D i s o (l1 ++ n :: l2) g) (hn : isA n) (ht : n.1 = now) (hl : ∀ a ∈ l1, now < a.1) (hr : ∀ a ∈ l2, now ≤ a.1) (hQ : hi - lo ≤ Q) (hQ0 : 0 ≤ Q) (hD : D = 4194304 * Q) : ZE F now tq jg (ackM s n.2.2.2 (now / 200), o, l1 ++ l2) (stepG tq T0C now s.2.1 g n).2.1 * ZE F now tq jg (ackM s n.2.2.2 (now / 200), o, l1 ++ l2) (stepG tq T0C now s.2.1 g n).2.1 ≤ ZE F now tq jg (s, o, l1 ++ n :: l2) g.2.1 * ZE F now tq jg (s, o, l1 ++ n :: l2) g.2.1 + kSq dm * (grw F now s n : Int) := by
  rcases grw_01 (F := F) (now := now) (s := s) (n := n) with q | q
  · rw [q]
    have a := ZE.ack0 hP h hn ht hl hr hQ hQ0 hD q
    have b := sq_le (ZE_0 hP (h.ack hn ht hl hr hQ hQ0 hD)) a
    omega
  · rw [q]
    have a := ZE.ack hP h hn ht hl hr hQ hQ0 hD
    omega
theorem ZE.hndG (hP : SQn F dm) (hQ : hi - lo ≤ Q) (hQ0 : 0 ≤ Q) (hD : D = 4194304 * Q) : ∀ (t ks : List NtM) (s : SdM) (g : Gh) (i : Nat), CA now c dl tq R lo hi jg ts D i s o (ks ++ t) g → (∀ a ∈ ks, now < a.1) → (∀ a ∈ t, now ≤ a.1) →
    ∃ g2 i2, CA now c dl tq R lo hi jg ts D i2 (t.foldl (hndS now) s) o (ks ++ t.filter (fun n => decide (n.1 ≠ now))) g2 ∧ ZE F now tq jg (t.foldl (hndS now) s, o, ks ++ t.filter (fun n => decide (n.1 ≠ now))) g2.2.1 * ZE F now tq jg (t.foldl (hndS now) s, o, ks ++ t.filter (fun n => decide (n.1 ≠ now))) g2.2.1 ≤ ZE F now tq jg (s, o, ks ++ t) g.2.1 * ZE F now tq jg (s, o, ks ++ t) g.2.1 + kSq dm * (grN F now s t : Int) := by
  intro t
  induction t with
  | nil =>
    intro ks s g i h _ _
    refine ⟨g, i, h, ?_⟩
    show ZE F now tq jg (s, o, ks ++ []) g.2.1 * ZE F now tq jg (s, o, ks ++ []) g.2.1 ≤ ZE F now tq jg (s, o, ks ++ []) g.2.1 * ZE F now tq jg (s, o, ks ++ []) g.2.1 + kSq dm * ((0 : Nat) : Int)
    omega
  | cons n t ih =>
    intro ks s g i h hks ht
    rw [List.foldl_cons]
    have ht2 : ∀ a ∈ t, now ≤ a.1 := fun a ha => ht a (List.mem_cons_of_mem _ ha)
    have eN : grN F now s (n :: t) = grw F now s n + grN F now (hndS now s n) t := rfl
    rw [eN]
    have eK : kSq dm * ((grw F now s n + grN F now (hndS now s n) t : Nat) : Int) = kSq dm * (grw F now s n : Int) + kSq dm * (grN F now (hndS now s n) t : Int) := by
      push_cast
      rw [Int.mul_add]
    rw [eK]
    by_cases e : n.1 = now
    · rw [List.filter_cons_of_neg (by simp [e])]
      have eh : hndS now s n = reachM s n.2.2.1 n.2.2.2 (now / 200) := if_pos e
      by_cases z : isA n
      · have er : reachM s n.2.2.1 n.2.2.2 (now / 200) = ackM s n.2.2.2 (now / 200) := if_pos z
        rw [eh, er]
        obtain ⟨g3, i3, h3, p3⟩ := ih ks _ _ _ (h.ack z e hks ht2 hQ hQ0 hD) hks ht2
        have a := ZE.ackG hP h z e hks ht2 hQ hQ0 hD
        exact ⟨g3, i3, h3, by omega⟩
      · have er : reachM s n.2.2.1 n.2.2.2 (now / 200) = lostM s n.2.2.2 := if_neg z
        rw [eh, er, grw_no (fun y => z y.2)]
        have a := ZE.lost (F := F) h
        obtain ⟨g3, i3, h3, p3⟩ := ih ks _ _ _ (h.lost z) hks ht2
        have z0 := ZE_0 hP (h.lost z)
        have b := sq_le z0 a
        exact ⟨g3, i3, h3, by omega⟩
    · rw [List.filter_cons_of_pos (by simp [e])]
      have eh : hndS now s n = s := if_neg e
      rw [eh, grw_no (fun y => e y.1)]
      have el : ks ++ n :: t = (ks ++ [n]) ++ t := by simp
      have el2 : ks ++ n :: t.filter (fun n => decide (n.1 ≠ now)) = (ks ++ [n]) ++ t.filter (fun n => decide (n.1 ≠ now)) := by simp
      rw [el] at h
      rw [el, el2]
      have hn := ht n List.mem_cons_self
      obtain ⟨g3, i3, h3, p3⟩ := ih (ks ++ [n]) s g i h (fun a ha => by
        rcases List.mem_append.mp ha with w | w
        · exact hks a w
        · rw [List.mem_singleton] at w
          rw [w]
          omega) ht2
      exact ⟨g3, i3, h3, by omega⟩
end SQG
section SQTG
variable {now c dl tq R lo hi jg ts D F dm Q : Int} {i : Nat} {v : SV} {g : Gh}
theorem LQ.tickG {fw bk iv : Int} {k : Nat} {bs : List Bool} {z : Bool} (hP : SQn F dm) (hQ : hi - lo ≤ Q) (hQ0 : 0 ≤ Q) (hD : D = 4194304 * Q) (h1 : CA now c dl tq R lo hi jg ts D i v.1 v.2.1 v.2.2 g) (h2 : ∀ n ∈ v.2.2, now < n.1) (h0 : 0 ≤ now + 1) (hc : c = bk - v.1.1 2) (hd : dl = fw + v.1.1 2) (hRR : R = fw + bk) (hR1 : 1 ≤ R) (hR2 : R ≤ 200)
    (hs : sndOK (now + 1) (now + 1 + fw + bk) k bs (slowM (hndV (now + 1) v).1 (now + 1) iv, (hndV (now + 1) v).2)) (hz : z = true → (sndV (now + 1) (now + 1 + fw + bk) k bs (slowM (hndV (now + 1) v).1 (now + 1) iv, (hndV (now + 1) v).2)).2.1 ≠ [])
    (hr : z = true → ∀ x t, (sndV (now + 1) (now + 1 + fw + bk) k bs (slowM (hndV (now + 1) v).1 (now + 1) iv, (hndV (now + 1) v).2)).2.1 = x :: t → lo ≤ now + 1 + fw - x + v.1.1 2 ∧ now + 1 + fw - x + v.1.1 2 ≤ hi) :
    ∃ g2 jg2 ts2 i2, CA (now + 1) c dl tq R lo hi jg2 ts2 D i2 (finV (now + 1 + fw) (now + 1 + fw + bk) k z (sndV (now + 1) (now + 1 + fw + bk) k bs (slowM (hndV (now + 1) v).1 (now + 1) iv, (hndV (now + 1) v).2))).1 (finV (now + 1 + fw) (now + 1 + fw + bk) k z (sndV (now + 1) (now + 1 + fw + bk) k bs (slowM (hndV (now + 1) v).1 (now + 1) iv, (hndV (now + 1) v).2))).2.1 (finV (now + 1 + fw) (now + 1 + fw + bk) k z (sndV (now + 1) (now + 1 + fw + bk) k bs (slowM (hndV (now + 1) v).1 (now + 1) iv, (hndV (now + 1) v).2))).2.2 g2 ∧
      (∀ n ∈ (finV (now + 1 + fw) (now + 1 + fw + bk) k z (sndV (now + 1) (now + 1 + fw + bk) k bs (slowM (hndV (now + 1) v).1 (now + 1) iv, (hndV (now + 1) v).2))).2.2, now + 1 < n.1) ∧
      0 ≤ ZE F (now + 1) tq jg2 (finV (now + 1 + fw) (now + 1 + fw + bk) k z (sndV (now + 1) (now + 1 + fw + bk) k bs (slowM (hndV (now + 1) v).1 (now + 1) iv, (hndV (now + 1) v).2))) g2.2.1 ∧
      ZE F (now + 1) tq jg2 (finV (now + 1 + fw) (now + 1 + fw + bk) k z (sndV (now + 1) (now + 1 + fw + bk) k bs (slowM (hndV (now + 1) v).1 (now + 1) iv, (hndV (now + 1) v).2))) g2.2.1 * ZE F (now + 1) tq jg2 (finV (now + 1 + fw) (now + 1 + fw + bk) k z (sndV (now + 1) (now + 1 + fw + bk) k bs (slowM (hndV (now + 1) v).1 (now + 1) iv, (hndV (now + 1) v).2))) g2.2.1 ≤ (ZE F now tq jg v g.2.1 + 128) * (ZE F now tq jg v g.2.1 + 128) + kSq dm * (grN F (now + 1) v.1 v.2.2 : Int) := by
  obtain ⟨hN, hN2⟩ := h1.nxt CSP_0 (Int.le_refl 0)
  have z1 := ZE_0 (o := v.2.1) (l := v.2.2) hP hN
  have p1 : ZE F (now + 1) tq (jgN now jg g.2.1) v g.2.1 ≤ ZE F now tq jg v g.2.1 + 128 := by
    have c0 := cvI_0 (W := 0) CSP_0 (Int.le_refl 0) h1.2.2.2.1.2.1
    unfold ZE
    split at hN2 <;> omega
  have hpt : ∀ a ∈ v.2.2, now + 1 ≤ a.1 := fun a ha => by have := h2 a ha; omega
  obtain ⟨g2, i2, k1, k4⟩ := ZE.hndG (F := F) hP hQ hQ0 hD v.2.2 [] v.1 g (iN now tq jg i g.2.1) hN (fun a ha => by cases ha) hpt
  have e2 : hndV (now + 1) v = (v.2.2.foldl (hndS (now + 1)) v.1, v.2.1, v.2.2.filter (fun n => decide (n.1 ≠ now + 1))) := rfl
  have e3 : ([] : List NtM) ++ v.2.2.filter (fun n => decide (n.1 ≠ now + 1)) = v.2.2.filter (fun n => decide (n.1 ≠ now + 1)) := rfl
  rw [e3] at k1 k4
  have k4 : ZE F (now + 1) tq (jgN now jg g.2.1) (v.2.2.foldl (hndS (now + 1)) v.1, v.2.1, v.2.2.filter (fun n => decide (n.1 ≠ now + 1))) g2.2.1 * ZE F (now + 1) tq (jgN now jg g.2.1) (v.2.2.foldl (hndS (now + 1)) v.1, v.2.1, v.2.2.filter (fun n => decide (n.1 ≠ now + 1))) g2.2.1 ≤ ZE F (now + 1) tq (jgN now jg g.2.1) v g.2.1 * ZE F (now + 1) tq (jgN now jg g.2.1) v g.2.1 + kSq dm * (grN F (now + 1) v.1 v.2.2 : Int) := k4
  rw [e2] at hs hz hr ⊢
  dsimp only at hs hz hr ⊢
  obtain ⟨jg3, i3, m1, m4⟩ := ZE.slow (F := F) (iv := iv) k1 h0
  obtain ⟨ts3, n1, n4, n5⟩ := ZE.snds (F := F) hP (k := k) (ar := now + 1 + fw + bk) (by omega) (by omega) bs (slowM (v.2.2.foldl (hndS (now + 1)) v.1) (now + 1) iv, v.2.1, v.2.2.filter (fun n => decide (n.1 ≠ now + 1))) ts m1 hs
  have f2 : (slowM (v.2.2.foldl (hndS (now + 1)) v.1) (now + 1) iv).1 2 = v.1.1 2 := by
    unfold slowM
    rw [begins_o (by decide) (by decide) (by decide), ends_o (by decide) (by decide) (by decide), hnd_2]
  have hsm : ∀ a ∈ (sndV (now + 1) (now + 1 + fw + bk) k bs (slowM (v.2.2.foldl (hndS (now + 1)) v.1) (now + 1) iv, v.2.1, v.2.2.filter (fun n => decide (n.1 ≠ now + 1)))).2.2, now + 1 < a.1 := by
    intro a ha
    rcases snd_mem _ _ _ ha with y | y
    · have y : a ∈ v.2.2.filter (fun n => decide (n.1 ≠ now + 1)) := y
      rw [List.mem_filter] at y
      have b1 := hpt a y.1
      have b2 := of_decide_eq_true y.2
      omega
    · omega
  dsimp only at n5
  generalize hvs : sndV (now + 1) (now + 1 + fw + bk) k bs (slowM (v.2.2.foldl (hndS (now + 1)) v.1) (now + 1) iv, v.2.1, v.2.2.filter (fun n => decide (n.1 ≠ now + 1))) = vs at *
  have f3 : vs.1.1 2 = v.1.1 2 := by
    rw [← hvs, snd_2]
    exact f2
  have r1 := n1.fin (k := k) (z := z) (fw := fw) (bk := bk) hz (by rw [f3]; exact hc) (by rw [f3]; exact hd) hRR (by rw [f3]; exact hr)
  have evs : (vs.1, vs.2.1, vs.2.2) = vs := rfl
  rw [evs] at r1
  have e1 : (finV (now + 1 + fw) (now + 1 + fw + bk) k z vs).1 = vs.1 := fin_s
  have zf := ZE_0 hP r1
  have ez : ZE F (now + 1) tq jg3 (finV (now + 1 + fw) (now + 1 + fw + bk) k z vs) g2.2.1 = ZE F (now + 1) tq jg3 vs g2.2.1 := by
    unfold ZE
    rw [e1]
  have kk0 : 0 ≤ kSq dm := by
    unfold kSq
    have := Int.mul_nonneg hP.2.1 hP.2.1
    have := hP.2.1
    omega
  have zf2 : 0 ≤ ZE F (now + 1) tq jg3 vs g2.2.1 := by rw [← ez]; exact zf
  refine ⟨g2, jg3, ts3, i3, r1, ?_, zf, ?_⟩
  · intro a ha
    rcases fin_mem ha with w | w
    · exact hsm a w
    · omega
  · rw [ez]
    have a1 := sq_le zf2 (Int.le_trans n4 m4)
    have a2 := sq_le z1 p1
    have v1 : (v.1, v.2.1, v.2.2) = v := rfl
    rw [v1] at a2
    omega
end SQTG
/-- growing acknowledgments of sender k in the next tick; of all senders over ticks -/
def grV (F : Int) (m : MS) (k : Nat) : Nat := grN F (mg m 5 + 1) (vwK k m).1 (vwK k m).2.2
def grT (F : Int) (nS nC : Nat) : Nat → MS → Int
  | 0, _ => 0
  | n + 1, m => grT F nS nC n m + sumN (fun k => (grV F (tkN nS nC n m) k : Int)) nS
theorem grT_0 {F : Int} {nS nC : Nat} {m : MS} : ∀ T : Nat, 0 ≤ grT F nS nC T m := by
  intro T
  induction T with
  | zero => exact Int.le_refl _
  | succ T ih =>
    show 0 ≤ grT F nS nC T m + sumN (fun k => (grV F (tkN nS nC T m) k : Int)) nS
    have := sumN_le (f := fun _ => (0 : Int)) (g := fun k => (grV F (tkN nS nC T m) k : Int)) nS (fun k _ => by omega)
    have z := sumN_c 0 nS
    omega
section LQSG
variable {nS nC k : Nat} {m : MS} {tq lo hi : Nat → Int} {F dm Q Z : Int}
theorem LQ1.tickG (hP : SQn F dm) (hk : k < nS) (hQ : hi k - lo k ≤ Q) (hQ0 : 0 ≤ Q) (h4 : nS ≤ 4) (h : LQ1 F Q m (tq k) (lo k) (hi k) k Z) (h0 : 0 ≤ mg m 5 + 1) (hR1 : 1 ≤ mg m 2 + mg m 3) (hR2 : mg m 2 + mg m 3 ≤ 200) (hf : frOK nS nC m lo hi) : ∃ Z2, 0 ≤ Z2 ∧ LQ1 F Q (tickM nS nC m) (tq k) (lo k) (hi k) k Z2 ∧ Z2 * Z2 ≤ (Z + 128) * (Z + 128) + kSq dm * (grV F m k : Int) := by
  obtain ⟨g, jg, ts, i, c1, c2, c3⟩ := h
  obtain ⟨bs, z, h1, h2, h3, h5, h6, h7⟩ := tick_vo (nC := nC) hk h4 (m := m)
  have e2 := tick_s2 (nC := nC) hk h4 (m := m)
  have g2 := tick_g (nS := nS) (nC := nC) (m := m) (i := 2) (by decide) (by decide) (by decide) (by decide) (by decide) (by decide)
  have g3 := tick_g (nS := nS) (nC := nC) (m := m) (i := 3) (by decide) (by decide) (by decide) (by decide) (by decide) (by decide)
  have g5 := tick_g5 (nS := nS) (nC := nC) (m := m)
  have hr : z = true → ∀ x t, (sndV (mg m 5 + 1) (mg m 5 + 1 + mg m 2 + mg m 3) k bs (slowM (hndV (mg m 5 + 1) (vwK k m)).1 (mg m 5 + 1) (mg m 4), (hndV (mg m 5 + 1) (vwK k m)).2)).2.1 = x :: t → lo k ≤ mg m 5 + 1 + mg m 2 - x + (vwK k m).1.1 2 ∧ mg m 5 + 1 + mg m 2 - x + (vwK k m).1.1 2 ≤ hi k := by
    intro hz x t hx
    rw [h7] at hx
    rw [h5] at hz
    exact hf k hk hz x t hx
  have ef : (fnB k (beginM (midM nS nC m)) = true) = (z = true) := by rw [h5]
  have z0 := ZE_0 hP c1
  obtain ⟨g9, jg9, ts9, i9, d1, d2, d3, d4⟩ := LQ.tickG (iv := mg m 4) hP hQ hQ0 rfl c1 c2 h0 rfl rfl rfl hR1 hR2 h1 h6 hr
  rw [← h2] at d1 d2 d3 d4
  refine ⟨_, d3, ⟨g9, jg9, ts9, i9, ?_, ?_, ?_⟩, ?_⟩
  · rw [g2, g3, g5, e2]
    exact d1
  · rw [g5]
    exact d2
  · rw [g5]
    exact Int.le_refl _
  · have d4 : _ ≤ _ + kSq dm * (grV F m k : Int) := d4
    have z0 : 0 ≤ ZE F (mg m 5) (tq k) jg (vwK k m) g.2.1 := z0
    have := sq_le (a := ZE F (mg m 5) (tq k) jg (vwK k m) g.2.1 + 128) (b := Z + 128) (by omega) (by omega)
    omega
end LQSG
def SqG (nS : Nat) (e Z : Nat → Int) : Int := sumN (fun k => e k * (Z k * Z k)) nS
section LQRG
variable {nS nC : Nat} {m : MS} {tq lo hi : Nat → Int} {F dm Q : Int}
theorem LQ1.runG (hP : SQn F dm) (hQ : ∀ k, k < nS → hi k - lo k ≤ Q) (hQ0 : 0 ≤ Q) (h4 : nS ≤ 4) {Z : Nat → Int} (h : ∀ k, k < nS → LQ1 F Q m (tq k) (lo k) (hi k) k (Z k)) (h0 : 0 ≤ mg m 5 + 1) (hR1 : 1 ≤ mg m 2 + mg m 3) (hR2 : mg m 2 + mg m 3 ≤ 200) : ∀ T : Nat, (∀ i, i < T → frOK nS nC (tkN nS nC i m) lo hi) → ∃ Z2 : Nat → Int, (∀ k, k < nS → LQ1 F Q (tkN nS nC T m) (tq k) (lo k) (hi k) k (Z2 k)) ∧ ∀ (e : Nat → Int) (y D0 : Int), (∀ k, k < nS → e k = 0 ∨ e k = 1) → sumN e nS ≤ 3 → 0 ≤ y → 0 ≤ D0 → SqG nS e Z + D0 ≤ 3 * (y * y) → (y * y) * (SqG nS e Z2 + D0) ≤ (3 * (y * y) + kSq dm * grT F nS nC T m) * ((y + 128 * T) * (y + 128 * T)) := by
  have kk0 : 0 ≤ kSq dm := by
    unfold kSq
    have := Int.mul_nonneg hP.2.1 hP.2.1
    have := hP.2.1
    omega
  intro T
  induction T with
  | zero =>
    intro _
    refine ⟨Z, h, fun e y D0 _ _ hy hD0 hS => ?_⟩
    have e0 : grT F nS nC 0 m = 0 := rfl
    rw [e0, Int.mul_zero, Int.add_zero, show y + 128 * ((0 : Nat) : Int) = y by omega]
    have := Int.mul_le_mul_of_nonneg_left hS (sq_nn y)
    rw [Int.mul_comm (3 * (y * y))]
    exact this
  | succ T ih =>
    intro hf
    obtain ⟨Z1, hL, hB⟩ := ih (fun i hi => hf i (by omega))
    have g2 := tkN_g (nS := nS) (nC := nC) (m := m) (i := 2) (by decide) (by decide) (by decide) (by decide) (by decide) (by decide) T
    have g3 := tkN_g (nS := nS) (nC := nC) (m := m) (i := 3) (by decide) (by decide) (by decide) (by decide) (by decide) (by decide) T
    have g5 := tkN_5 (nS := nS) (nC := nC) (m := m) T
    have et : tkN nS nC (T + 1) m = tickM nS nC (tkN nS nC T m) := rfl
    have ef : grT F nS nC (T + 1) m = grT F nS nC T m + sumN (fun k => (grV F (tkN nS nC T m) k : Int)) nS := rfl
    have hfT := hf T (by omega)
    have hW := grT_0 (F := F) (nS := nS) (nC := nC) (m := m) T
    rw [et, ef]
    generalize grT F nS nC T m = W at *
    generalize tkN nS nC T m = x at *
    have hx : ∀ k, ∃ z : Int, k < nS → (LQ1 F Q (tickM nS nC x) (tq k) (lo k) (hi k) k z ∧ z * z ≤ (Z1 k + 128) * (Z1 k + 128) + kSq dm * (grV F x k : Int)) := by
      intro k
      by_cases hk : k < nS
      · obtain ⟨z, -, z2, z3⟩ := LQ1.tickG (nC := nC) (tq := tq) (lo := lo) (hi := hi) hP hk (hQ k hk) hQ0 h4 (hL k hk) (by rw [g5]; omega) (by rw [g2, g3]; exact hR1) (by rw [g2, g3]; exact hR2) hfT
        exact ⟨z, fun _ => ⟨z2, z3⟩⟩
      · exact ⟨0, fun q => absurd q hk⟩
    obtain ⟨Z2, hZ2⟩ := Classical.axiomOfChoice hx
    have gx0 : 0 ≤ sumN (fun k => (grV F x k : Int)) nS := by
      have := sumN_le (f := fun _ => (0 : Int)) (g := fun k => (grV F x k : Int)) nS (fun k _ => by omega)
      have z := sumN_c 0 nS
      omega
    refine ⟨Z2, fun k hk => (hZ2 k hk).1, fun e y D0 he hN hy hD0 hS => ?_⟩
    generalize hgx : sumN (fun k => (grV F x k : Int)) nS = gx at *
    have hb := hB e y D0 he hN hy hD0 hS
    -- the sum behind the tick
    have st : SqG nS e Z2 ≤ SqG nS e Z1 + 256 * sumN (fun k => e k * Z1 k) nS + 16384 * sumN e nS + kSq dm * gx := by
      have a1 : SqG nS e Z2 ≤ sumN (fun k => (e k * (Z1 k * Z1 k) + 256 * (e k * Z1 k)) + (16384 * e k + kSq dm * (grV F x k : Int))) nS := by
        refine sumN_le nS (fun k hk => ?_)
        have b := (hZ2 k hk).2
        have ex : (Z1 k + 128) * (Z1 k + 128) = Z1 k * Z1 k + 256 * Z1 k + 16384 := by
          rw [Int.add_mul, Int.mul_add]
          omega
        rw [ex] at b
        have f0 : 0 ≤ kSq dm * (grV F x k : Int) := Int.mul_nonneg kk0 (by omega)
        rcases he k hk with q | q
        · rw [q, Int.zero_mul, Int.zero_mul, Int.zero_mul]
          omega
        · rw [q, Int.one_mul, Int.one_mul, Int.one_mul]
          omega
      rw [sumN_add, sumN_add, sumN_add, sumN_mul, sumN_mul, sumN_mul, hgx] at a1
      unfold SqG at a1 ⊢
      omega
    have f1 : 0 ≤ gx := gx0
    have hsq : sumN (fun k => e k * (Z1 k * Z1 k)) nS ≤ SqG nS e Z1 := Int.le_refl _
    have hc := sq_cauchy (Z := Z1) he hN
    have kf0 : 0 ≤ kSq dm * gx := Int.mul_nonneg kk0 f1
    have kW : 0 ≤ kSq dm * W := Int.mul_nonneg kk0 hW
    have s := sq_step (A := y * y) (C := 3 * (y * y) + kSq dm * W) (y := y + 128 * T) (P := SqG nS e Z1 + D0) (S := sumN (fun k => e k * Z1 k) nS) (N := sumN e nS) (kf := kSq dm * gx) (sq_nn y) (by omega) (by omega) (sq_le hy (by omega)) (by omega) hN kf0 hb
    have s2 := Int.mul_le_mul_of_nonneg_left (show SqG nS e Z2 + D0 ≤ SqG nS e Z1 + D0 + 256 * sumN (fun k => e k * Z1 k) nS + 16384 * sumN e nS + kSq dm * gx by omega) (sq_nn y)
    have e1 : (y + 128 * ((T + 1 : Nat) : Int)) = y + 128 * T + 128 := by
      push_cast
      omega
    have e2 : 3 * (y * y) + kSq dm * (W + gx) = 3 * (y * y) + kSq dm * W + kSq dm * gx := by
      rw [Int.mul_add]
      omega
    rw [e1, e2]
    omega
end LQRG
