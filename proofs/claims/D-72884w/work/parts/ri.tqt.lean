/-! Bounds, trials: a window's potential over ticks -/
def tqH (W : Nat → Nat → Int → Int) (X D Tw a0 now : Int) (v : SV) (L : List EnF) : Int := tqPot W X D Tw a0 now v L + 4096 * (aNl v.2.2 : Int)
section TQK
variable {now c dl R lo1 lo2 hi r Tw a0 : Int} {o : List Int} {K X D Qd : Int} {ee ee2 : Nat → Int} {W W2 : Nat → Nat → Int → Int} {md md2 : Nat}
theorem TQq.hnd (hP : TPc K X D ee W) (hMD : MDp md Qd X D ee) (hQ : hi - lo2 ≤ Qd) (hQ0 : 0 ≤ Qd) (hK : hi - lo1 + 1 ≤ K) (hnow : now ≤ tqB) (ha0 : now ≤ a0) : ∀ (t ks : List NtM) (s : SdM) (g : Gh), GB now c dl R lo1 lo2 hi s o (ks ++ t) g → (∀ a ∈ ks, now < a.1) → (∀ a ∈ t, now ≤ a.1) → 256 * s.1 5 ≤ X + D → IV md ee now s (vF (s, o, ks ++ t)) g.2.1 →
    ∃ g2, GB now c dl R lo1 lo2 hi (t.foldl (hndS now) s) o (ks ++ t.filter (fun n => decide (n.1 ≠ now))) g2 ∧ tqH W X D Tw a0 now (t.foldl (hndS now) s, o, ks ++ t.filter (fun n => decide (n.1 ≠ now))) g2.2.1 ≤ tqH W X D Tw a0 now (s, o, ks ++ t) g.2.1 + 65536 * (frN now s t : Int) ∧ g2.1 = g.1 ∧ IV md ee now (t.foldl (hndS now) s) (vF (t.foldl (hndS now) s, o, ks ++ t.filter (fun n => decide (n.1 ≠ now)))) g2.2.1 := by
  intro t
  induction t with
  | nil =>
    intro ks s g h _ _ _ hIV
    refine ⟨g, h, ?_, rfl, hIV⟩
    show tqH W X D Tw a0 now (s, o, ks ++ []) g.2.1 ≤ tqH W X D Tw a0 now (s, o, ks ++ []) g.2.1 + 65536 * ((0 : Nat) : Int)
    omega
  | cons n t ih =>
    intro ks s g h hks ht hcap hIV
    have h50 : 0 ≤ s.1 5 := by
      have := h.1.2.2.2.2
      unfold sdB at this
      omega
    rw [List.foldl_cons]
    have ef : frN now s (n :: t) = (if n.1 = now ∧ ¬ isA n ∧ ¬ n.2.2.2 < s.1 9 then 1 else 0) + frN now (hndS now s n) t := rfl
    rw [ef]
    have ht2 : ∀ a ∈ t, now ≤ a.1 := fun a ha => ht a (List.mem_cons_of_mem _ ha)
    by_cases e : n.1 = now
    · rw [List.filter_cons_of_neg (by simp [e])]
      have eh : hndS now s n = reachM s n.2.2.1 n.2.2.2 (now / 200) := if_pos e
      by_cases z : isA n
      · have er : reachM s n.2.2.1 n.2.2.2 (now / 200) = ackM s n.2.2.2 (now / 200) := if_pos z
        rw [eh, er]
        have p2 := tq_ack (Tw := Tw) (a0 := a0) hP h z e hK hcap (hIV.fl hMD hcap h50)
        have hIV2 := hIV.ack (Lf := vF (s, o, ks ++ n :: t)) hMD h z e hQ hQ0
        rw [(ack_uf (s := s) (o := o) (l1 := ks) (l2 := t) (mi := now / 200) z).2] at hIV2
        have h2 : GB now c dl R lo1 lo2 hi (ackM s n.2.2.2 (now / 200)) o (ks ++ t) (stepG tqB T0B now s.2.1 g n) := ⟨h.1.ack z e hks ht2, h.2.ack z⟩
        have e5 : (ackM s n.2.2.2 (now / 200)).1 5 = s.1 5 - 1 := ack_5
        obtain ⟨g3, h3, p3, q3, i3⟩ := ih ks _ _ h2 hks ht2 (by omega) hIV2
        refine ⟨g3, h3, ?_, q3.trans (stepG_1 hnow), i3⟩
        have ea : aNl (ks ++ n :: t) = aNl (ks ++ t) + 1 := by
          have z : n.2.2.1 = 0 := z
          rw [aNl_mid, if_pos z]
        have hn0 : ¬ (n.1 = now ∧ ¬ isA n ∧ ¬ n.2.2.2 < s.1 9) := fun y => y.2.1 z
        rw [if_neg hn0]
        have a1 : tqH W X D Tw a0 now (s, o, ks ++ n :: t) g.2.1 = tqPot W X D Tw a0 now (s, o, ks ++ n :: t) g.2.1 + 4096 * (aNl (ks ++ n :: t) : Int) := rfl
        have a2 : tqH W X D Tw a0 now (ackM s n.2.2.2 (now / 200), o, ks ++ t) (stepG tqB T0B now s.2.1 g n).2.1 = tqPot W X D Tw a0 now (ackM s n.2.2.2 (now / 200), o, ks ++ t) (stepG tqB T0B now s.2.1 g n).2.1 + 4096 * (aNl (ks ++ t) : Int) := rfl
        rw [ea] at a1
        rw [Nat.zero_add]
        push_cast at a1
        omega
      · have er : reachM s n.2.2.1 n.2.2.2 (now / 200) = lostM s n.2.2.2 := if_neg z
        rw [eh, er]
        have p2 := tq_lost (Tw := Tw) (a0 := a0) hP h z
        have h2 : GB now c dl R lo1 lo2 hi (lostM s n.2.2.2) o (ks ++ t) g := ⟨h.1.lost z, h.2.lost⟩
        have e5 : (lostM s n.2.2.2).1 5 = s.1 5 - 1 := lost_5
        obtain ⟨g3, h3, p3, q3, i3⟩ := ih ks _ _ h2 hks ht2 (by omega) (hIV.mono (tE_lost h.1.1 h.1.2.2.2.2 h.1.2.2.2.1 z))
        refine ⟨g3, h3, ?_, q3, i3⟩
        have ea : aNl (ks ++ n :: t) = aNl (ks ++ t) := by
          have z : ¬ n.2.2.1 = 0 := z
          rw [aNl_mid, if_neg z]
          rfl
        have a1 : tqH W X D Tw a0 now (s, o, ks ++ n :: t) g.2.1 = tqPot W X D Tw a0 now (s, o, ks ++ n :: t) g.2.1 + 4096 * (aNl (ks ++ n :: t) : Int) := rfl
        have a2 : tqH W X D Tw a0 now (lostM s n.2.2.2, o, ks ++ t) g.2.1 = tqPot W X D Tw a0 now (lostM s n.2.2.2, o, ks ++ t) g.2.1 + 4096 * (aNl (ks ++ t) : Int) := rfl
        rw [ea] at a1
        by_cases y : n.2.2.2 < s.1 9
        · rw [if_pos y] at p2
          rw [if_neg (fun w => w.2.2 y), Nat.zero_add]
          omega
        · rw [if_neg y] at p2
          rw [if_pos ⟨e, z, y⟩]
          push_cast
          omega
    · rw [List.filter_cons_of_pos (by simp [e])]
      have eh : hndS now s n = s := if_neg e
      rw [eh, if_neg (fun y => e y.1), Nat.zero_add]
      have el : ks ++ n :: t = (ks ++ [n]) ++ t := by simp
      have el2 : ks ++ n :: t.filter (fun n => decide (n.1 ≠ now)) = (ks ++ [n]) ++ t.filter (fun n => decide (n.1 ≠ now)) := by simp
      rw [el] at h hIV
      rw [el, el2]
      have hn := ht n List.mem_cons_self
      exact ih (ks ++ [n]) s g h (fun a ha => by
        rcases List.mem_append.mp ha with w | w
        · exact hks a w
        · rw [List.mem_singleton] at w
          rw [w]
          omega) ht2 hcap hIV
theorem TQq.snds (hP : TPc K X D ee W) {k : Nat} {ar : Int} {g : Gh} (hTw : Tw < now) (har : a0 < ar) : ∀ (bs : List Bool) (v : SV), GB now c dl R lo1 lo2 hi v.1 v.2.1 v.2.2 g → sndOK now ar k bs v → GB now c dl R lo1 lo2 hi (sndV now ar k bs v).1 (sndV now ar k bs v).2.1 (sndV now ar k bs v).2.2 g ∧ tqH W X D Tw a0 now (sndV now ar k bs v) g.2.1 + 8192 * (bs.length : Int) ≤ tqH W X D Tw a0 now v g.2.1 := by
  intro bs
  induction bs with
  | nil =>
    intro v h _
    refine ⟨h, ?_⟩
    show tqH W X D Tw a0 now v g.2.1 + 4096 * ((0 : Nat) : Int) ≤ _
    omega
  | cons b bs ih =>
    intro v h ho
    obtain ⟨hw, ho⟩ := ho
    have p2 := tq_snd (k := k) (b := b) (ar := ar) hP h hw hTw har
    have h2 : GB now c dl R lo1 lo2 hi (snd1 now ar k b v).1 (snd1 now ar k b v).2.1 (snd1 now ar k b v).2.2 g := by
      refine ⟨h.1.snd hw, ?_⟩
      cases b with
      | true => exact h.2.same rfl
      | false => exact RG2.app (h.2.same (s2 := sentM v.1) rfl) (fun z => absurd z (show ¬ (1 : Int) = 0 by decide))
    obtain ⟨h3, p3⟩ := ih (snd1 now ar k b v) h2 ho
    refine ⟨h3, ?_⟩
    have ea : aNl (snd1 now ar k b v).2.2 = aNl v.2.2 := by
      cases b with
      | true => rfl
      | false =>
        show aNl (v.2.2 ++ [(ar, k, 1, v.1.1 6)]) = aNl v.2.2
        rw [aNl_app, if_neg (show ¬ (1 : Int) = 0 by decide)]
        rfl
    have a1 : tqH W X D Tw a0 now v g.2.1 = tqPot W X D Tw a0 now v g.2.1 + 4096 * (aNl v.2.2 : Int) := rfl
    have a2 : tqH W X D Tw a0 now (snd1 now ar k b v) g.2.1 = tqPot W X D Tw a0 now (snd1 now ar k b v) g.2.1 + 4096 * (aNl (snd1 now ar k b v).2.2 : Int) := rfl
    rw [ea] at a2
    have p3 : tqH W X D Tw a0 now (sndV now ar k (b :: bs) v) g.2.1 + 8192 * (bs.length : Int) ≤ tqH W X D Tw a0 now (snd1 now ar k b v) g.2.1 := p3
    have p2 : tqPot W X D Tw a0 now (snd1 now ar k b v) g.2.1 + 8192 ≤ tqPot W X D Tw a0 now v g.2.1 := p2
    rw [List.length_cons]
    push_cast
    omega
theorem TQq.tick {fw bk iv : Int} {v : SV} {g : Gh} {k : Nat} {bs : List Bool} {z : Bool} (hP : TPc K X D ee W) (hP2 : TPc K X D ee2 W2) (hB : ((now + 1) / 200 = now / 200 ∧ W2 = W) ∨ ((now + 1) / 200 = now / 200 + 1 ∧ TBd D W W2)) (hMD : MDp md2 Qd X D ee2) (hIV : IV md2 ee2 (now + 1) v.1 (vF v) g.2.1) (hQ : hi - lo2 ≤ Qd) (hQ0 : 0 ≤ Qd) (hK : hi - lo1 + 1 ≤ K) (hcap : 256 * v.1.1 5 ≤ X + D) (h : GBb now c dl R lo1 lo2 hi v g) (h0 : 0 ≤ now + 1) (hnow : now + 1 ≤ tqB) (hR1 : 1 ≤ R) (hTw : Tw < now + 1) (ha0 : now + 1 ≤ a0) (har : a0 < now + 1 + R) (hc : c = bk - v.1.1 2) (hd : dl = fw + v.1.1 2) (hRR : R = fw + bk)
    (hs : sndOK (now + 1) (now + 1 + fw + bk) k bs (slowM (hndV (now + 1) v).1 (now + 1) iv, (hndV (now + 1) v).2)) (hz : z = true → (sndV (now + 1) (now + 1 + fw + bk) k bs (slowM (hndV (now + 1) v).1 (now + 1) iv, (hndV (now + 1) v).2)).2.1 ≠ [])
    (hr : z = true → ∀ x t, (sndV (now + 1) (now + 1 + fw + bk) k bs (slowM (hndV (now + 1) v).1 (now + 1) iv, (hndV (now + 1) v).2)).2.1 = x :: t → lo2 ≤ now + 1 + fw - x + v.1.1 2 ∧ now + 1 + fw - x + v.1.1 2 ≤ hi) :
    ∃ g2, GBb (now + 1) c dl R lo1 lo2 hi (finV (now + 1 + fw) (now + 1 + fw + bk) k z (sndV (now + 1) (now + 1 + fw + bk) k bs (slowM (hndV (now + 1) v).1 (now + 1) iv, (hndV (now + 1) v).2))) g2 ∧ tqH W2 X D Tw a0 (now + 1) (finV (now + 1 + fw) (now + 1 + fw + bk) k z (sndV (now + 1) (now + 1 + fw + bk) k bs (slowM (hndV (now + 1) v).1 (now + 1) iv, (hndV (now + 1) v).2))) g2.2.1 + 8192 * (bs.length : Int) ≤ tqH W X D Tw a0 now v g.2.1 + 65536 * (frN (now + 1) v.1 v.2.2 : Int) + 12288 * (if z = true then 1 else 0) ∧ IV md2 ee2 (now + 1) (finV (now + 1 + fw) (now + 1 + fw + bk) k z (sndV (now + 1) (now + 1 + fw + bk) k bs (slowM (hndV (now + 1) v).1 (now + 1) iv, (hndV (now + 1) v).2))).1 (vF (finV (now + 1 + fw) (now + 1 + fw + bk) k z (sndV (now + 1) (now + 1 + fw + bk) k bs (slowM (hndV (now + 1) v).1 (now + 1) iv, (hndV (now + 1) v).2)))) g2.2.1 := by
  obtain ⟨hI, hp, hGR⟩ := h
  have p1 := tq_nxt (Tw := Tw) (a0 := a0) hP hI hB
  have h1 : GB (now + 1) c dl R lo1 lo2 hi v.1 v.2.1 v.2.2 g := ⟨hI.1.nxt, hI.2.nxt⟩
  have hpt : ∀ a ∈ v.2.2, now + 1 ≤ a.1 := fun a ha => by have := hp a ha; omega
  obtain ⟨g2, h2', p2, k5, i2⟩ := TQq.hnd (Tw := Tw) (a0 := a0) hP2 hMD hQ hQ0 hK hnow ha0 v.2.2 [] v.1 g h1 (fun a ha => by cases ha) hpt hcap hIV
  have e2 : hndV (now + 1) v = (v.2.2.foldl (hndS (now + 1)) v.1, v.2.1, [] ++ v.2.2.filter (fun n => decide (n.1 ≠ now + 1))) := rfl
  rw [e2] at hs hz hr ⊢
  dsimp only at hs hz hr ⊢
  have hk2 : ∀ a ∈ [] ++ v.2.2.filter (fun n => decide (n.1 ≠ now + 1)), now + 1 < a.1 ∧ a ∈ v.2.2 := by
    intro a ha
    rw [List.nil_append, List.mem_filter] at ha
    have b1 := hpt a ha.1
    have b2 := of_decide_eq_true ha.2
    exact ⟨by omega, ha.1⟩
  have h3 : GB (now + 1) c dl R lo1 lo2 hi (endsM (v.2.2.foldl (hndS (now + 1)) v.1) (now + 1)) v.2.1 ([] ++ v.2.2.filter (fun n => decide (n.1 ≠ now + 1))) g2 := by
    refine ⟨h2'.1.ends, RG2.only h2'.2 ?_ ?_⟩
    · unfold endsM
      split
      · rfl
      · split <;> rfl
    · intro j w hj
      unfold endsM at hj
      split at hj
      · exact hj
      · split at hj
        · exact hj
        · exact only_sub hj
  have h4 : GB (now + 1) c dl R lo1 lo2 hi (slowM (v.2.2.foldl (hndS (now + 1)) v.1) (now + 1) iv) v.2.1 ([] ++ v.2.2.filter (fun n => decide (n.1 ≠ now + 1))) g2 := by
    refine ⟨h3.1.begins h0, RG2.same h3.2 ?_⟩
    unfold slowM beginsM
    split <;> rfl
  have p3 := tq_ends (W := W2) (X := X) (D := D) (Tw := Tw) (a0 := a0) (now := now + 1) (s := v.2.2.foldl (hndS (now + 1)) v.1) (o := v.2.1) (l := [] ++ v.2.2.filter (fun n => decide (n.1 ≠ now + 1))) (g := g2)
  have p4 := tq_begins (W := W2) (X := X) (D := D) (Tw := Tw) (a0 := a0) (now := now + 1) (iv := iv) (s := endsM (v.2.2.foldl (hndS (now + 1)) v.1) (now + 1)) (o := v.2.1) (l := [] ++ v.2.2.filter (fun n => decide (n.1 ≠ now + 1))) (g := g2) h0
  obtain ⟨h5, p5⟩ := TQq.snds (Tw := Tw) (a0 := a0) hP2 (k := k) (ar := now + 1 + fw + bk) hTw (by omega) bs (slowM (v.2.2.foldl (hndS (now + 1)) v.1) (now + 1) iv, v.2.1, [] ++ v.2.2.filter (fun n => decide (n.1 ≠ now + 1))) h4 hs
  have f2 : (slowM (v.2.2.foldl (hndS (now + 1)) v.1) (now + 1) iv).1 2 = v.1.1 2 := by
    unfold slowM
    rw [begins_o (by decide) (by decide) (by decide), ends_o (by decide) (by decide) (by decide), hnd_2]
  generalize hvs : sndV (now + 1) (now + 1 + fw + bk) k bs (slowM (v.2.2.foldl (hndS (now + 1)) v.1) (now + 1) iv, v.2.1, [] ++ v.2.2.filter (fun n => decide (n.1 ≠ now + 1))) = vs at *
  have f3 : vs.1.1 2 = v.1.1 2 := by
    rw [← hvs, snd_2]
    exact f2
  have h6 := VM.fin (k := k) (z := z) (fw := fw) (bk := bk) h5.1 hz (by rw [f3]; exact hc) (by rw [f3]; exact hd) hRR
  have h6' : GB (now + 1) c dl R lo1 lo2 hi (finV (now + 1 + fw) (now + 1 + fw + bk) k z vs).1 (finV (now + 1 + fw) (now + 1 + fw + bk) k z vs).2.1 (finV (now + 1 + fw) (now + 1 + fw + bk) k z vs).2.2 g2 := by
    refine ⟨h6, ?_⟩
    cases z with
    | false => exact h5.2
    | true =>
      cases ho : vs.2.1 with
      | nil => exact absurd ho (hz rfl)
      | cons x t =>
        rw [fin_t ho]
        refine RG2.app h5.2 (fun _ => ?_)
        have := hr rfl x t ho
        rw [f3]
        exact this
  have p6 := tq_fin (W := W2) (X := X) (D := D) (Tw := Tw) (a0 := a0) (now := now + 1) (s := vs.1) (o := vs.2.1) (l := vs.2.2) (g := g2) (k := k) (z := z) (fw := fw) (bk := bk) hz
  have evs : (vs.1, vs.2.1, vs.2.2) = vs := rfl
  rw [evs] at p6
  have i3 : IV md2 ee2 (now + 1) (slowM (v.2.2.foldl (hndS (now + 1)) v.1) (now + 1) iv) (vF (slowM (v.2.2.foldl (hndS (now + 1)) v.1) (now + 1) iv, v.2.1, [] ++ v.2.2.filter (fun n => decide (n.1 ≠ now + 1)))) g2.2.1 := by
    refine i2.mono ?_
    have ev : vF (slowM (v.2.2.foldl (hndS (now + 1)) v.1) (now + 1) iv, v.2.1, [] ++ v.2.2.filter (fun n => decide (n.1 ≠ now + 1))) = vF (v.2.2.foldl (hndS (now + 1)) v.1, v.2.1, [] ++ v.2.2.filter (fun n => decide (n.1 ≠ now + 1))) := by
      show lFl ((slowM (v.2.2.foldl (hndS (now + 1)) v.1) (now + 1) iv).1 9) _ = lFl ((v.2.2.foldl (hndS (now + 1)) v.1).1 9) _
      unfold slowM
      rw [begins_o (by decide) (by decide) (by decide), ends_o (by decide) (by decide) (by decide)]
    rw [ev]
    unfold slowM
    rw [tE_begins h0, tE_ends]
    exact Int.le_refl _
  have i4 : IV md2 ee2 (now + 1) vs.1 (vF vs) g2.2.1 := by
    rw [← hvs]
    exact IV.snds bs _ h4 hs i3
  refine ⟨g2, ⟨h6', ?_, by unfold GR at hGR ⊢; rw [k5]; exact hGR⟩, ?_, ?_⟩
  · intro a ha
    rcases fin_mem ha with w | w
    · rw [← hvs] at w
      rcases snd_mem _ _ _ w with y | y
      · exact (hk2 a y).1
      · omega
    · omega
  · have an := aNl_finE (du := now + 1 + fw) (ar := now + 1 + fw + bk) (k := k) (z := z) (v := vs) hz
    have q1 : tqH W X D Tw a0 now v g.2.1 = tqPot W X D Tw a0 now (v.1, v.2.1, v.2.2) g.2.1 + 4096 * (aNl v.2.2 : Int) := rfl
    have q1' : tqH W2 X D Tw a0 (now + 1) (v.1, v.2.1, [] ++ v.2.2) g.2.1 = tqPot W2 X D Tw a0 (now + 1) (v.1, v.2.1, v.2.2) g.2.1 + 4096 * (aNl v.2.2 : Int) := rfl
    have q2 : tqH W2 X D Tw a0 (now + 1) (v.2.2.foldl (hndS (now + 1)) v.1, v.2.1, [] ++ v.2.2.filter (fun n => decide (n.1 ≠ now + 1))) g2.2.1 = tqPot W2 X D Tw a0 (now + 1) (v.2.2.foldl (hndS (now + 1)) v.1, v.2.1, [] ++ v.2.2.filter (fun n => decide (n.1 ≠ now + 1))) g2.2.1 + 4096 * (aNl ([] ++ v.2.2.filter (fun n => decide (n.1 ≠ now + 1))) : Int) := rfl
    have q4 : tqH W2 X D Tw a0 (now + 1) (slowM (v.2.2.foldl (hndS (now + 1)) v.1) (now + 1) iv, v.2.1, [] ++ v.2.2.filter (fun n => decide (n.1 ≠ now + 1))) g2.2.1 = tqPot W2 X D Tw a0 (now + 1) (beginsM (endsM (v.2.2.foldl (hndS (now + 1)) v.1) (now + 1)) (now + 1) iv, v.2.1, [] ++ v.2.2.filter (fun n => decide (n.1 ≠ now + 1))) g2.2.1 + 4096 * (aNl ([] ++ v.2.2.filter (fun n => decide (n.1 ≠ now + 1))) : Int) := rfl
    have q5 : tqH W2 X D Tw a0 (now + 1) vs g2.2.1 = tqPot W2 X D Tw a0 (now + 1) vs g2.2.1 + 4096 * (aNl vs.2.2 : Int) := rfl
    have q6 : tqH W2 X D Tw a0 (now + 1) (finV (now + 1 + fw) (now + 1 + fw + bk) k z vs) g2.2.1 = tqPot W2 X D Tw a0 (now + 1) (finV (now + 1 + fw) (now + 1 + fw + bk) k z vs) g2.2.1 + 4096 * (aNl (finV (now + 1 + fw) (now + 1 + fw + bk) k z vs).2.2 : Int) := rfl
    rw [an] at q6
    rw [q2, q1'] at p2
    rw [q4, q5] at p5
    rw [q6, q1]
    have ez : ((aNl vs.2.2 + (if z = true then 1 else 0) : Nat) : Int) = (aNl vs.2.2 : Int) + (if z = true then 1 else 0) := by
      split <;> simp
    rw [ez]
    have e8 : (if z = true then (8192 : Int) else 0) = 8192 * (if z = true then (1 : Int) else 0) := by split <;> rfl
    rw [e8] at p6
    omega
  · refine i4.mono ?_
    rw [fin_s, vF_fin hz]
    exact Int.le_refl _
end TQK
