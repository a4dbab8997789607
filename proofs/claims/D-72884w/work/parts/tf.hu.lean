/-! Bounds, mode H: how it is entered. Unsent since t0 (losses on their way come in by t0 + R), or in mode H -/
/-- the ghosts, with ND -/
def GN (now c dl R lo1 lo2 hi : Int) (s : SdM) (o : List Int) (l : List NtM) (g : Gh) : Prop := GB now c dl R lo1 lo2 hi s o l g ∧ ND g.2.1 s.2.1
def HU (now c dl R lo hi t0 : Int) (s : SdM) (o : List Int) (l : List NtM) (g : Gh) : Prop := GN now c dl R lo lo hi s o l g ∧ lsB l (t0 + R)
def HW (now c dl R lo hi q t0 : Int) (s : SdM) (o : List Int) (l : List NtM) (g : Gh) : Prop := (∃ j, HB now c dl R lo hi q s o l g j) ∨ HU now c dl R lo hi t0 s o l g
section GNE
variable {now c dl R lo1 lo2 hi : Int} {s : SdM} {o : List Int} {l l1 l2 : List NtM} {n : NtM} {g : Gh}
theorem GN.ack (h : GN now c dl R lo1 lo2 hi s o (l1 ++ n :: l2) g) (hn : isA n) (ht : n.1 = now) (hl : ∀ a ∈ l1, now < a.1) (hr : ∀ a ∈ l2, now ≤ a.1) : GN now c dl R lo1 lo2 hi (ackM s n.2.2.2 (now / 200)) o (l1 ++ l2) (stepG tqB T0B now s.2.1 g n) := by
  obtain ⟨⟨hV, hRg⟩, hND⟩ := h
  have hS0 := hV.2.2.1
  have hV2 := hV.ack hn ht hl hr
  have eg : stepG tqB T0B now s.2.1 g n = (kaN tqB now g.1 n, ackL tqB T0B now n.2.2.2 g.2.1, ackF tqB T0B now s.2.1 g.2.2) := if_pos ⟨ht, hn⟩
  have hgl : (stepG tqB T0B now s.2.1 g n).2.1 = ackL tqB T0B now n.2.2.2 g.2.1 := by rw [eg]
  refine ⟨⟨hV2, hRg.ack hn⟩, ?_⟩
  rw [hgl]
  exact hND.ack hS0
theorem GN.lost (h : GN now c dl R lo1 lo2 hi s o (l1 ++ n :: l2) g) (hn : ¬ isA n) : GN now c dl R lo1 lo2 hi (lostM s n.2.2.2) o (l1 ++ l2) g := by
  obtain ⟨⟨hV, hR⟩, hND⟩ := h
  have e2 : (lostM s n.2.2.2).2 = s.2 := rfl
  refine ⟨⟨hV.lost hn, hR.lost⟩, ?_⟩
  rw [e2]; exact hND
theorem GN.snd {k : Nat} {b : Bool} {ar : Int} (h : GN now c dl R lo1 lo2 hi s o l g) (hw : wantsM s) : GN now c dl R lo1 lo2 hi (snd1 now ar k b (s, o, l)).1 (snd1 now ar k b (s, o, l)).2.1 (snd1 now ar k b (s, o, l)).2.2 g := by
  obtain ⟨⟨hV, hR⟩, hND⟩ := h
  have es : (snd1 now ar k b (s, o, l)).1 = sentM s := by
    cases b <;> rfl
  refine ⟨⟨hV.snd hw, ?_⟩, ?_⟩
  · cases b with
    | true => exact hR.same rfl
    | false => exact RG2.app (hR.same (s2 := sentM s) rfl) (fun z => absurd z (show ¬ (1 : Int) = 0 by decide))
  · rw [es]; exact hND
theorem GN.fin {k : Nat} {z : Bool} {fw bk : Int} (h : GN now c dl R lo1 lo2 hi s o l g) (hz : z = true → o ≠ []) (hc : c = bk - s.1 2) (hd : dl = fw + s.1 2) (hR : R = fw + bk) (hr : z = true → ∀ x t, o = x :: t → lo2 ≤ now + fw - x + s.1 2 ∧ now + fw - x + s.1 2 ≤ hi) : GN now c dl R lo1 lo2 hi (finV (now + fw) (now + fw + bk) k z (s, o, l)).1 (finV (now + fw) (now + fw + bk) k z (s, o, l)).2.1 (finV (now + fw) (now + fw + bk) k z (s, o, l)).2.2 g := by
  have hG2 := GB.fin (M := 1) (kT := 0) (U1 := 0) (C1 := 2) (Z := 4) (X := 40) (k := k) (z := z) h.1 hz hc hd hR hr
  refine ⟨hG2.1, ?_⟩
  rw [fin_s]
  exact h.2
theorem GN.ends (h : GN now c dl R lo1 lo2 hi s o l g) : GN now c dl R lo1 lo2 hi (endsM s now) o l g := by
  obtain ⟨⟨hV, hR⟩, hND⟩ := h
  have hV2 := hV.ends
  have hR2 : RG2 now lo1 lo2 hi (endsM s now) l := by
    refine RG2.only hR ?_ ?_
    · unfold endsM
      split
      · rfl
      · split <;> rfl
    · intro i v hi
      unfold endsM at hi
      split at hi
      · exact hi
      · split at hi
        · exact hi
        · exact only_sub hi
  refine ⟨⟨hV2, hR2⟩, ?_⟩
  unfold endsM
  split
  · exact hND
  · split
    · exact hND
    · exact hND.only hV.2.2.1
theorem GN.begins {iv : Int} (h : GN now c dl R lo1 lo2 hi s o l g) (h0 : 0 ≤ now) : GN now c dl R lo1 lo2 hi (beginsM s now iv) o l g := by
  obtain ⟨⟨hV, hRg⟩, hND⟩ := h
  have hV2 := hV.begins (iv := iv) h0
  have e2 : (beginsM s now iv).2 = s.2 := by
    unfold beginsM
    split <;> rfl
  refine ⟨⟨hV2, hRg.same (by rw [e2])⟩, ?_⟩
  rw [e2]; exact hND
theorem GN.nxt (h : GN now c dl R lo1 lo2 hi s o l g) : GN (now + 1) c dl R lo1 lo2 hi s o l g := ⟨⟨h.1.1.nxt, h.1.2.nxt⟩, h.2⟩
end GNE
section GNT
variable {now c dl R lo1 lo2 hi : Int} {o : List Int}
theorem GN.hnd (hnow : now ≤ tqB) : ∀ (t ks : List NtM) (s : SdM) (g : Gh), GN now c dl R lo1 lo2 hi s o (ks ++ t) g → (∀ a ∈ ks, now < a.1) → (∀ a ∈ t, now ≤ a.1) →
    ∃ g2, GN now c dl R lo1 lo2 hi (t.foldl (hndS now) s) o (ks ++ t.filter (fun n => decide (n.1 ≠ now))) g2 ∧ g2.1 = g.1 := by
  intro t
  induction t with
  | nil =>
    intro ks s g h _ _
    exact ⟨g, h, rfl⟩
  | cons n t ih =>
    intro ks s g h hks ht
    rw [List.foldl_cons]
    have ht2 : ∀ a ∈ t, now ≤ a.1 := fun a ha => ht a (List.mem_cons_of_mem _ ha)
    by_cases e : n.1 = now
    · rw [List.filter_cons_of_neg (by simp [e])]
      have eh : hndS now s n = reachM s n.2.2.1 n.2.2.2 (now / 200) := if_pos e
      by_cases z : isA n
      · have er : reachM s n.2.2.1 n.2.2.2 (now / 200) = ackM s n.2.2.2 (now / 200) := if_pos z
        rw [eh, er]
        have k1 : (stepG tqB T0B now s.2.1 g n).1 = g.1 := by
          unfold stepG
          rw [if_pos ⟨e, z⟩]
          show kaN tqB now g.1 n = g.1
          unfold kaN
          rw [if_neg (fun y => by have := y.2.2; omega)]
        obtain ⟨g3, h3, k3⟩ := ih ks _ _ (h.ack z e hks ht2) hks ht2
        exact ⟨g3, h3, k3.trans k1⟩
      · have er : reachM s n.2.2.1 n.2.2.2 (now / 200) = lostM s n.2.2.2 := if_neg z
        rw [eh, er]
        exact ih ks _ _ (h.lost z) hks ht2
    · rw [List.filter_cons_of_pos (by simp [e])]
      have eh : hndS now s n = s := if_neg e
      rw [eh]
      have el : ks ++ n :: t = (ks ++ [n]) ++ t := by simp
      have el2 : ks ++ n :: t.filter (fun n => decide (n.1 ≠ now)) = (ks ++ [n]) ++ t.filter (fun n => decide (n.1 ≠ now)) := by simp
      rw [el] at h
      rw [el2]
      have hn := ht n List.mem_cons_self
      exact ih (ks ++ [n]) s g h (fun a ha => by
        rcases List.mem_append.mp ha with w | w
        · exact hks a w
        · rw [List.mem_singleton] at w
          rw [w]
          omega) ht2
theorem GN.snds {k : Nat} {ar : Int} : ∀ (bs : List Bool) (s : SdM) (o : List Int) (l : List NtM) (g : Gh), GN now c dl R lo1 lo2 hi s o l g → sndOK now ar k bs (s, o, l) → GN now c dl R lo1 lo2 hi (sndV now ar k bs (s, o, l)).1 (sndV now ar k bs (s, o, l)).2.1 (sndV now ar k bs (s, o, l)).2.2 g := by
  intro bs
  induction bs with
  | nil =>
    intro s o l g h _
    exact h
  | cons b bs ih =>
    intro s o l g h ho
    obtain ⟨hw, ho⟩ := ho
    exact ih _ _ _ g (h.snd (k := k) (b := b) (ar := ar) hw) ho
def GNb (now c dl R lo1 lo2 hi : Int) (v : SV) (g : Gh) : Prop := GBb now c dl R lo1 lo2 hi v g ∧ ND g.2.1 v.1.2.1
theorem GNb.tick {fw bk iv : Int} {v : SV} {g : Gh} {k : Nat} {bs : List Bool} {z : Bool} (h : GNb now c dl R lo1 lo2 hi v g) (h0 : 0 ≤ now + 1) (hnow : now + 1 ≤ tqB) (hR1 : 1 ≤ R) (hc : c = bk - v.1.1 2) (hd : dl = fw + v.1.1 2) (hRR : R = fw + bk)
    (hs : sndOK (now + 1) (now + 1 + fw + bk) k bs (slowM (hndV (now + 1) v).1 (now + 1) iv, (hndV (now + 1) v).2)) (hz : z = true → (sndV (now + 1) (now + 1 + fw + bk) k bs (slowM (hndV (now + 1) v).1 (now + 1) iv, (hndV (now + 1) v).2)).2.1 ≠ [])
    (hr : z = true → ∀ x t, (sndV (now + 1) (now + 1 + fw + bk) k bs (slowM (hndV (now + 1) v).1 (now + 1) iv, (hndV (now + 1) v).2)).2.1 = x :: t → lo2 ≤ now + 1 + fw - x + v.1.1 2 ∧ now + 1 + fw - x + v.1.1 2 ≤ hi) :
    ∃ g2, GNb (now + 1) c dl R lo1 lo2 hi (finV (now + 1 + fw) (now + 1 + fw + bk) k z (sndV (now + 1) (now + 1 + fw + bk) k bs (slowM (hndV (now + 1) v).1 (now + 1) iv, (hndV (now + 1) v).2))) g2 := by
  obtain ⟨⟨hI, hp, hGR⟩, hND⟩ := h
  have h1 : GN (now + 1) c dl R lo1 lo2 hi v.1 v.2.1 v.2.2 g := GN.nxt ⟨hI, hND⟩
  have hpt : ∀ a ∈ v.2.2, now + 1 ≤ a.1 := fun a ha => by have := hp a ha; omega
  obtain ⟨g2, h2, k5⟩ := GN.hnd hnow v.2.2 [] v.1 g h1 (fun a ha => by cases ha) hpt
  have e2 : hndV (now + 1) v = (v.2.2.foldl (hndS (now + 1)) v.1, v.2.1, [] ++ v.2.2.filter (fun n => decide (n.1 ≠ now + 1))) := rfl
  rw [e2] at hs hz hr ⊢
  dsimp only at hs hz hr ⊢
  have hk2 : ∀ a ∈ [] ++ v.2.2.filter (fun n => decide (n.1 ≠ now + 1)), now + 1 < a.1 := by
    intro a ha
    rw [List.nil_append, List.mem_filter] at ha
    have b1 := hpt a ha.1
    have b2 := of_decide_eq_true ha.2
    omega
  have h4 : GN (now + 1) c dl R lo1 lo2 hi (slowM (v.2.2.foldl (hndS (now + 1)) v.1) (now + 1) iv) v.2.1 ([] ++ v.2.2.filter (fun n => decide (n.1 ≠ now + 1))) g2 := h2.ends.begins (iv := iv) h0
  have h5 := GN.snds bs _ _ _ g2 h4 hs
  have f2 : (slowM (v.2.2.foldl (hndS (now + 1)) v.1) (now + 1) iv).1 2 = v.1.1 2 := by
    unfold slowM
    rw [begins_o (by decide) (by decide) (by decide), ends_o (by decide) (by decide) (by decide), hnd_2]
  generalize hvs : sndV (now + 1) (now + 1 + fw + bk) k bs (slowM (v.2.2.foldl (hndS (now + 1)) v.1) (now + 1) iv, v.2.1, [] ++ v.2.2.filter (fun n => decide (n.1 ≠ now + 1))) = vs at *
  have f3 : vs.1.1 2 = v.1.1 2 := by
    rw [← hvs, snd_2]
    exact f2
  have evs : (vs.1, vs.2.1, vs.2.2) = vs := rfl
  have h6 := h5.fin (k := k) (z := z) (fw := fw) (bk := bk) hz (by rw [f3]; exact hc) (by rw [f3]; exact hd) hRR (by rw [f3]; exact hr)
  rw [evs] at h6
  refine ⟨g2, ⟨h6.1, ?_, by unfold GR at hGR ⊢; rw [k5]; exact hGR⟩, h6.2⟩
  intro a ha
  rcases fin_mem ha with x | x
  · rw [← hvs] at x
    rcases snd_mem _ _ _ x with y | y
    · exact hk2 a y
    · omega
  · omega
end GNT
section HUE
variable {now c dl R lo hi q K w t0 : Int} {s : SdM} {o : List Int} {l l1 l2 : List NtM} {n : NtM} {g : Gh} {X X2 C w1 : Nat}
theorem HU.snd {k : Nat} {b : Bool} {ar : Int} (h : HU now c dl R lo hi t0 s o l g) (hw : wantsM s) : HB now c dl R lo hi q (snd1 now ar k b (s, o, l)).1 (snd1 now ar k b (s, o, l)).2.1 (snd1 now ar k b (s, o, l)).2.2 g (0, 0, now, 0) := by
  obtain ⟨⟨⟨hV, hR⟩, hND⟩, -⟩ := h
  have hI := hV.2.2.2.2
  have hk := hV.2.2.2.1
  have hI2 := hI
  unfold sdB at hI2
  have es : (snd1 now ar k b (s, o, l)).1 = sentM s := by
    cases b <;> rfl
  refine ⟨⟨hV.snd hw, ?_⟩, ?_, ?_, ?_, fun _ z => ?_⟩
  · cases b with
    | true => exact hR.same rfl
    | false => exact RG2.app (hR.same (s2 := sentM s) rfl) (fun z => absurd z (show ¬ (1 : Int) = 0 by decide))
  · intro _
    refine Or.inl ⟨rfl, Or.inr ?_⟩
    show tE (snd1 now ar k b (s, o, l)).1 (vF (snd1 now ar k b (s, o, l))) = 0
    rw [es]
    exact tE_sent hk hw hI2.2.2.2.1
  · intro z
    have z : (snd1 now ar k b (s, o, l)).1.1 11 ≠ -1 := z
    rw [es, sent_o (by decide) (by decide)] at z
    left
    show (snd1 now ar k b (s, o, l)).1.1 5 ≤ 2
    rw [es, sent_5]
    have a := (hk z).1
    have b := hw.2
    omega
  · rw [es]; exact hND
  · exact absurd z (by dsimp only; omega)
theorem HU.fin {k : Nat} {z : Bool} {fw bk : Int} (h : HU now c dl R lo hi t0 s o l g) (hz : z = true → o ≠ []) (hc : c = bk - s.1 2) (hd : dl = fw + s.1 2) (hR : R = fw + bk) (hr : z = true → ∀ x t, o = x :: t → lo ≤ now + fw - x + s.1 2 ∧ now + fw - x + s.1 2 ≤ hi) : HU now c dl R lo hi t0 (finV (now + fw) (now + fw + bk) k z (s, o, l)).1 (finV (now + fw) (now + fw + bk) k z (s, o, l)).2.1 (finV (now + fw) (now + fw + bk) k z (s, o, l)).2.2 g := by
  refine ⟨h.1.fin hz hc hd hR hr, fun a ha hA => ?_⟩
  rcases fin_mem ha with x | x
  · exact h.2 a x hA
  · exact absurd x.2.1 hA
/-- R ticks behind t0: mode H -/
theorem HU.late (h : HU now c dl R lo hi t0 s o l g) (hp : ∀ n ∈ l, now < n.1) (ht : t0 + R ≤ now) : HB now c dl R lo hi q s o l g (0, 0, now, 0) := by
  obtain ⟨⟨hG, hND⟩, hls⟩ := h
  have hA : ∀ a ∈ l, isA a := by
    intro a ha
    apply Decidable.byContradiction
    intro y
    have a1 : a.1 ≤ t0 + R := hls a ha y
    have := hp a ha
    omega
  exact ⟨hG, fun _ => Or.inl ⟨rfl, Or.inl (few_none hA)⟩, fun _ => Or.inr (fun a ha hy => absurd (hA a ha) hy), hND, fun _ z => absurd z (by dsimp only; omega)⟩
end HUE
section HWE
variable {now c dl R lo hi q K w t0 : Int} {o : List Int} {X X2 C w1 : Nat}
theorem HW.hnd (hP : PHs K q X X2 C w1 w) (hK : hi - lo + 1 ≤ K) (hq : hi - lo ≤ q) (hR : R ≤ 60) (hnow : now ≤ tqB) : ∀ (t ks : List NtM) (s : SdM) (g : Gh), HW now c dl R lo hi q t0 s o (ks ++ t) g → (∀ a ∈ ks, now < a.1) → (∀ a ∈ t, now ≤ a.1) → lsB (ks ++ t) (now + R) →
    ∃ g2, HW now c dl R lo hi q t0 (t.foldl (hndS now) s) o (ks ++ t.filter (fun n => decide (n.1 ≠ now))) g2 ∧ g2.1 = g.1 := by
  intro t
  induction t with
  | nil =>
    intro ks s g h _ _ _
    exact ⟨g, h, rfl⟩
  | cons n t ih =>
    intro ks s g h hks ht hl
    rw [List.foldl_cons]
    have ht2 : ∀ a ∈ t, now ≤ a.1 := fun a ha => ht a (List.mem_cons_of_mem _ ha)
    by_cases e : n.1 = now
    · rw [List.filter_cons_of_neg (by simp [e])]
      have eh : hndS now s n = reachM s n.2.2.1 n.2.2.2 (now / 200) := if_pos e
      have hl2 : lsB (ks ++ t) (now + R) := hl.sub (fun a ha => mid_mem ha)
      by_cases z : isA n
      · have er : reachM s n.2.2.1 n.2.2.2 (now / 200) = ackM s n.2.2.2 (now / 200) := if_pos z
        rw [eh, er]
        have h2 : HW now c dl R lo hi q t0 (ackM s n.2.2.2 (now / 200)) o (ks ++ t) (stepG tqB T0B now s.2.1 g n) := by
          rcases h with ⟨j, h⟩ | h
          · obtain ⟨j2, h2, -⟩ := h.ack hP z e hks ht2 hl2 hK hq hR
            exact Or.inl ⟨j2, h2⟩
          · exact Or.inr ⟨h.1.ack z e hks ht2, h.2.sub (fun a ha => mid_mem ha)⟩
        have k1 : (stepG tqB T0B now s.2.1 g n).1 = g.1 := by
          unfold stepG
          rw [if_pos ⟨e, z⟩]
          show kaN tqB now g.1 n = g.1
          unfold kaN
          rw [if_neg (fun y => by have := y.2.2; omega)]
        obtain ⟨g3, h3, k3⟩ := ih ks _ _ h2 hks ht2 hl2
        exact ⟨g3, h3, k3.trans k1⟩
      · have er : reachM s n.2.2.1 n.2.2.2 (now / 200) = lostM s n.2.2.2 := if_neg z
        rw [eh, er]
        have h2 : HW now c dl R lo hi q t0 (lostM s n.2.2.2) o (ks ++ t) g := by
          rcases h with ⟨j, h⟩ | h
          · exact Or.inl ⟨j, (h.lost (w := w) z).1⟩
          · exact Or.inr ⟨h.1.lost z, h.2.sub (fun a ha => mid_mem ha)⟩
        exact ih ks _ _ h2 hks ht2 hl2
    · rw [List.filter_cons_of_pos (by simp [e])]
      have eh : hndS now s n = s := if_neg e
      rw [eh]
      have el : ks ++ n :: t = (ks ++ [n]) ++ t := by simp
      have el2 : ks ++ n :: t.filter (fun n => decide (n.1 ≠ now)) = (ks ++ [n]) ++ t.filter (fun n => decide (n.1 ≠ now)) := by simp
      rw [el] at h hl
      rw [el2]
      have hn := ht n List.mem_cons_self
      exact ih (ks ++ [n]) s g h (fun a ha => by
        rcases List.mem_append.mp ha with w | w
        · exact hks a w
        · rw [List.mem_singleton] at w
          rw [w]
          omega) ht2 hl
theorem HW.snds (hw0 : 0 ≤ w) {k : Nat} {ar : Int} : ∀ (bs : List Bool) (s : SdM) (o : List Int) (l : List NtM) (g : Gh), HW now c dl R lo hi q t0 s o l g → sndOK now ar k bs (s, o, l) → HW now c dl R lo hi q t0 (sndV now ar k bs (s, o, l)).1 (sndV now ar k bs (s, o, l)).2.1 (sndV now ar k bs (s, o, l)).2.2 g := by
  intro bs
  induction bs with
  | nil =>
    intro s o l g h _
    exact h
  | cons b bs ih =>
    intro s o l g h ho
    obtain ⟨hw, ho⟩ := ho
    refine ih _ _ _ g ?_ ho
    rcases h with ⟨j, h⟩ | h
    · exact Or.inl ⟨_, (h.snd (k := k) (b := b) (ar := ar) (w := w) hw).1⟩
    · exact Or.inl ⟨_, h.snd hw⟩
/-- a view in mode H or before it -/
def HWb (now c dl R lo hi q t0 : Int) (v : SV) (g : Gh) : Prop := HW now c dl R lo hi q t0 v.1 v.2.1 v.2.2 g ∧ (∀ n ∈ v.2.2, now < n.1) ∧ lsB v.2.2 (now + R) ∧ GR g
theorem HWb.tick {fw bk iv : Int} {v : SV} {g : Gh} {k : Nat} {bs : List Bool} {z : Bool} (hP : PHs K q X X2 C w1 w) (hK : hi - lo + 1 ≤ K) (hq : hi - lo ≤ q) (h : HWb now c dl R lo hi q t0 v g) (h0 : 0 ≤ now + 1) (hnow : now + 1 ≤ tqB) (hR : R ≤ 60) (hc : c = bk - v.1.1 2) (hd : dl = fw + v.1.1 2) (hRR : R = fw + bk)
    (hs : sndOK (now + 1) (now + 1 + fw + bk) k bs (slowM (hndV (now + 1) v).1 (now + 1) iv, (hndV (now + 1) v).2)) (hz : z = true → (sndV (now + 1) (now + 1 + fw + bk) k bs (slowM (hndV (now + 1) v).1 (now + 1) iv, (hndV (now + 1) v).2)).2.1 ≠ [])
    (hr : z = true → ∀ x t, (sndV (now + 1) (now + 1 + fw + bk) k bs (slowM (hndV (now + 1) v).1 (now + 1) iv, (hndV (now + 1) v).2)).2.1 = x :: t → lo ≤ now + 1 + fw - x + v.1.1 2 ∧ now + 1 + fw - x + v.1.1 2 ≤ hi) (hR1 : 1 ≤ R) :
    ∃ g2, HWb (now + 1) c dl R lo hi q t0 (finV (now + 1 + fw) (now + 1 + fw + bk) k z (sndV (now + 1) (now + 1 + fw + bk) k bs (slowM (hndV (now + 1) v).1 (now + 1) iv, (hndV (now + 1) v).2))) g2 := by
  obtain ⟨hI, hp, hl, hGR⟩ := h
  have hw0 : 0 ≤ w := by have := hP.2.2.2.2.2.2.1; omega
  have h1 : HW (now + 1) c dl R lo hi q t0 v.1 v.2.1 v.2.2 g := by
    rcases hI with ⟨j, h⟩ | h
    · exact Or.inl ⟨j, (h.nxt hw0).1⟩
    · exact Or.inr ⟨h.1.nxt, h.2⟩
  have hpt : ∀ a ∈ v.2.2, now + 1 ≤ a.1 := fun a ha => by have := hp a ha; omega
  have hl1 : lsB v.2.2 (now + 1 + R) := fun a ha hA => by have := hl a ha hA; omega
  obtain ⟨g2, h2, k5⟩ := HW.hnd hP hK hq hR hnow v.2.2 [] v.1 g h1 (fun a ha => by cases ha) hpt hl1
  have e2 : hndV (now + 1) v = (v.2.2.foldl (hndS (now + 1)) v.1, v.2.1, [] ++ v.2.2.filter (fun n => decide (n.1 ≠ now + 1))) := rfl
  rw [e2] at hs hz hr ⊢
  dsimp only at hs hz hr ⊢
  have hk2 : ∀ a ∈ [] ++ v.2.2.filter (fun n => decide (n.1 ≠ now + 1)), now + 1 < a.1 ∧ a ∈ v.2.2 := by
    intro a ha
    rw [List.nil_append, List.mem_filter] at ha
    have b1 := hpt a ha.1
    have b2 := of_decide_eq_true ha.2
    exact ⟨by omega, ha.1⟩
  have hP3 : lsB ([] ++ v.2.2.filter (fun n => decide (n.1 ≠ now + 1))) (now + 1 - 1 + R) := fun a ha hA => by
    have := hl a (hk2 a ha).2 hA
    omega
  have h4 : HW (now + 1) c dl R lo hi q t0 (slowM (v.2.2.foldl (hndS (now + 1)) v.1) (now + 1) iv) v.2.1 ([] ++ v.2.2.filter (fun n => decide (n.1 ≠ now + 1))) g2 := by
    rcases h2 with ⟨j, h⟩ | h
    · obtain ⟨j3, h3, -⟩ := h.ends (w := w) (fun a ha => (hk2 a ha).1)
      exact Or.inl ⟨j3, (h3.begins (iv := iv) (w := w) h0 hP3 hR).1⟩
    · exact Or.inr ⟨h.1.ends.begins (iv := iv) h0, h.2⟩
  have h5 := HW.snds hw0 bs _ _ _ g2 h4 hs
  have f2 : (slowM (v.2.2.foldl (hndS (now + 1)) v.1) (now + 1) iv).1 2 = v.1.1 2 := by
    unfold slowM
    rw [begins_o (by decide) (by decide) (by decide), ends_o (by decide) (by decide) (by decide), hnd_2]
  generalize hvs : sndV (now + 1) (now + 1 + fw + bk) k bs (slowM (v.2.2.foldl (hndS (now + 1)) v.1) (now + 1) iv, v.2.1, [] ++ v.2.2.filter (fun n => decide (n.1 ≠ now + 1))) = vs at *
  have f3 : vs.1.1 2 = v.1.1 2 := by
    rw [← hvs, snd_2]
    exact f2
  refine ⟨g2, ?_, ?_, ?_, by unfold GR at hGR ⊢; rw [k5]; exact hGR⟩
  · have evs : (vs.1, vs.2.1, vs.2.2) = vs := rfl
    rcases h5 with ⟨j, h⟩ | h
    · have h6 := (h.fin (k := k) (z := z) (fw := fw) (bk := bk) (w := w) hz (by rw [f3]; exact hc) (by rw [f3]; exact hd) hRR (by rw [f3]; exact hr)).1
      rw [evs] at h6
      exact Or.inl ⟨_, h6⟩
    · have h6 := h.fin (k := k) (z := z) (fw := fw) (bk := bk) hz (by rw [f3]; exact hc) (by rw [f3]; exact hd) hRR (by rw [f3]; exact hr)
      rw [evs] at h6
      exact Or.inr h6
  · intro a ha
    rcases fin_mem ha with x | x
    · rw [← hvs] at x
      rcases snd_mem _ _ _ x with y | y
      · exact (hk2 a y).1
      · omega
    · omega
  · intro a ha hA
    rcases fin_mem ha with x | x
    · rw [← hvs] at x
      rcases snd_mem _ _ _ x with y | y
      · exact hl1 a (hk2 a y).2 hA
      · omega
    · exact absurd x.2.1 hA
end HWE
