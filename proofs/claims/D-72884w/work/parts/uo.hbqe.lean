/-! Bounds, mode H with a price of what is to come: the other events, a tick's notices, packets sent -/
theorem PWk_0 {tz : Int} : PWk (fun _ _ => 0) 0 0 0 tz := by
  refine ⟨fun now ka tq T0 d L fa f la _ _ => ⟨?_, fun _ _ => ?_⟩, fun now ka tq T0 L fa f la _ _ => ?_⟩
  · dsimp only
    split <;> omega
  · dsimp only
    omega
  · dsimp only
    omega
section HBQE
variable {AW : Int → Int → Prop} {now c dl R lo lw hi q1 qn qh n0 K1 K2 w1 wh1 wf1 w2 wh2 wf2 r tz : Int} {om : Int → Int} {q : Int → Int} {pf : PFt} {s : SdM} {o : List Int} {l l1 l2 : List NtM} {n : NtM} {g : Gh} {j : GJh}
theorem HBq.lost (hpf : PFk pf AW K2 w1 wh1 wf1 w2 wh2 wf2 r om tz) (h : HBq AW now c dl R lo lw hi q n0 s o (l1 ++ n :: l2) g j) (hn : ¬ isA n) : HBq AW now c dl R lo lw hi q n0 (lostM s n.2.2.2) o (l1 ++ l2) g j ∧ hPq pf n0 now j.1 (lostM s n.2.2.2, o, l1 ++ l2) g.2.1 ≤ hPq pf n0 now j.1 (s, o, l1 ++ n :: l2) g.2.1 + (if n.2.2.2 < s.1 9 then 0 else 1) := by
  obtain ⟨hH, hA⟩ := h
  have hV := hH.1.1
  obtain ⟨h2, p⟩ := hH.lost (pw := fun _ _ => 0) hn
  refine ⟨⟨h2, hA.sub (fun a ha => mid_mem ha)⟩, ?_⟩
  have lv := lvS_lost (num := n.2.2.2) hV.2.2.2.2 hV.2.2.2.1
  have m := hpf.1 j.1 now g.2.1 (lvS s) (lvS (lostM s n.2.2.2)) (aNl (l1 ++ l2)) (by omega)
  have z : ¬ n.2.2.1 = 0 := hn
  have ea : aNl (l1 ++ n :: l2) = aNl (l1 ++ l2) := by
    rw [aNl_mid, if_neg z]
    rfl
  unfold hPo at p
  unfold hPq
  dsimp only at p ⊢
  rw [ea]
  omega
theorem HBq.snd {k : Nat} {b : Bool} {ar : Int} (hpf : PFk pf AW K2 w1 wh1 wf1 w2 wh2 wf2 r om tz) (h : HBq AW now c dl R lo lw hi q n0 s o l g j) (hw : wantsM s) : HBq AW now c dl R lo lw hi q n0 (snd1 now ar k b (s, o, l)).1 (snd1 now ar k b (s, o, l)).2.1 (snd1 now ar k b (s, o, l)).2.2 g (0, 0, now, 0) ∧ hPq pf n0 now 0 (snd1 now ar k b (s, o, l)) g.2.1 + 1 ≤ hPq pf n0 now j.1 (s, o, l) g.2.1 := by
  obtain ⟨hH, hA⟩ := h
  have hV := hH.1.1
  have hF : FI (s, o, l) := hV.1
  have hk : sW s := hV.2.2.2.1
  obtain ⟨h2, p⟩ := hH.snd (k := k) (b := b) (ar := ar) (pw := fun _ _ => 0) hw
  have es : (snd1 now ar k b (s, o, l)).1 = sentM s := by
    cases b <;> rfl
  have h5 : 0 ≤ s.1 5 := by
    have : s.1 5 = ((o.length + l.length : Nat) : Int) := hF.1
    omega
  have lv := (rs_send (U := 0) (Lf := 0) hk hw h5 (by omega)).2.2
  have m1 := hpf.1 0 now g.2.1 (lvS s) (lvS (sentM s)) (aNl l) lv
  have m2 := hpf.2.1 j.1 0 now g.2.1 (lvS s) (aNl l) (Nat.zero_le _)
  have ea : aNl (snd1 now ar k b (s, o, l)).2.2 = aNl l := by
    cases b with
    | true => rfl
    | false =>
      show aNl (l ++ [(ar, k, 1, s.1 6)]) = aNl l
      rw [aNl_app, if_neg (show ¬ (1 : Int) = 0 by decide)]
      rfl
  refine ⟨⟨h2, ?_⟩, ?_⟩
  · cases b with
    | true => exact hA
    | false => exact AWq.app hA (fun z => absurd z (show ¬ (1 : Int) = 0 by decide))
  · unfold hPo at p
    unfold hPq
    rw [ea]
    rw [es] at p ⊢
    dsimp only at p ⊢
    omega
theorem HBq.fin {k : Nat} {z : Bool} {fw bk : Int} (hpf : PFk pf AW K2 w1 wh1 wf1 w2 wh2 wf2 r om tz) (h : HBq AW now c dl R lo lw hi q n0 s o l g j) (hz : z = true → o ≠ []) (hc : c = bk - s.1 2) (hd : dl = fw + s.1 2) (hR : R = fw + bk) (hr : z = true → ∀ x t, o = x :: t → (lo ≤ now + fw - x + s.1 2 ∧ now + fw - x + s.1 2 ≤ hi) ∧ AW (now + fw + bk) (now + fw - x + s.1 2)) : HBq AW now c dl R lo lw hi q n0 (finV (now + fw) (now + fw + bk) k z (s, o, l)).1 (finV (now + fw) (now + fw + bk) k z (s, o, l)).2.1 (finV (now + fw) (now + fw + bk) k z (s, o, l)).2.2 g j ∧ hPq pf n0 now j.1 (finV (now + fw) (now + fw + bk) k z (s, o, l)) g.2.1 ≤ hPq pf n0 now j.1 (s, o, l) g.2.1 + (if z = true then om now else 0) := by
  obtain ⟨hH, hA⟩ := h
  obtain ⟨h2, p⟩ := hH.fin (k := k) (z := z) (fw := fw) (bk := bk) (pw := fun _ _ => 0) hz hc hd hR (fun y x t e => (hr y x t e).1)
  have an := aNl_fin (du := now + fw) (ar := now + fw + bk) (k := k) (z := z) (v := (s, o, l))
  have es : (finV (now + fw) (now + fw + bk) k z (s, o, l)).1 = s := fin_s
  refine ⟨⟨h2, ?_⟩, ?_⟩
  · cases z with
    | false => exact hA
    | true =>
      cases ho : o with
      | nil => exact absurd ho (hz rfl)
      | cons x t =>
        rw [fin_t (v := (s, x :: t, l)) rfl]
        exact AWq.app hA (fun _ => (hr rfl x t ho).2)
  · unfold hPo at p
    unfold hPq
    rw [es] at p ⊢
    cases z with
    | false =>
      have e0 : finV (now + fw) (now + fw + bk) k false (s, o, l) = (s, o, l) := rfl
      rw [if_neg (by decide), e0]
      dsimp only
      omega
    | true =>
      have o0 : o ≠ [] := hz rfl
      have e2 : aNl (finV (now + fw) (now + fw + bk) k true (s, o, l)).2.2 = aNl l + 1 := by
        cases ho : o with
        | nil => exact absurd ho o0
        | cons x t =>
          rw [fin_t (v := (s, x :: t, l)) rfl]
          show aNl (l ++ [(now + fw + bk, k, 0, now + fw - x + s.1 2)]) = aNl l + 1
          rw [aNl_app, if_pos rfl]
      rw [if_pos rfl, e2]
      have m := hpf.2.2.2.2.1 j.1 now g.2.1 (lvS s) (aNl l)
      dsimp only at p ⊢
      omega
theorem HBq.ends (hpf : PFk pf AW K2 w1 wh1 wf1 w2 wh2 wf2 r om tz) (h : HBq AW now c dl R lo lw hi q n0 s o l g j) (hp : ∀ n ∈ l, now < n.1) : ∃ j2, HBq AW now c dl R lo lw hi q n0 (endsM s now) o l g j2 ∧ hPq pf n0 now j2.1 (endsM s now, o, l) g.2.1 ≤ hPq pf n0 now j.1 (s, o, l) g.2.1 := by
  obtain ⟨hH, hA⟩ := h
  by_cases q1 : s.1 11 = -1 ∨ now < s.1 11
  · have e : endsM s now = s := by
      unfold endsM
      rcases q1 with q | q
      · rw [if_pos q]
      · split
        · rfl
        · first
          | rw [if_pos q]
          | rfl
    rw [e]
    exact ⟨j, ⟨hH, hA⟩, Int.le_refl _⟩
  · have hV := hH.1.1
    have e9 : (endsM s now).1 9 = s.1 9 := ends_o (by decide) (by decide) (by decide)
    have hPV : PVo n0 (endsM s now, o, l) ≤ PVo n0 (s, o, l) := pVo_ends hV.2.2.2.1
    have hob : obN n0 (endsM s now) = obN n0 s := by
      unfold obN
      rw [e9]
    have q11 : s.1 11 ≠ -1 := fun y => q1 (Or.inl y)
    have q22 : ¬ now < s.1 11 := fun y => q1 (Or.inr y)
    have ee : endsM s now = (iup (iup (iup s.1 4 (s.1 12)) 11 (-1)) 10 now, onlyM s.2.1 (now / 200), s.2.2) := by
      unfold endsM
      rw [if_neg q11, if_neg q22]
    have e11 : (endsM s now).1 11 = -1 := by
      rw [ee]
      simp [iup]
    obtain ⟨j2, h2, -⟩ := hH.ends (pw := fun _ _ => 0) hp
    have hfew : fwN n0 l := by
      rcases hH.2.2.1 q11 with z | z
      · exact z
      · refine fwN_none (fun a ha y y2 => ?_)
        have z1 : a.1 ≤ s.1 11 := z a ha y y2
        have := hp a ha
        omega
    refine ⟨(0, 0, now, 0), ⟨⟨h2.1, fun _ => Or.inl ⟨rfl, Or.inl hfew⟩, h2.2.2.1, h2.2.2.2.1, fun _ z => absurd z (by dsimp only; omega), h2.2.2.2.2.2⟩, hA⟩, ?_⟩
    have m2 := hpf.2.1 j.1 0 now g.2.1 (lvS s) (aNl l) (Nat.zero_le _)
    unfold hPq
    dsimp only
    rw [hob, lvS_ends]
    omega
theorem HBq.begins {iv : Int} (h : HBq AW now c dl R lo lw hi q n0 s o l g j) (h0 : 0 ≤ now) (hP : lsN n0 l (now - 1 + R)) (hR : R ≤ 60) : HBq AW now c dl R lo lw hi q n0 (beginsM s now iv) o l g j ∧ hPq pf n0 now j.1 (beginsM s now iv, o, l) g.2.1 ≤ hPq pf n0 now j.1 (s, o, l) g.2.1 + bgN s now iv := by
  obtain ⟨hH, hA⟩ := h
  obtain ⟨h2, p⟩ := hH.begins (iv := iv) (pw := fun _ _ => 0) h0 hP hR
  refine ⟨⟨h2, hA⟩, ?_⟩
  unfold hPo at p
  unfold hPq
  rw [lvS_begins h0]
  dsimp only at p ⊢
  omega
theorem HBq.nxt (hpf : PFk pf AW K2 w1 wh1 wf1 w2 wh2 wf2 r om tz) (h : HBq AW now c dl R lo lw hi q n0 s o l g j) (htE : now < tz) : HBq AW (now + 1) c dl R lo lw hi q n0 s o l g j ∧ hPq pf n0 (now + 1) j.1 (s, o, l) g.2.1 ≤ hPq pf n0 now j.1 (s, o, l) g.2.1 + r * ((now + 1) / 200 - now / 200) := by
  obtain ⟨hH, hA⟩ := h
  have m := hpf.2.2.2.2.2 j.1 now _ _ _ _ _ _ _ (lvS s) (aNl l) hH.1.1.2.2.1 htE
  refine ⟨⟨(hH.nxt (pw := fun _ _ => 0) PWk_0 htE).1, hA⟩, ?_⟩
  unfold hPq
  dsimp only
  omega
end HBQE
section HBQT
variable {AW : Int → Int → Prop} {now c dl R lo lw hi q1 qn qh n0 K1 K2 w1 wh1 wf1 w2 wh2 wf2 r tz : Int} {om : Int → Int} {q : Int → Int} {pf : PFt} {o : List Int}
theorem HBq.hnd (hN1 : NQ K1 qn qh w1 wh1 wf1) (hN2 : NQ K2 qn qh w2 wh2 wf2) (hqh : qn ≤ 2 * qh) (hpf : PFk pf AW K2 w1 wh1 wf1 w2 wh2 wf2 r om tz) (htz : now ≤ tz) (hK : hi - lo + 1 ≤ K1) (hQ : QF q now q1 qn) (hq : hi - lw ≤ q1) (hR : R ≤ 60) (hnow : now ≤ tqB) : ∀ (t ks : List NtM) (s : SdM) (g : Gh) (j : GJh), HBq AW now c dl R lo lw hi q n0 s o (ks ++ t) g j → (∀ a ∈ ks, now < a.1) → (∀ a ∈ t, now ≤ a.1) → lsN n0 (ks ++ t) (now + R) →
    ∃ g2 j2, HBq AW now c dl R lo lw hi q n0 (t.foldl (hndS now) s) o (ks ++ t.filter (fun n => decide (n.1 ≠ now))) g2 j2 ∧ hPq pf n0 now j2.1 (t.foldl (hndS now) s, o, ks ++ t.filter (fun n => decide (n.1 ≠ now))) g2.2.1 ≤ hPq pf n0 now j.1 (s, o, ks ++ t) g.2.1 + (frN now s t : Int) ∧ g2.1 = g.1 := by
  intro t
  induction t with
  | nil =>
    intro ks s g j h _ _ _
    refine ⟨g, j, h, ?_, rfl⟩
    show hPq pf n0 now j.1 (s, o, ks ++ []) g.2.1 ≤ hPq pf n0 now j.1 (s, o, ks ++ []) g.2.1 + ((0 : Nat) : Int)
    omega
  | cons n t ih =>
    intro ks s g j h hks ht hl
    rw [List.foldl_cons]
    have ef : frN now s (n :: t) = (if n.1 = now ∧ ¬ isA n ∧ ¬ n.2.2.2 < s.1 9 then 1 else 0) + frN now (hndS now s n) t := rfl
    rw [ef]
    have ht2 : ∀ a ∈ t, now ≤ a.1 := fun a ha => ht a (List.mem_cons_of_mem _ ha)
    by_cases e : n.1 = now
    · rw [List.filter_cons_of_neg (by simp [e])]
      have eh : hndS now s n = reachM s n.2.2.1 n.2.2.2 (now / 200) := if_pos e
      have hl2 : lsN n0 (ks ++ t) (now + R) := hl.sub (fun a ha => mid_mem ha)
      by_cases z : isA n
      · have er : reachM s n.2.2.1 n.2.2.2 (now / 200) = ackM s n.2.2.2 (now / 200) := if_pos z
        rw [eh, er]
        obtain ⟨j2, h2, p2⟩ := h.ack hN1 hN2 hqh hpf htz z e hks ht2 hl2 hK hQ hq hR
        have k1 : (stepG tqB T0B now s.2.1 g n).1 = g.1 := by
          unfold stepG
          rw [if_pos ⟨e, z⟩]
          show kaN tqB now g.1 n = g.1
          unfold kaN
          rw [if_neg (fun y => by have := y.2.2; omega)]
        obtain ⟨g3, j3, h3, p3, k3⟩ := ih ks _ _ j2 h2 hks ht2 hl2
        refine ⟨g3, j3, h3, ?_, k3.trans k1⟩
        have hn0 : ¬ (n.1 = now ∧ ¬ isA n ∧ ¬ n.2.2.2 < s.1 9) := fun y => y.2.1 z
        rw [if_neg hn0]
        omega
      · have er : reachM s n.2.2.1 n.2.2.2 (now / 200) = lostM s n.2.2.2 := if_neg z
        rw [eh, er]
        obtain ⟨h2, p2⟩ := h.lost hpf z
        obtain ⟨g3, j3, h3, p3, k3⟩ := ih ks _ _ j h2 hks ht2 hl2
        refine ⟨g3, j3, h3, ?_, k3⟩
        by_cases y : n.2.2.2 < s.1 9
        · rw [if_pos y] at p2
          rw [if_neg (fun w => w.2.2 y)]
          omega
        · rw [if_neg y] at p2
          rw [if_pos ⟨e, z, y⟩]
          omega
    · rw [List.filter_cons_of_pos (by simp [e])]
      have eh : hndS now s n = s := if_neg e
      rw [eh, if_neg (fun y => e y.1)]
      have el : ks ++ n :: t = (ks ++ [n]) ++ t := by simp
      have el2 : ks ++ n :: t.filter (fun n => decide (n.1 ≠ now)) = (ks ++ [n]) ++ t.filter (fun n => decide (n.1 ≠ now)) := by simp
      rw [el] at h hl
      rw [el, el2]
      have hn := ht n List.mem_cons_self
      obtain ⟨g3, j3, h3, p3, k3⟩ := ih (ks ++ [n]) s g j h (fun a ha => by
        rcases List.mem_append.mp ha with w | w
        · exact hks a w
        · rw [List.mem_singleton] at w
          rw [w]
          omega) ht2 hl
      exact ⟨g3, j3, h3, by omega, k3⟩
/-- packets sent -/
theorem HBq.snds (hpf : PFk pf AW K2 w1 wh1 wf1 w2 wh2 wf2 r om tz) {k : Nat} {ar : Int} : ∀ (bs : List Bool) (s : SdM) (o : List Int) (l : List NtM) (g : Gh) (j : GJh), HBq AW now c dl R lo lw hi q n0 s o l g j → sndOK now ar k bs (s, o, l) → ∃ j2, HBq AW now c dl R lo lw hi q n0 (sndV now ar k bs (s, o, l)).1 (sndV now ar k bs (s, o, l)).2.1 (sndV now ar k bs (s, o, l)).2.2 g j2 ∧ hPq pf n0 now j2.1 (sndV now ar k bs (s, o, l)) g.2.1 + (bs.length : Int) ≤ hPq pf n0 now j.1 (s, o, l) g.2.1 := by
  intro bs
  induction bs with
  | nil =>
    intro s o l g j h _
    refine ⟨j, h, ?_⟩
    show hPq pf n0 now j.1 (s, o, l) g.2.1 + ((0 : Nat) : Int) ≤ _
    omega
  | cons b bs ih =>
    intro s o l g j h ho
    obtain ⟨hw, ho⟩ := ho
    obtain ⟨h2, p2⟩ := h.snd (k := k) (b := b) (ar := ar) hpf hw
    obtain ⟨j3, h3, p3⟩ := ih _ _ _ g _ h2 ho
    refine ⟨j3, h3, ?_⟩
    have p3 : hPq pf n0 now j3.1 (sndV now ar k (b :: bs) (s, o, l)) g.2.1 + (bs.length : Int) ≤ hPq pf n0 now 0 (snd1 now ar k b (s, o, l)) g.2.1 := p3
    rw [List.length_cons]
    omega
end HBQT
