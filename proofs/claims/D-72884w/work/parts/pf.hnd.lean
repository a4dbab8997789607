/-! Bounds, ledger by ages: notices of a tick, the slow-down's step, packets sent -/
def SLr (Rm t th : Int) (v : SV) : Prop := v.1.1 11 ≠ -1 → t < v.1.1 11 ∧ v.1.1 11 ≤ t + 60 ∧ (1 ≤ vF v ∨ v.1.1 11 ≤ th + Rm + 62 ∨ mW v.1 ≤ 67328)
theorem mW_lost {tk num : Int} {s : SdM} (hI : sdB tk s) (hk : sW s) : mW (lostM s num) ≤ mW s := by
  have hm := mW_256 hI hk
  by_cases z : num < s.1 9
  · have e := lost_s z
    have e11 : (lostM s num).1 11 = s.1 11 := by rw [e]; simp [iup]
    have e4 : (lostM s num).1 4 = s.1 4 := by rw [e]; simp [iup]
    have e12 : (lostM s num).1 12 = s.1 12 := by rw [e]; simp [iup]
    unfold mW
    rw [e11, e4, e12]
    exact Int.le_refl _
  · have e := lost_f z
    have e11 : (lostM s num).1 11 = s.1 11 := by rw [e]; simp [iup]
    have e4 : (lostM s num).1 4 = halfM (s.1 4) := by rw [e]; simp [iup]
    have e12 : (lostM s num).1 12 = halfM (s.1 12) := by rw [e]; simp [iup]
    have e2 : mW (lostM s num) = halfM (mW s) := by
      unfold mW
      rw [e11, e4, e12]
      split <;> rfl
    rw [e2]
    unfold halfM
    split <;> omega
section LHE
variable {now c dl tq R lo hi jg ts D th ed : Int} {i : Nat} {s : SdM} {o : List Int} {l l1 l2 : List NtM} {n : NtM} {g : Gh} {kk cS : Nat → Int} {W kp J1 B w1 w2 Wm F0 z H0 e0 gr w3 Q de Fc Rm : Int}
theorem MIX.stale {tk : Int} (h : MIX now th ts Rm (s, o, l1 ++ n :: l2)) (hI : sdB tk s) (hk : sW s) (y : n.2.2.2 < s.1 9) : MIX now th ts Rm (lostM s n.2.2.2, o, l1 ++ l2) := by
  have ev := vF_stale (o := o) (l1 := l1) (l2 := l2) y
  have e11 : (lostM s n.2.2.2).1 11 = s.1 11 := lost_11
  have e5 : (lostM s n.2.2.2).1 5 = s.1 5 - 1 := lost_5
  have em := mW_lost (num := n.2.2.2) hI hk
  unfold MIX at h ⊢
  rw [← ev]
  dsimp only at h ⊢
  rw [e11, e5]
  refine ⟨fun q => ?_, fun q => ?_, ?_⟩
  · have := h.1 q
    omega
  · have := h.2.1 q
    omega
  · have := h.2.2
    omega
theorem MIX.fresh {tk num : Int} (h : MIX now th ts Rm (s, o, l)) (hI : sdB tk s) (hk : sW s) (hR : 1 ≤ Rm) : MIX now now ts Rm (lostM s num, o, l2) := by
  have e11 : (lostM s num).1 11 = s.1 11 := lost_11
  have e5 : (lostM s num).1 5 = s.1 5 - 1 := lost_5
  have em := mW_lost (num := num) hI hk
  unfold MIX at h ⊢
  dsimp only at h ⊢
  rw [e11, e5]
  refine ⟨fun q => ?_, fun q => Or.inr (Or.inl (by omega)), ?_⟩
  · have := (h.1 q).1
    exact ⟨this, Or.inr (Or.inl (by omega))⟩
  · have := h.2.2
    omega
theorem MIX.ack {tk mi : Int} (h : MIX now th ts Rm (s, o, l1 ++ n :: l2)) (hI : sdB tk s) (hn : isA n) : MIX now th ts Rm (ackM s n.2.2.2 mi, o, l1 ++ l2) := by
  obtain ⟨eu, ef⟩ := ack_uf (s := s) (o := o) (l1 := l1) (l2 := l2) (mi := mi) hn
  have e11 : (ackM s n.2.2.2 mi).1 11 = s.1 11 := ack_o (by decide) (by decide) (by decide)
  have e5 : (ackM s n.2.2.2 mi).1 5 = s.1 5 - 1 := ack_5
  unfold MIX at h ⊢
  rw [← ef]
  dsimp only at h ⊢
  rw [e11, e5]
  refine ⟨fun q => ?_, fun q => ?_, ?_⟩
  · rw [mW_acks q]
    exact h.1 q
  · have h2 := h.2.1 q
    have st := (ack_4 (d := n.2.2.2) (mi := mi) (g := ((- queueM (enterM s n.2.2.2 mi) mi).toNat : Int)) hI q (by omega) (by omega)).2.1
    rw [mW_ackn q]
    rw [mW_n q] at h2
    omega
  · have := h.2.2
    omega
theorem LH.hnd (hP : LR kk cS W kp J1 B w1 w2 Wm F0 z H0 e0 gr w3 Q de Fc Rm) (hQ : hi - lo ≤ Q) (hD : D = 4194304 * Q) : ∀ (t ks : List NtM) (s : SdM) (g : Gh) (th : Int) (i : Nat), CA now c dl tq R lo hi jg ts D i s o (ks ++ t) g → AgR Rm now th ed s (ks ++ t) → MIX now th ts Rm (s, o, ks ++ t) → (∀ a ∈ ks, now < a.1) → (∀ a ∈ t, now ≤ a.1) → aNl (ks ++ t) ≤ 200 →
    ∃ g2 th2 i2, CA now c dl tq R lo hi jg ts D i2 (t.foldl (hndS now) s) o (ks ++ t.filter (fun n => decide (n.1 ≠ now))) g2 ∧ AgR Rm now th2 ed (t.foldl (hndS now) s) (ks ++ t.filter (fun n => decide (n.1 ≠ now))) ∧ MIX now th2 ts Rm (t.foldl (hndS now) s, o, ks ++ t.filter (fun n => decide (n.1 ≠ now))) ∧ OA kk cS W kp J1 de gr Rm now th2 ed tq jg i2 (t.foldl (hndS now) s, o, ks ++ t.filter (fun n => decide (n.1 ≠ now))) g2.2.1 ≤ max (OA kk cS W kp J1 de gr Rm now th ed tq jg i (s, o, ks ++ t) g.2.1) (bmA cS H0 de gr Rm + W * wcP now tq jg) := by
  have hR1 : 1 ≤ Rm := hP.2.2.2.2.2.2.2.2.2.2.2.2.2.2.2.2.2.2.1
  have hQ0 : 0 ≤ Q := hP.2.2.2.2.2.2.2.2.2.2.2.1
  intro t
  induction t with
  | nil =>
    intro ks s g th i h hA hM _ _ _
    exact ⟨g, th, i, h, hA, hM, by show OA kk cS W kp J1 de gr Rm now th ed tq jg i (s, o, ks ++ []) g.2.1 ≤ _; omega⟩
  | cons n t ih =>
    intro ks s g th i h hA hM hks ht ha
    rw [List.foldl_cons]
    have ht2 : ∀ a ∈ t, now ≤ a.1 := fun a ha => ht a (List.mem_cons_of_mem _ ha)
    have hall : ∀ a ∈ ks ++ n :: t, now ≤ a.1 := by
      intro a ha
      rcases List.mem_append.mp ha with w | w
      · have := hks a w
        omega
      · exact ht a w
    have ha2 : aNl (ks ++ t) ≤ 200 := by
      rw [aNl_mid] at ha
      omega
    have hI := h.1.2.2.2.2
    have hk := h.1.2.2.2.1
    by_cases e : n.1 = now
    · rw [List.filter_cons_of_neg (by simp [e])]
      have eh : hndS now s n = reachM s n.2.2.1 n.2.2.2 (now / 200) := if_pos e
      by_cases z : isA n
      · have er : reachM s n.2.2.1 n.2.2.2 (now / 200) = ackM s n.2.2.2 (now / 200) := if_pos z
        rw [eh, er]
        have p2 := OA.ack hP h hA hM z e hQ hD ha2
        obtain ⟨g3, th3, i3, h3, a3, m3, p3⟩ := ih ks _ _ th _ (h.ack z e hks ht2 hQ hQ0 hD) (hA.ack z) (hM.ack hI z) hks ht2 ha2
        exact ⟨g3, th3, i3, h3, a3, m3, by omega⟩
      · have er : reachM s n.2.2.1 n.2.2.2 (now / 200) = lostM s n.2.2.2 := if_neg z
        rw [eh, er]
        by_cases y : n.2.2.2 < s.1 9
        · have p2 := OA.stale (th := th) (ed := ed) hP h z y
          obtain ⟨g3, th3, i3, h3, a3, m3, p3⟩ := ih ks _ _ th _ (h.lost z) (hA.stale z y) (hM.stale hI hk y) hks ht2 ha2
          exact ⟨g3, th3, i3, h3, a3, m3, by omega⟩
        · have p2 := OA.fresh hP h hA z y hall ha2
          obtain ⟨g3, th3, i3, h3, a3, m3, p3⟩ := ih ks _ _ now _ (h.lost z) (hA.fresh h.1.1 y) (hM.fresh hI hk hR1) hks ht2 ha2
          exact ⟨g3, th3, i3, h3, a3, m3, by omega⟩
    · rw [List.filter_cons_of_pos (by simp [e])]
      have eh : hndS now s n = s := if_neg e
      rw [eh]
      have el : ks ++ n :: t = (ks ++ [n]) ++ t := by simp
      have el2 : ks ++ n :: t.filter (fun n => decide (n.1 ≠ now)) = (ks ++ [n]) ++ t.filter (fun n => decide (n.1 ≠ now)) := by simp
      rw [el] at h hA hM ha
      rw [el, el2]
      have hn := ht n List.mem_cons_self
      exact ih (ks ++ [n]) s g th i h hA hM (fun a ha => by
        rcases List.mem_append.mp ha with w | w
        · exact hks a w
        · rw [List.mem_singleton] at w
          rw [w]
          omega) ht2 ha
/-- the same without the potential: tz any time -/
theorem CA.hnd {tz : Int} (hR1 : 1 ≤ Rm) (hQ : hi - lo ≤ Q) (hQ0 : 0 ≤ Q) (hD : D = 4194304 * Q) : ∀ (t ks : List NtM) (s : SdM) (g : Gh) (th : Int) (i : Nat), CA now c dl tq R lo hi jg ts D i s o (ks ++ t) g → AgR Rm now th ed s (ks ++ t) → MIX now th tz Rm (s, o, ks ++ t) → (∀ a ∈ ks, now < a.1) → (∀ a ∈ t, now ≤ a.1) →
    ∃ g2 th2 i2, CA now c dl tq R lo hi jg ts D i2 (t.foldl (hndS now) s) o (ks ++ t.filter (fun n => decide (n.1 ≠ now))) g2 ∧ AgR Rm now th2 ed (t.foldl (hndS now) s) (ks ++ t.filter (fun n => decide (n.1 ≠ now))) ∧ MIX now th2 tz Rm (t.foldl (hndS now) s, o, ks ++ t.filter (fun n => decide (n.1 ≠ now))) ∧ lvO (t.foldl (hndS now) s) ≤ lvO s := by
  intro t
  induction t with
  | nil =>
    intro ks s g th i h hA hM _ _
    exact ⟨g, th, i, h, hA, hM, Int.le_refl _⟩
  | cons n t ih =>
    intro ks s g th i h hA hM hks ht
    rw [List.foldl_cons]
    have ht2 : ∀ a ∈ t, now ≤ a.1 := fun a ha => ht a (List.mem_cons_of_mem _ ha)
    have hI := h.1.2.2.2.2
    have hk := h.1.2.2.2.1
    by_cases e : n.1 = now
    · rw [List.filter_cons_of_neg (by simp [e])]
      have eh : hndS now s n = reachM s n.2.2.1 n.2.2.2 (now / 200) := if_pos e
      by_cases z : isA n
      · have er : reachM s n.2.2.1 n.2.2.2 (now / 200) = ackM s n.2.2.2 (now / 200) := if_pos z
        rw [eh, er]
        obtain ⟨g3, th3, i3, h3, a3, m3, p3⟩ := ih ks _ _ th _ (h.ack z e hks ht2 hQ hQ0 hD) (hA.ack z) (hM.ack hI z) hks ht2
        have := lvO_ack (d := n.2.2.2) (mi := now / 200) hI
        exact ⟨g3, th3, i3, h3, a3, m3, by omega⟩
      · have er : reachM s n.2.2.1 n.2.2.2 (now / 200) = lostM s n.2.2.2 := if_neg z
        rw [eh, er]
        have := lvO_lost (num := n.2.2.2) hI hk
        by_cases y : n.2.2.2 < s.1 9
        · obtain ⟨g3, th3, i3, h3, a3, m3, p3⟩ := ih ks _ _ th _ (h.lost z) (hA.stale z y) (hM.stale hI hk y) hks ht2
          exact ⟨g3, th3, i3, h3, a3, m3, by omega⟩
        · obtain ⟨g3, th3, i3, h3, a3, m3, p3⟩ := ih ks _ _ now _ (h.lost z) (hA.fresh h.1.1 y) (hM.fresh hI hk hR1) hks ht2
          exact ⟨g3, th3, i3, h3, a3, m3, by omega⟩
    · rw [List.filter_cons_of_pos (by simp [e])]
      have eh : hndS now s n = s := if_neg e
      rw [eh]
      have el : ks ++ n :: t = (ks ++ [n]) ++ t := by simp
      have el2 : ks ++ n :: t.filter (fun n => decide (n.1 ≠ now)) = (ks ++ [n]) ++ t.filter (fun n => decide (n.1 ≠ now)) := by simp
      rw [el] at h hA hM
      rw [el2]
      have hn := ht n List.mem_cons_self
      exact ih (ks ++ [n]) s g th i h hA hM (fun a ha => by
        rcases List.mem_append.mp ha with w | w
        · exact hks a w
        · rw [List.mem_singleton] at w
          rw [w]
          omega) ht2
theorem MIX.slow {iv : Int} (h : MIX now th ts Rm (s, o, l)) (h0 : 0 ≤ now) : SLr Rm now th (slowM s now iv, o, l) := by
  intro hs
  have hs : (slowM s now iv).1 11 ≠ -1 := hs
  have e9 : (slowM s now iv).1 9 = s.1 9 := by
    unfold slowM
    rw [begins_o (by decide) (by decide) (by decide), ends_o (by decide) (by decide) (by decide)]
  have ev : vF (slowM s now iv, o, l) = vF (s, o, l) := by
    show lFl ((slowM s now iv).1 9) l = lFl (s.1 9) l
    rw [e9]
  have em : mW (slowM s now iv) = mW s := by
    unfold slowM
    rw [mW_begins h0, mW_ends]
  rw [ev]
  show now < (slowM s now iv).1 11 ∧ (slowM s now iv).1 11 ≤ now + 60 ∧ (1 ≤ vF (s, o, l) ∨ (slowM s now iv).1 11 ≤ th + Rm + 62 ∨ mW (slowM s now iv) ≤ 67328)
  rw [em]
  unfold MIX at h
  dsimp only at h
  by_cases q : s.1 11 = -1
  · -- begun now
    have h2 := h.2.1 q
    have ee : endsM s now = s := if_pos q
    unfold slowM at hs ⊢
    rw [ee] at hs ⊢
    unfold beginsM at hs ⊢
    split
    · have a : (iup (iup (iup s.1 12 (s.1 4)) 4 512) 11 (now + 60)) 11 = now + 60 := by simp [iup]
      dsimp only
      rw [a]
      omega
    · rename_i x
      rw [if_neg x] at hs
      exact absurd q hs
  · have h1 := h.1 q
    by_cases q2 : now < s.1 11
    · have ee : endsM s now = s := by
        unfold endsM
        rw [if_neg q, if_pos q2]
      have eb : beginsM s now iv = s := by
        unfold beginsM
        rw [if_neg (fun x => q x.2.2.1)]
      unfold slowM
      rw [ee, eb]
      exact ⟨q2, h1⟩
    · exfalso
      apply hs
      have e11 : (endsM s now).1 11 = -1 := by
        unfold endsM
        rw [if_neg q, if_neg q2]
        simp [iup]
      have e10 : (endsM s now).1 10 = now := by
        unfold endsM
        rw [if_neg q, if_neg q2]
        simp [iup]
      unfold slowM beginsM
      rw [if_neg (fun x => by
        have a := x.1
        have b := x.2.2.2
        rw [e10] at b
        omega)]
      exact e11
/-- counted by another scale -/
theorem lw_ix {Lf : Nat} {i2 : Nat} (hP : LR kk cS W kp J1 B w1 w2 Wm F0 z H0 e0 gr w3 Q de Fc Rm) (h5 : i ≤ 5) (h52 : i2 ≤ 5) (hf0 : 0 ≤ s.1 5) (hF : 256 * s.1 5 ≤ Fc) : 25 * lvL (kk i2) kp J1 s Lf ≤ 25 * lvL (kk i) kp J1 s Lf + (if i2 = i then 0 else cvI cS W i) := by
  by_cases q : i2 = i
  · rw [if_pos q, q]
    omega
  · rw [if_neg q]
    have t0 := tE_0 s Lf
    have t1 := eE_le (w := mW s) (f := s.1 5) (Lf := Lf) hf0
    have t2 := sq_mono (a := 256 * s.1 5) (b := Fc) (by omega) hF
    have k0 := hP.1.1
    have a := lw_up (kp := kp) (J1 := J1) (s := s) (Lf := Lf) k0 (hP.2.2.2.2.1 0 i2 (Nat.zero_le _) h52)
    have b := lw_cv (kp := kp) (J1 := J1) (s := s) (Lf := Lf) (K := kk 0) (K2 := kk i) (hP.2.2.2.2.2.2.2.2.2.1 i (tE s Lf) h5 t0 (by unfold tE at *; omega))
    omega
theorem LH.slow {iv : Int} (hP : LR kk cS W kp J1 B w1 w2 Wm F0 z H0 e0 gr w3 Q de Fc Rm) (h : CA now c dl tq R lo hi jg ts D i s o l g) (h0 : 0 ≤ now) (hF : 256 * s.1 5 ≤ Fc) : ∃ jg2 i2, CA now c dl tq R lo hi jg2 ts D i2 (slowM s now iv) o l g ∧ OA kk cS W kp J1 de gr Rm now th ed tq jg2 i2 (slowM s now iv, o, l) g.2.1 ≤ OA kk cS W kp J1 de gr Rm now th ed tq jg i (s, o, l) g.2.1 ∧ jg ≤ jg2 := by
  have hc := hP.2.2.2.2.2.2.2.1
  have hW := hP.2.2.2.2.2.2.2.2.1
  have hI := h.1.2.2.2.2
  have i5 := h.2.2.2.1.2.1
  unfold sdB at hI
  obtain ⟨jg2, i2, h2, p2, p3, p4⟩ := h.ends hc hW
  have i52 := h2.2.2.2.1.2.1
  refine ⟨jg2, i2, h2.begins h0, ?_, p4⟩
  have e9 : (slowM s now iv).1 9 = s.1 9 := by
    unfold slowM
    rw [begins_o (by decide) (by decide) (by decide), ends_o (by decide) (by decide) (by decide)]
  have ev : vF (slowM s now iv, o, l) = vF (s, o, l) := by
    show lFl ((slowM s now iv).1 9) l = lFl (s.1 9) l
    rw [e9]
  have hx := lw_ix (Lf := vF (s, o, l)) hP i5 i52 (by omega) hF
  have el : lvL (kk i2) kp J1 (slowM s now iv) (vF (s, o, l)) = lvL (kk i2) kp J1 s (vF (s, o, l)) := by
    unfold slowM
    rw [lv_begins h0, lv_ends]
  unfold OA
  rw [ev]
  dsimp only
  rw [el]
  omega
theorem LH.snds (hP : LR kk cS W kp J1 B w1 w2 Wm F0 z H0 e0 gr w3 Q de Fc Rm) {k : Nat} {ar : Int} (har : now ≤ ar ∧ ar ≤ now + Rm) (hD : 0 ≤ D) : ∀ (bs : List Bool) (v : SV) (ed ts : Int), CA now c dl tq R lo hi jg ts D i v.1 v.2.1 v.2.2 g → AgR Rm now th ed v.1 v.2.2 → SLr Rm now th v → aNl v.2.2 ≤ 200 → sndOK now ar k bs v →
    ∃ ed2 ts2, CA now c dl tq R lo hi jg ts2 D i (sndV now ar k bs v).1 (sndV now ar k bs v).2.1 (sndV now ar k bs v).2.2 g ∧ AgR Rm now th ed2 (sndV now ar k bs v).1 (sndV now ar k bs v).2.2 ∧ SLr Rm now th (sndV now ar k bs v) ∧ OA kk cS W kp J1 de gr Rm now th ed2 tq jg i (sndV now ar k bs v) g.2.1 ≤ max (OA kk cS W kp J1 de gr Rm now th ed tq jg i v g.2.1) (bmA cS H0 de gr Rm + W * wcP now tq jg) := by
  have hR1 : 1 ≤ Rm := hP.2.2.2.2.2.2.2.2.2.2.2.2.2.2.2.2.2.2.1
  have hR2 : Rm ≤ 200 := hP.2.2.2.2.2.2.2.2.2.2.2.2.2.2.2.2.2.2.2
  intro bs
  induction bs with
  | nil =>
    intro v ed ts h hA hS _ _
    exact ⟨ed, ts, h, hA, hS, by show OA kk cS W kp J1 de gr Rm now th ed tq jg i v g.2.1 ≤ _; omega⟩
  | cons b bs ih =>
    intro v ed ts h hA hS ha hok
    have ev : sndV now ar k (b :: bs) v = sndV now ar k bs (snd1 now ar k b v) := rfl
    rw [ev]
    obtain ⟨hw, hok2⟩ := hok
    have hok2 : sndOK now ar k bs (snd1 now ar k b v) := hok2
    have h1 := h.snd (k := k) (b := b) (ar := ar) hw (by omega) hD
    have hF := h.1.1
    have i5 := h.2.2.2.1.2.1
    have hT := PT_le (W := W) hP.2.2.2.2.2.2.2.1 h.1.2.2.1 h.2.2.2.1
    have h0 : 0 ≤ v.1.1 5 := by
      have := h.1.2.2.2.2
      unfold sdB at this
      omega
    have e9 : (sentM v.1).1 9 = v.1.1 9 := sent_o (by decide) (by decide)
    have e11 : (sentM v.1).1 11 = v.1.1 11 := sent_o (by decide) (by decide)
    have e4 : (sentM v.1).1 4 = v.1.1 4 := sent_o (by decide) (by decide)
    have e12 : (sentM v.1).1 12 = v.1.1 12 := sent_o (by decide) (by decide)
    have em : mW (sentM v.1) = mW v.1 := by unfold mW; rw [e11, e4, e12]
    have h96 : v.1.1 9 ≤ v.1.1 6 := hF.2.1
    have step : ∃ ed1, AgR Rm now th ed1 (snd1 now ar k b v).1 (snd1 now ar k b v).2.2 ∧ SLr Rm now th (snd1 now ar k b v) ∧ aNl (snd1 now ar k b v).2.2 ≤ 200 ∧ OA kk cS W kp J1 de gr Rm now th ed1 tq jg i (snd1 now ar k b v) g.2.1 ≤ max (OA kk cS W kp J1 de gr Rm now th ed tq jg i v g.2.1) (bmA cS H0 de gr Rm + W * wcP now tq jg) := by
      have hd : 0 ≤ de := hP.2.2.2.2.2.2.2.2.2.2.2.2.2.2.2.2.1
      have comb : ∀ (ed1 : Int) (v2 : SV), v2.1 = sentM v.1 → aNl v2.2.2 = aNl v.2.2 → rmR Rm now th ed1 (vF v2) ≤ 2 * Rm + 62 → de * rmR Rm now th ed1 (vF v2) ≤ de * rmR Rm now th ed (vF v) → OA kk cS W kp J1 de gr Rm now th ed1 tq jg i v2 g.2.1 ≤ max (OA kk cS W kp J1 de gr Rm now th ed tq jg i v g.2.1) (bmA cS H0 de gr Rm + W * wcP now tq jg) := by
        intro ed1 v2 hv2 hn2 hr1 hr2
        have hlv := lw_send (Lf := vF v) (Lf2 := vF v2) (hP.sc i5) h.1.2.2.2.1 hw h0
        rw [← hv2] at hlv
        rcases (show lvL (kk i) kp J1 v2.1 (vF v2) ≤ H0 ∨ lvL (kk i) kp J1 v2.1 (vF v2) ≤ lvL (kk i) kp J1 v.1 (vF v) by omega) with w | w
        · have := oa_low (now := now) (tq := tq) (jg := jg) (th := th) (ed := ed1) (v := v2) hP w hT hr1 (by omega)
          omega
        · unfold OA
          rw [hn2]
          omega
      cases b with
      | true =>
        have hl : (snd1 now ar k true v).2.2 = v.2.2 := rfl
        have hs : (snd1 now ar k true v).1 = sentM v.1 := rfl
        have ef : vF (snd1 now ar k true v) = vF v := by
          show lFl ((sentM v.1).1 9) v.2.2 = lFl (v.1.1 9) v.2.2
          rw [e9]
        have hA2 : AgR Rm now th ed (snd1 now ar k true v).1 (snd1 now ar k true v).2.2 := by
          rw [hs, hl]
          unfold AgR at hA ⊢
          rw [e9]
          exact hA
        refine ⟨ed, hA2, ?_, by rw [hl]; exact ha, ?_⟩
        · unfold SLr at hS ⊢
          rw [ef, hs, e11, em]
          exact hS
        · refine comb ed _ hs (by rw [hl]) (rmR_le (s := (snd1 now ar k true v).1) (o := (snd1 now ar k true v).2.1) hA2 hR1) ?_
          rw [ef]
          exact Int.le_refl _
      | false =>
        have hl : (snd1 now ar k false v).2.2 = v.2.2 ++ [(ar, k, 1, v.1.1 6)] := rfl
        have hs : (snd1 now ar k false v).1 = sentM v.1 := rfl
        have ef : vF (snd1 now ar k false v) = vF v + 1 := by
          show lFl ((sentM v.1).1 9) (v.2.2 ++ [(ar, k, 1, v.1.1 6)]) = lFl (v.1.1 9) v.2.2 + 1
          rw [e9, lFl_app, if_pos ⟨show ¬ (1 : Int) = 0 by decide, h96⟩]
        have hn : aNl (snd1 now ar k false v).2.2 = aNl v.2.2 := by
          rw [hl, aNl_app, if_neg (show ¬ (1 : Int) = 0 by decide)]
          rfl
        obtain ⟨a1, a2, a3, a4⟩ := hA
        -- the clock
        have key : ∀ ed1, ed1 ≤ now + Rm → (∃ n ∈ v.2.2 ++ [(ar, k, 1, v.1.1 6)], ¬ isA n ∧ v.1.1 9 ≤ n.2.2.2 ∧ n.1 ≤ ed1) → AgR Rm now th ed1 (snd1 now ar k false v).1 (snd1 now ar k false v).2.2 := by
          intro ed1 he hx
          rw [hs, hl]
          unfold AgR
          rw [e9]
          refine ⟨a1, fun n hn => ?_, fun n hn hz hy => ?_, fun _ => ⟨he, hx⟩⟩
          · rcases List.mem_append.mp hn with w | w
            · exact a2 n w
            · rw [List.mem_singleton] at w
              rw [w]
              exact har.2
          · rcases List.mem_append.mp hn with w | w
            · exact a3 n w hz hy
            · rw [List.mem_singleton] at w
              rw [w] at hy
              have hy : v.1.1 6 < v.1.1 9 := hy
              omega
        have hS2 : SLr Rm now th (snd1 now ar k false v) := by
          unfold SLr at hS ⊢
          rw [ef, hs, e11, em]
          intro q
          have := hS q
          omega
        by_cases q : 1 ≤ vF v
        · obtain ⟨b1, m, hm, b2, b3, b4⟩ := a4 q
          have hA2 := key ed b1 ⟨m, List.mem_append_left _ hm, b2, b3, b4⟩
          refine ⟨ed, hA2, hS2, by rw [hn]; exact ha, ?_⟩
          refine comb ed _ hs hn (rmR_le (s := (snd1 now ar k false v).1) (o := (snd1 now ar k false v).2.1) hA2 hR1) ?_
          rw [ef]
          unfold rmR
          rw [if_pos q, if_pos (by omega)]
          exact Int.le_refl _
        · have hA2 := key ar har.2 ⟨(ar, k, 1, v.1.1 6), List.mem_append_right _ (List.mem_singleton.mpr rfl), show ¬ (1 : Int) = 0 by decide, h96, Int.le_refl _⟩
          refine ⟨ar, hA2, hS2, by rw [hn]; exact ha, ?_⟩
          refine comb ar _ hs hn (rmR_le (s := (snd1 now ar k false v).1) (o := (snd1 now ar k false v).2.1) hA2 hR1) ?_
          rw [ef]
          unfold rmR
          rw [if_neg q, if_pos (by omega)]
          exact Int.mul_le_mul_of_nonneg_left (by omega) hd
    obtain ⟨ed1, hA1, hS1, ha1, p1⟩ := step
    obtain ⟨ed2, ts2, k1, k2, k3, k4⟩ := ih _ ed1 now h1 hA1 hS1 ha1 hok2
    have k4 : OA kk cS W kp J1 de gr Rm now th ed2 tq jg i (sndV now ar k bs (snd1 now ar k b v)) g.2.1 ≤ max (OA kk cS W kp J1 de gr Rm now th ed1 tq jg i (snd1 now ar k b v) g.2.1) (bmA cS H0 de gr Rm + W * wcP now tq jg) := k4
    exact ⟨ed2, ts2, k1, k2, k3, by omega⟩
end LHE
