/-! Bounds, ledger of levels: a tick of a sender that is on -/
def SLc (t th : Int) (v : SV) : Prop := v.1.1 11 ≠ -1 → t < v.1.1 11 ∧ v.1.1 11 ≤ t + 60 ∧ (1 ≤ vF v ∨ v.1.1 11 ≤ th + 262 ∨ mW v.1 ≤ 67328)
/-- acknowledgments on their way: made one a tick, 200 ticks at most -/
def AC (now : Int) (l : List NtM) : Prop := ∀ j : Nat, ((l.countP (fun n => decide (n.2.2.1 = 0 ∧ now + j < n.1)) : Nat) : Int) ≤ max 0 (200 - (j : Int))
/-- the ghost's keys to come: so low that they fit any settings -/
def GR (g : Gh) : Prop := -99000 ≤ g.1 ∧ g.1 ≤ -98000
theorem stepG_1 {tq T0 now : Int} {f : Int → Option Int} {g : Gh} {n : NtM} (h : now ≤ tq) : (stepG tq T0 now f g n).1 = g.1 := by
  unfold stepG
  split
  · show kaN tq now g.1 n = g.1
    unfold kaN
    rw [if_neg (fun q => by have := q.2.2; omega)]
  · rfl
section LTK
variable {now c dl R lo hi : Int} {o : List Int} {K kp J1 B w1 w2 Wm F0 z H0 gr w3 Q de ed : Int}
theorem MID.stale {s : SdM} {l1 l2 : List NtM} {n : NtM} {th : Int} (h : MID now th (s, o, l1 ++ n :: l2)) (y : n.2.2.2 < s.1 9) : MID now th (lostM s n.2.2.2, o, l1 ++ l2) := by
  have e := lost_s y
  have ev := vF_stale (o := o) (l1 := l1) (l2 := l2) y
  have e11 : (lostM s n.2.2.2).1 11 = s.1 11 := by rw [e]; simp [iup]
  have e4 : (lostM s n.2.2.2).1 4 = s.1 4 := by rw [e]; simp [iup]
  have e12 : (lostM s n.2.2.2).1 12 = s.1 12 := by rw [e]; simp [iup]
  have em : mW (lostM s n.2.2.2) = mW s := by
    unfold mW
    rw [e11, e4, e12]
  have e5 : (lostM s n.2.2.2).1 5 = s.1 5 - 1 := lost_5
  unfold MID at h ⊢
  rw [← ev]
  dsimp only at h ⊢
  rw [e11, em, e5]
  refine ⟨h.1, fun q => ?_⟩
  have := h.2 q
  omega
theorem MID.fresh {s : SdM} {l l2 : List NtM} {num th : Int} (h : MID now th (s, o, l)) : MID now now (lostM s num, o, l2) := by
  have e11 : (lostM s num).1 11 = s.1 11 := lost_11
  unfold MID at h ⊢
  dsimp only at h ⊢
  rw [e11]
  refine ⟨fun q => ?_, fun q => Or.inr (Or.inl (by omega))⟩
  have := (h.1 q).1
  exact ⟨this, Or.inr (Or.inl (by omega))⟩
theorem MID.ack {s : SdM} {l1 l2 : List NtM} {n : NtM} {th tk mi : Int} (h : MID now th (s, o, l1 ++ n :: l2)) (hI : sdB tk s) (hn : isA n) : MID now th (ackM s n.2.2.2 mi, o, l1 ++ l2) := by
  obtain ⟨eu, ef⟩ := ack_uf (s := s) (o := o) (l1 := l1) (l2 := l2) (mi := mi) hn
  have e11 : (ackM s n.2.2.2 mi).1 11 = s.1 11 := ack_o (by decide) (by decide) (by decide)
  have e5 : (ackM s n.2.2.2 mi).1 5 = s.1 5 - 1 := ack_5
  unfold MID at h ⊢
  rw [← ef]
  dsimp only at h ⊢
  rw [e11, e5]
  refine ⟨fun q => ?_, fun q => ?_⟩
  · rw [mW_acks q]
    exact h.1 q
  · have h2 := h.2 q
    have st := (ack_4 (d := n.2.2.2) (mi := mi) (g := ((- queueM (enterM s n.2.2.2 mi) mi).toNat : Int)) hI q (by omega) (by omega)).2.1
    rw [mW_ackn q]
    rw [mW_n q] at h2
    omega
theorem LG.hnd (hP : LQ K kp J1 B w1 w2 Wm F0 z H0 gr w3 Q de) (hQ : hi - lo ≤ Q) (hnow : now ≤ tqB) : ∀ (t ks : List NtM) (s : SdM) (g : Gh) (th : Int), CB now c dl R lo hi s o (ks ++ t) g → AgI now th ed s (ks ++ t) → MID now th (s, o, ks ++ t) → (∀ a ∈ ks, now < a.1) → (∀ a ∈ t, now ≤ a.1) → aNl (ks ++ t) ≤ 200 →
    ∃ g2 th2, CB now c dl R lo hi (t.foldl (hndS now) s) o (ks ++ t.filter (fun n => decide (n.1 ≠ now))) g2 ∧ AgI now th2 ed (t.foldl (hndS now) s) (ks ++ t.filter (fun n => decide (n.1 ≠ now))) ∧ MID now th2 (t.foldl (hndS now) s, o, ks ++ t.filter (fun n => decide (n.1 ≠ now))) ∧ OH K kp J1 de gr now th2 ed (t.foldl (hndS now) s, o, ks ++ t.filter (fun n => decide (n.1 ≠ now))) g2.2.1 ≤ max (OH K kp J1 de gr now th ed (s, o, ks ++ t) g.2.1) (bmN H0 de gr) ∧ g2.1 = g.1 := by
  intro t
  induction t with
  | nil =>
    intro ks s g th h hA hM _ _ _
    exact ⟨g, th, h, hA, hM, by show OH K kp J1 de gr now th ed (s, o, ks ++ []) g.2.1 ≤ _; omega, rfl⟩
  | cons n t ih =>
    intro ks s g th h hA hM hks ht ha
    rw [List.foldl_cons]
    have ht2 : ∀ a ∈ t, now ≤ a.1 := fun a ha => ht a (List.mem_cons_of_mem _ ha)
    have hall : ∀ a ∈ ks ++ n :: t, now ≤ a.1 := by
      intro a ha
      rcases List.mem_append.mp ha with w | w
      · have := hks a w
        omega
      · exact ht a w
    have ha2 : aNl (ks ++ t) ≤ 200 := by
      rw [aNl_mid] at ha
      omega
    by_cases e : n.1 = now
    · rw [List.filter_cons_of_neg (by simp [e])]
      have eh : hndS now s n = reachM s n.2.2.1 n.2.2.2 (now / 200) := if_pos e
      by_cases z : isA n
      · have er : reachM s n.2.2.1 n.2.2.2 (now / 200) = ackM s n.2.2.2 (now / 200) := if_pos z
        rw [eh, er]
        have p2 := OH.ack hP h hA z e hQ ha2
        obtain ⟨g3, th3, h3, a3, m3, p3, q3⟩ := ih ks _ _ th (h.ack0 z e hks ht2) (hA.ack z) (hM.ack h.1.2.2.2.2 z) hks ht2 ha2
        exact ⟨g3, th3, h3, a3, m3, by omega, q3.trans (stepG_1 hnow)⟩
      · have er : reachM s n.2.2.1 n.2.2.2 (now / 200) = lostM s n.2.2.2 := if_neg z
        rw [eh, er]
        by_cases y : n.2.2.2 < s.1 9
        · have p2 := OH.stale (th := th) (ed := ed) hP h z y
          obtain ⟨g3, th3, h3, a3, m3, p3, q3⟩ := ih ks _ _ th (h.lost0 z) (hA.stale z y) (hM.stale y) hks ht2 ha2
          exact ⟨g3, th3, h3, a3, m3, by omega, q3⟩
        · have p2 := OH.fresh hP h hA z y hall ha2
          obtain ⟨g3, th3, h3, a3, m3, p3, q3⟩ := ih ks _ _ now (h.lost0 z) (hA.fresh h.1.1 y) hM.fresh hks ht2 ha2
          exact ⟨g3, th3, h3, a3, m3, by omega, q3⟩
    · rw [List.filter_cons_of_pos (by simp [e])]
      have eh : hndS now s n = s := if_neg e
      rw [eh]
      have el : ks ++ n :: t = (ks ++ [n]) ++ t := by simp
      have el2 : ks ++ n :: t.filter (fun n => decide (n.1 ≠ now)) = (ks ++ [n]) ++ t.filter (fun n => decide (n.1 ≠ now)) := by simp
      rw [el] at h hA hM ha
      rw [el, el2]
      have hn := ht n List.mem_cons_self
      exact ih (ks ++ [n]) s g th h hA hM (fun a ha => by
        rcases List.mem_append.mp ha with w | w
        · exact hks a w
        · rw [List.mem_singleton] at w
          rw [w]
          omega) ht2 ha
theorem MID.slow {s : SdM} {l : List NtM} {th iv : Int} (h : MID now th (s, o, l)) (h0 : 0 ≤ now) : SLc now th (slowM s now iv, o, l) := by
  intro hs
  have hs : (slowM s now iv).1 11 ≠ -1 := hs
  have e9 : (slowM s now iv).1 9 = s.1 9 := by
    unfold slowM
    rw [begins_o (by decide) (by decide) (by decide), ends_o (by decide) (by decide) (by decide)]
  have ev : vF (slowM s now iv, o, l) = vF (s, o, l) := by
    show lFl ((slowM s now iv).1 9) l = lFl (s.1 9) l
    rw [e9]
  have em : mW (slowM s now iv) = mW s := by
    unfold slowM
    rw [mW_begins h0, mW_ends]
  rw [ev]
  show now < (slowM s now iv).1 11 ∧ (slowM s now iv).1 11 ≤ now + 60 ∧ (1 ≤ vF (s, o, l) ∨ (slowM s now iv).1 11 ≤ th + 262 ∨ mW (slowM s now iv) ≤ 67328)
  rw [em]
  unfold MID at h
  dsimp only at h
  by_cases q : s.1 11 = -1
  · -- begun now
    have h2 := h.2 q
    have ee : endsM s now = s := if_pos q
    unfold slowM at hs ⊢
    rw [ee] at hs ⊢
    unfold beginsM at hs ⊢
    split
    · have a : (iup (iup (iup s.1 12 (s.1 4)) 4 512) 11 (now + 60)) 11 = now + 60 := by simp [iup]
      dsimp only
      rw [a]
      omega
    · rename_i x
      rw [if_neg x] at hs
      exact absurd q hs
  · have h1 := h.1 q
    by_cases q2 : now < s.1 11
    · have ee : endsM s now = s := by
        unfold endsM
        rw [if_neg q, if_pos q2]
      have eb : beginsM s now iv = s := by
        unfold beginsM
        rw [if_neg (fun x => q x.2.2.1)]
      unfold slowM
      rw [ee, eb]
      exact ⟨q2, h1⟩
    · exfalso
      apply hs
      have e11 : (endsM s now).1 11 = -1 := by
        unfold endsM
        rw [if_neg q, if_neg q2]
        simp [iup]
      have e10 : (endsM s now).1 10 = now := by
        unfold endsM
        rw [if_neg q, if_neg q2]
        simp [iup]
      unfold slowM beginsM
      rw [if_neg (fun x => by
        have a := x.1
        have b := x.2.2.2
        rw [e10] at b
        omega)]
      exact e11
theorem LG.snds (hP : LQ K kp J1 B w1 w2 Wm F0 z H0 gr w3 Q de) {k : Nat} {ar th : Int} {g : Gh} (har : now ≤ ar ∧ ar ≤ now + 200) : ∀ (bs : List Bool) (v : SV) (ed : Int), CB now c dl R lo hi v.1 v.2.1 v.2.2 g → AgI now th ed v.1 v.2.2 → SLc now th v → aNl v.2.2 ≤ 200 → sndOK now ar k bs v →
    ∃ ed2, CB now c dl R lo hi (sndV now ar k bs v).1 (sndV now ar k bs v).2.1 (sndV now ar k bs v).2.2 g ∧ AgI now th ed2 (sndV now ar k bs v).1 (sndV now ar k bs v).2.2 ∧ SLc now th (sndV now ar k bs v) ∧ OH K kp J1 de gr now th ed2 (sndV now ar k bs v) g.2.1 ≤ max (OH K kp J1 de gr now th ed v g.2.1) (bmN H0 de gr) := by
  intro bs
  induction bs with
  | nil =>
    intro v ed h hA hS _ _
    exact ⟨ed, h, hA, hS, by show OH K kp J1 de gr now th ed v g.2.1 ≤ _; omega⟩
  | cons b bs ih =>
    intro v ed h hA hS ha hok
    have ev : sndV now ar k (b :: bs) v = sndV now ar k bs (snd1 now ar k b v) := rfl
    rw [ev]
    obtain ⟨hw, hok2⟩ := hok
    have hok2 : sndOK now ar k bs (snd1 now ar k b v) := hok2
    have h1 := h.snd0 (k := k) (b := b) (ar := ar) hw
    have hF := h.1.1
    have h0 : 0 ≤ v.1.1 5 := by
      have := h.1.2.2.2.2
      unfold sdB at this
      omega
    have e9 : (sentM v.1).1 9 = v.1.1 9 := sent_o (by decide) (by decide)
    have e11 : (sentM v.1).1 11 = v.1.1 11 := sent_o (by decide) (by decide)
    have e4 : (sentM v.1).1 4 = v.1.1 4 := sent_o (by decide) (by decide)
    have e12 : (sentM v.1).1 12 = v.1.1 12 := sent_o (by decide) (by decide)
    have em : mW (sentM v.1) = mW v.1 := by unfold mW; rw [e11, e4, e12]
    have h96 : v.1.1 9 ≤ v.1.1 6 := hF.2.1
    have h3 := nuP_3 (now := now) (L := g.2.1)
    have step : ∃ ed1, AgI now th ed1 (snd1 now ar k b v).1 (snd1 now ar k b v).2.2 ∧ SLc now th (snd1 now ar k b v) ∧ aNl (snd1 now ar k b v).2.2 ≤ 200 ∧ OH K kp J1 de gr now th ed1 (snd1 now ar k b v) g.2.1 ≤ max (OH K kp J1 de gr now th ed v g.2.1) (bmN H0 de gr) := by
      have comb : ∀ (ed1 : Int) (v2 : SV), v2.1 = sentM v.1 → aNl v2.2.2 = aNl v.2.2 → rmN now th ed1 (vF v2) ≤ 462 → de * rmN now th ed1 (vF v2) ≤ de * rmN now th ed (vF v) → OH K kp J1 de gr now th ed1 v2 g.2.1 ≤ max (OH K kp J1 de gr now th ed v g.2.1) (bmN H0 de gr) := by
        intro ed1 v2 hv2 hn2 hr1 hr2
        have hlv := lv_send (Lf := vF v) (Lf2 := vF v2) hP.1 h.1.2.2.2.1 hw h0
        obtain ⟨-, -, -, -, hg, -, -, -, hd, -⟩ := hP
        rw [← hv2] at hlv
        rcases (show lvL K kp J1 v2.1 (vF v2) ≤ H0 ∨ lvL K kp J1 v2.1 (vF v2) ≤ lvL K kp J1 v.1 (vF v) by omega) with w | w
        · have := oh_low (m := now % 200) (r := rmN now th ed1 (vF v2)) (a := aNl v2.2.2) w h3 (by omega) hr1 hd hg (by omega)
          unfold OH
          omega
        · unfold OH
          rw [hn2]
          omega
      have hd := hP.2.2.2.2.2.2.2.2.1
      cases b with
      | true =>
        have hl : (snd1 now ar k true v).2.2 = v.2.2 := rfl
        have hs : (snd1 now ar k true v).1 = sentM v.1 := rfl
        have ef : vF (snd1 now ar k true v) = vF v := by
          show lFl ((sentM v.1).1 9) v.2.2 = lFl (v.1.1 9) v.2.2
          rw [e9]
        have hA2 : AgI now th ed (snd1 now ar k true v).1 (snd1 now ar k true v).2.2 := by
          rw [hs, hl]
          unfold AgI at hA ⊢
          rw [e9]
          exact hA
        refine ⟨ed, hA2, ?_, by rw [hl]; exact ha, ?_⟩
        · unfold SLc at hS ⊢
          rw [ef, hs, e11, em]
          exact hS
        · refine comb ed _ hs (by rw [hl]) (rmN_le (s := (snd1 now ar k true v).1) (o := (snd1 now ar k true v).2.1) hA2) ?_
          rw [ef]
          exact Int.le_refl _
      | false =>
        have hl : (snd1 now ar k false v).2.2 = v.2.2 ++ [(ar, k, 1, v.1.1 6)] := rfl
        have hs : (snd1 now ar k false v).1 = sentM v.1 := rfl
        have ef : vF (snd1 now ar k false v) = vF v + 1 := by
          show lFl ((sentM v.1).1 9) (v.2.2 ++ [(ar, k, 1, v.1.1 6)]) = lFl (v.1.1 9) v.2.2 + 1
          rw [e9, lFl_app, if_pos ⟨show ¬ (1 : Int) = 0 by decide, h96⟩]
        have hn : aNl (snd1 now ar k false v).2.2 = aNl v.2.2 := by
          rw [hl, aNl_app, if_neg (show ¬ (1 : Int) = 0 by decide)]
          rfl
        obtain ⟨a1, a2, a3, a4⟩ := hA
        -- the clock
        have key : ∀ ed1, ed1 ≤ now + 200 → (∃ n ∈ v.2.2 ++ [(ar, k, 1, v.1.1 6)], ¬ isA n ∧ v.1.1 9 ≤ n.2.2.2 ∧ n.1 ≤ ed1) → AgI now th ed1 (snd1 now ar k false v).1 (snd1 now ar k false v).2.2 := by
          intro ed1 he hx
          rw [hs, hl]
          unfold AgI
          rw [e9]
          refine ⟨a1, fun n hn => ?_, fun n hn hz hy => ?_, fun _ => ⟨he, hx⟩⟩
          · rcases List.mem_append.mp hn with w | w
            · exact a2 n w
            · rw [List.mem_singleton] at w
              rw [w]
              exact har.2
          · rcases List.mem_append.mp hn with w | w
            · exact a3 n w hz hy
            · rw [List.mem_singleton] at w
              rw [w] at hy
              have hy : v.1.1 6 < v.1.1 9 := hy
              omega
        have hS2 : SLc now th (snd1 now ar k false v) := by
          unfold SLc at hS ⊢
          rw [ef, hs, e11, em]
          intro q
          have := hS q
          omega
        by_cases q : 1 ≤ vF v
        · obtain ⟨b1, m, hm, b2, b3, b4⟩ := a4 q
          have hA2 := key ed b1 ⟨m, List.mem_append_left _ hm, b2, b3, b4⟩
          refine ⟨ed, hA2, hS2, by rw [hn]; exact ha, ?_⟩
          refine comb ed _ hs hn (rmN_le (s := (snd1 now ar k false v).1) (o := (snd1 now ar k false v).2.1) hA2) ?_
          rw [ef]
          unfold rmN
          rw [if_pos q, if_pos (by omega)]
          exact Int.le_refl _
        · have hA2 := key ar har.2 ⟨(ar, k, 1, v.1.1 6), List.mem_append_right _ (List.mem_singleton.mpr rfl), show ¬ (1 : Int) = 0 by decide, h96, Int.le_refl _⟩
          refine ⟨ar, hA2, hS2, by rw [hn]; exact ha, ?_⟩
          refine comb ar _ hs hn (rmN_le (s := (snd1 now ar k false v).1) (o := (snd1 now ar k false v).2.1) hA2) ?_
          rw [ef]
          unfold rmN
          rw [if_neg q, if_pos (by omega)]
          exact Int.mul_le_mul_of_nonneg_left (by omega) hd
    obtain ⟨ed1, hA1, hS1, ha1, p1⟩ := step
    obtain ⟨ed2, k1, k2, k3, k4⟩ := ih _ ed1 h1 hA1 hS1 ha1 hok2
    have k4 : OH K kp J1 de gr now th ed2 (sndV now ar k bs (snd1 now ar k b v)) g.2.1 ≤ max (OH K kp J1 de gr now th ed1 (snd1 now ar k b v) g.2.1) (bmN H0 de gr) := k4
    exact ⟨ed2, k1, k2, k3, by omega⟩
end LTK
