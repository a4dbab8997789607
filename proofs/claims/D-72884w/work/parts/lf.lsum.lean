/-! Bounds, ledger of levels: senders that are off; all senders over a tick -/
def lvO (s : SdM) : Int := max (mW s) (256 * s.1 5 + 512)
theorem lvO_lost {tk num : Int} {s : SdM} (hI : sdB tk s) (hk : sW s) : lvO (lostM s num) ≤ lvO s := by
  have hm := mW_256 hI hk
  have h5 : (lostM s num).1 5 = s.1 5 - 1 := lost_5
  have em : mW (lostM s num) ≤ mW s := by
    by_cases z : num < s.1 9
    · have e := lost_s z
      have e11 : (lostM s num).1 11 = s.1 11 := by rw [e]; simp [iup]
      have e4 : (lostM s num).1 4 = s.1 4 := by rw [e]; simp [iup]
      have e12 : (lostM s num).1 12 = s.1 12 := by rw [e]; simp [iup]
      unfold mW
      rw [e11, e4, e12]
      exact Int.le_refl _
    · have e := lost_f z
      have e11 : (lostM s num).1 11 = s.1 11 := by rw [e]; simp [iup]
      have e4 : (lostM s num).1 4 = halfM (s.1 4) := by rw [e]; simp [iup]
      have e12 : (lostM s num).1 12 = halfM (s.1 12) := by rw [e]; simp [iup]
      have e2 : mW (lostM s num) = halfM (mW s) := by
        unfold mW
        rw [e11, e4, e12]
        split <;> rfl
      rw [e2]
      unfold halfM
      split <;> omega
  unfold lvO
  omega
theorem lvO_ack {tk d mi : Int} {s : SdM} (hI : sdB tk s) : lvO (ackM s d mi) ≤ lvO s := by
  have e5 : (ackM s d mi).1 5 = s.1 5 - 1 := ack_5
  unfold lvO
  by_cases q : s.1 11 = -1
  · have st := (ack_4 (d := d) (mi := mi) (g := ((- queueM (enterM s d mi) mi).toNat : Int)) hI q (by omega) (by omega)).2.1
    rw [mW_n q, mW_ackn q]
    omega
  · rw [mW_acks q]
    omega
theorem lvO_hnd {now c dl R lo hi : Int} {o : List Int} : ∀ (t ks : List NtM) (s : SdM) (g : Gh), CB now c dl R lo hi s o (ks ++ t) g → (∀ a ∈ ks, now < a.1) → (∀ a ∈ t, now ≤ a.1) → lvO (t.foldl (hndS now) s) ≤ lvO s := by
  intro t
  induction t with
  | nil => intro ks s g _ _ _; exact Int.le_refl _
  | cons n t ih =>
    intro ks s g h hks ht
    rw [List.foldl_cons]
    have ht2 : ∀ a ∈ t, now ≤ a.1 := fun a ha => ht a (List.mem_cons_of_mem _ ha)
    have hI := h.1.2.2.2.2
    have hk := h.1.2.2.2.1
    by_cases e : n.1 = now
    · have eh : hndS now s n = reachM s n.2.2.1 n.2.2.2 (now / 200) := if_pos e
      by_cases z : isA n
      · have er : reachM s n.2.2.1 n.2.2.2 (now / 200) = ackM s n.2.2.2 (now / 200) := if_pos z
        rw [eh, er]
        have a := ih ks _ _ (h.ack0 z e hks ht2) hks ht2
        have b := lvO_ack (d := n.2.2.2) (mi := now / 200) hI
        omega
      · have er : reachM s n.2.2.1 n.2.2.2 (now / 200) = lostM s n.2.2.2 := if_neg z
        rw [eh, er]
        have a := ih ks _ _ (h.lost0 z) hks ht2
        have b := lvO_lost (num := n.2.2.2) hI hk
        omega
    · have eh : hndS now s n = s := if_neg e
      rw [eh]
      have el : ks ++ n :: t = (ks ++ [n]) ++ t := by simp
      rw [el] at h
      have hn := ht n List.mem_cons_self
      exact ih (ks ++ [n]) s g h (fun a ha => by
        rcases List.mem_append.mp ha with w | w
        · exact hks a w
        · rw [List.mem_singleton] at w
          rw [w]
          omega) ht2
theorem hnd_3 {now : Int} : ∀ (t : List NtM) (s : SdM), (t.foldl (hndS now) s).1 3 = s.1 3 := by
  intro t
  induction t with
  | nil => intro s; rfl
  | cons n t ih =>
    intro s
    rw [List.foldl_cons, ih]
    unfold hndS reachM
    split
    · split
      · exact ack_o (by decide) (by decide) (by decide)
      · by_cases z : n.2.2.2 < s.1 9
        · rw [lost_s z]; simp [iup]
        · rw [lost_f z]; simp [iup]
    · rfl
/-- off, between ticks -/
def LGo (now c dl R lo hi ed : Int) (v : SV) (g : Gh) (Bk : Int) : Prop := CB now c dl R lo hi v.1 v.2.1 v.2.2 g ∧ (∀ n ∈ v.2.2, now < n.1) ∧ AgI now now ed v.1 v.2.2 ∧ (v.1.1 11 ≠ -1 → now < v.1.1 11 ∧ v.1.1 11 ≤ now + 60) ∧ AC now v.2.2 ∧ 25 * lvO v.1 ≤ Bk ∧ GR g
section LTO
variable {now c dl R lo hi : Int} {K kp J1 B w1 w2 Wm F0 z0 H0 gr w3 Q de ed th Bk : Int}
theorem LGo.tick {fw bk iv : Int} {v : SV} {g : Gh} {k : Nat} {bs : List Bool} {z : Bool} (h : LGo now c dl R lo hi ed v g Bk) (hoff : v.1.1 3 = 0) (h0 : 0 ≤ now + 1) (hnow : now + 1 ≤ tqB) (hR2 : R ≤ 200) (hc : c = bk - v.1.1 2) (hd : dl = fw + v.1.1 2) (hRR : R = fw + bk) (hR1 : 1 ≤ R)
    (hP : LQ K kp J1 B w1 w2 Wm F0 z0 H0 gr w3 Q de) (hQ : hi - lo ≤ Q)
    (hs : sndOK (now + 1) (now + 1 + fw + bk) k bs (slowM (hndV (now + 1) v).1 (now + 1) iv, (hndV (now + 1) v).2)) (hz : z = true → (sndV (now + 1) (now + 1 + fw + bk) k bs (slowM (hndV (now + 1) v).1 (now + 1) iv, (hndV (now + 1) v).2)).2.1 ≠ [])
    (hr : z = true → ∀ x t, (sndV (now + 1) (now + 1 + fw + bk) k bs (slowM (hndV (now + 1) v).1 (now + 1) iv, (hndV (now + 1) v).2)).2.1 = x :: t → lo ≤ now + 1 + fw - x + v.1.1 2 ∧ now + 1 + fw - x + v.1.1 2 ≤ hi) :
    ∃ g2 ed2, LGo (now + 1) c dl R lo hi ed2 (finV (now + 1 + fw) (now + 1 + fw + bk) k z (sndV (now + 1) (now + 1 + fw + bk) k bs (slowM (hndV (now + 1) v).1 (now + 1) iv, (hndV (now + 1) v).2))) g2 Bk := by
  obtain ⟨h1, h2, hA, hS, hC, h7, hGR⟩ := h
  have ha := hC.le200 h2
  have hpt : ∀ a ∈ v.2.2, now + 1 ≤ a.1 := fun a ha => by have := h2 a ha; omega
  have hA1 : AgI (now + 1) now ed v.1 ([] ++ v.2.2) := by
    obtain ⟨a1, a2, a3, a4⟩ := hA
    refine ⟨by omega, fun n hn => ?_, a3, fun q => ?_⟩
    · have := a2 n hn
      omega
    · have := a4 q
      exact ⟨by omega, this.2⟩
  have hM1 : MID (now + 1) now (v.1, v.2.1, [] ++ v.2.2) := by
    refine ⟨fun q => ?_, fun q => Or.inr (Or.inl (by omega))⟩
    have := hS q
    exact ⟨by show v.1.1 11 ≤ _; omega, Or.inr (Or.inl (by show v.1.1 11 ≤ _; omega))⟩
  have hlv := lvO_hnd v.2.2 [] v.1 g (h1.nxt0) (fun a ha => by cases ha) hpt
  obtain ⟨g2, th2, k1, k2, k3, -, k5⟩ := LG.hnd hP hQ hnow v.2.2 [] v.1 g now (h1.nxt0) hA1 hM1 (fun a ha => by cases ha) hpt ha
  have e2 : hndV (now + 1) v = (v.2.2.foldl (hndS (now + 1)) v.1, v.2.1, v.2.2.filter (fun n => decide (n.1 ≠ now + 1))) := rfl
  have e3 : ([] : List NtM) ++ v.2.2.filter (fun n => decide (n.1 ≠ now + 1)) = v.2.2.filter (fun n => decide (n.1 ≠ now + 1)) := rfl
  rw [e3] at k1 k2 k3
  have h3 : (v.2.2.foldl (hndS (now + 1)) v.1).1 3 = 0 := (hnd_3 _ _).trans hoff
  rw [e2] at hs hz hr ⊢
  dsimp only at hs hz hr ⊢
  have m1 := (k1.ends0).begins0 (iv := iv) h0
  have m1 : CB (now + 1) c dl R lo hi (slowM (v.2.2.foldl (hndS (now + 1)) v.1) (now + 1) iv) v.2.1 (v.2.2.filter (fun n => decide (n.1 ≠ now + 1))) g2 := m1
  have m3 := k3.slow (iv := iv) h0
  have e9 : (slowM (v.2.2.foldl (hndS (now + 1)) v.1) (now + 1) iv).1 9 = (v.2.2.foldl (hndS (now + 1)) v.1).1 9 := by
    unfold slowM
    rw [begins_o (by decide) (by decide) (by decide), ends_o (by decide) (by decide) (by decide)]
  have e33 : (slowM (v.2.2.foldl (hndS (now + 1)) v.1) (now + 1) iv).1 3 = 0 := by
    unfold slowM
    rw [begins_o (by decide) (by decide) (by decide), ends_o (by decide) (by decide) (by decide)]
    exact h3
  have f2 : (slowM (v.2.2.foldl (hndS (now + 1)) v.1) (now + 1) iv).1 2 = v.1.1 2 := by
    unfold slowM
    rw [begins_o (by decide) (by decide) (by decide), ends_o (by decide) (by decide) (by decide), hnd_2]
  have elv : lvO (slowM (v.2.2.foldl (hndS (now + 1)) v.1) (now + 1) iv) = lvO (v.2.2.foldl (hndS (now + 1)) v.1) := by
    unfold lvO slowM
    rw [mW_begins h0, mW_ends, begins_o (k := 5) (by decide) (by decide) (by decide), ends_o (k := 5) (by decide) (by decide) (by decide)]
  have eb : bs = [] := by
    cases bs with
    | nil => rfl
    | cons b bs => exact absurd e33 hs.1.1
  have hAC := AC.tick (fw := fw) (bk := bk) (k := k) (bs := bs) (z := z) (v := v) (s2 := slowM (v.2.2.foldl (hndS (now + 1)) v.1) (now + 1) iv) hC (by omega) rfl
  subst eb
  generalize hvs : (slowM (v.2.2.foldl (hndS (now + 1)) v.1) (now + 1) iv, v.2.1, v.2.2.filter (fun n => decide (n.1 ≠ now + 1))) = vs at *
  have ev : sndV (now + 1) (now + 1 + fw + bk) k [] vs = vs := rfl
  rw [ev] at hz hr hAC ⊢
  have s1 : vs.1 = slowM (v.2.2.foldl (hndS (now + 1)) v.1) (now + 1) iv := by rw [← hvs]
  have s2 : vs.2.1 = v.2.1 := by rw [← hvs]
  have s3 : vs.2.2 = v.2.2.filter (fun n => decide (n.1 ≠ now + 1)) := by rw [← hvs]
  rw [← s1, ← s2, ← s3] at m1
  have r1 := m1.fin0 (k := k) (z := z) (fw := fw) (bk := bk) hz (by rw [s1, f2]; exact hc) (by rw [s1, f2]; exact hd) hRR (by rw [s1, f2]; exact hr)
  have evs : (vs.1, vs.2.1, vs.2.2) = vs := rfl
  rw [evs] at r1
  have e1 : (finV (now + 1 + fw) (now + 1 + fw + bk) k z vs).1 = vs.1 := fin_s
  have hall : ∀ a ∈ (finV (now + 1 + fw) (now + 1 + fw + bk) k z vs).2.2, a ∈ v.2.2 ∧ now + 1 < a.1 ∨ (a.1 = now + 1 + fw + bk ∧ isA a) := by
    intro a ha
    rcases fin_mem ha with w | w
    · rw [s3, List.mem_filter] at w
      have b1 := hpt a w.1
      have b2 := of_decide_eq_true w.2
      exact Or.inl ⟨w.1, by omega⟩
    · exact Or.inr ⟨w.1, w.2.1⟩
  refine ⟨g2, ed, r1, ?_, ?_, ?_, hAC, ?_, by unfold GR at hGR ⊢; rw [k5]; exact hGR⟩
  · intro a ha
    rcases hall a ha with w | w
    · exact w.2
    · omega
  · obtain ⟨a1, a2, a3, a4⟩ := k2
    refine ⟨Int.le_refl _, fun n hn => ?_, fun n hn _ _ => ?_, fun q => ?_⟩
    · rcases hall n hn with w | w
      · have := hA.2.1 n w.1
        omega
      · omega
    · rcases hall n hn with w | w
      · have := hA.2.1 n w.1
        omega
      · omega
    · rw [e1, s1, e9] at q ⊢
      have q2 : 1 ≤ lFl ((v.2.2.foldl (hndS (now + 1)) v.1).1 9) (v.2.2.filter (fun n => decide (n.1 ≠ now + 1))) := by
        cases z with
        | false =>
          rw [← s3]
          exact q
        | true =>
          cases hvo : vs.2.1 with
          | nil => exact absurd hvo (hz rfl)
          | cons x t =>
            rw [fin_t hvo, lFl_app, if_neg (fun y => y.1 rfl), s3] at q
            exact q
      obtain ⟨b1, m, hm, b2⟩ := a4 q2
      refine ⟨b1, m, ?_, b2⟩
      rw [← s3] at hm
      cases z with
      | false => exact hm
      | true =>
        cases hvo : vs.2.1 with
        | nil => exact absurd hvo (hz rfl)
        | cons x t =>
          rw [fin_t hvo]
          exact List.mem_append_left _ hm
  · rw [e1, s1]
    intro q
    have := m3 (by rw [s1]; exact q)
    rw [s1] at this
    exact ⟨this.1, this.2.1⟩
  · rw [e1, s1, elv]
    omega
end LTO
