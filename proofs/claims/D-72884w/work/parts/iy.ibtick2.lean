/-! Bounds: a whole tick of a sender in regime B, put together -/
theorem hnd_2 {now : Int} : ∀ (t : List NtM) (s : SdM), (t.foldl (hndS now) s).1 2 = s.1 2 := by
  intro t
  induction t with
  | nil => intro s; rfl
  | cons n t ih =>
    intro s
    rw [List.foldl_cons, ih]
    unfold hndS
    by_cases e : n.1 = now
    · rw [if_pos e]
      unfold reachM
      by_cases z : n.2.2.1 = 0
      · rw [if_pos z]
        exact ack_o (by decide) (by decide) (by decide)
      · rw [if_neg z]
        by_cases y : n.2.2.2 < s.1 9
        · rw [lost_s y]; simp [iup]
        · rw [lost_f y]; simp [iup]
    · rw [if_neg e]
theorem snd_2 {now ar : Int} {k : Nat} : ∀ (bs : List Bool) (v : SV), (sndV now ar k bs v).1.1 2 = v.1.1 2 := by
  intro bs
  induction bs with
  | nil => intro v; rfl
  | cons b bs ih =>
    intro v
    show (sndV now ar k bs (snd1 now ar k b v)).1.1 2 = _
    rw [ih]
    exact sent_o (by decide) (by decide)
/-- where the notices of a sender come in, behind its sends -/
theorem snd_mem {now ar : Int} {k : Nat} : ∀ (bs : List Bool) (v : SV) (n : NtM), n ∈ (sndV now ar k bs v).2.2 → n ∈ v.2.2 ∨ (n.1 = ar ∧ ¬ isA n) := by
  intro bs
  induction bs with
  | nil => intro v n h; exact Or.inl h
  | cons b bs ih =>
    intro v n h
    rcases ih (snd1 now ar k b v) n h with q | q
    · cases b with
      | true => exact Or.inl q
      | false =>
        have q : n ∈ v.2.2 ++ [(ar, k, 1, v.1.1 6)] := q
        rcases List.mem_append.mp q with w | w
        · exact Or.inl w
        · rw [List.mem_singleton] at w
          rw [w]
          exact Or.inr ⟨rfl, show ¬ (1 : Int) = 0 by decide⟩
    · exact Or.inr q
theorem fin_mem {du ar : Int} {k : Nat} {z : Bool} {v : SV} {n : NtM} (h : n ∈ (finV du ar k z v).2.2) : n ∈ v.2.2 ∨ (n.1 = ar ∧ isA n ∧ z = true) := by
  cases z with
  | false => exact Or.inl h
  | true =>
    cases hv : v.2.1 with
    | nil =>
      have e : finV du ar k true v = v := by
        unfold finV
        rw [hv]
      rw [e] at h
      exact Or.inl h
    | cons x t =>
      rw [fin_t hv] at h
      have h : n ∈ v.2.2 ++ [(ar, k, 0, du - x + v.1.1 2)] := h
      rcases List.mem_append.mp h with w | w
      · exact Or.inl w
      · rw [List.mem_singleton] at w
        rw [w]
        exact Or.inr ⟨rfl, rfl, rfl⟩
/-- between ticks -/
def IBb (now c dl tq T0 R : Int) (v : SV) (g : Gh) (j : GJ) : Prop := IB now c dl tq T0 R v.1 v.2.1 v.2.2 g j ∧ (∀ n ∈ v.2.2, now < n.1) ∧ lsB v.2.2 (now + R)
abbrev PHv (now : Int) (v : SV) (g : Gh) (j : GJ) : Int := PH now v.1 v.2.1 v.2.2 g j
theorem aNl_fin {du ar : Int} {k : Nat} {z : Bool} {v : SV} : (aNl (finV du ar k z v).2.2 : Int) ≤ aNl v.2.2 + (if z = true then 1 else 0) := by
  cases z with
  | false =>
    rw [if_neg (by decide)]
    show (aNl v.2.2 : Int) ≤ _
    omega
  | true =>
    rw [if_pos rfl]
    cases hv : v.2.1 with
    | nil =>
      have e : finV du ar k true v = v := by
        unfold finV
        rw [hv]
      rw [e]
      omega
    | cons x t =>
      rw [fin_t hv]
      show (aNl (v.2.2 ++ [(ar, k, 0, du - x + v.1.1 2)]) : Int) ≤ _
      rw [aNl_app, if_pos rfl]
      push_cast
      omega
theorem IBb.tick {now c dl tq T0 R fw bk iv : Int} {v : SV} {g : Gh} {j : GJ} {k : Nat} {bs : List Bool} {z : Bool} (h : IBb now c dl tq T0 R v g j) (hq : tq < now + 1) (h0 : 0 ≤ now + 1) (hR : R ≤ 60) (hR1 : 1 ≤ R) (hc : c = bk - v.1.1 2) (hd : dl = fw + v.1.1 2) (hRR : R = fw + bk)
    (hs : sndOK (now + 1) (now + 1 + fw + bk) k bs (slowM (hndV (now + 1) v).1 (now + 1) iv, (hndV (now + 1) v).2)) (hz : z = true → (sndV (now + 1) (now + 1 + fw + bk) k bs (slowM (hndV (now + 1) v).1 (now + 1) iv, (hndV (now + 1) v).2)).2.1 ≠ []) :
    ∃ g2 j2, IBb (now + 1) c dl tq T0 R (finV (now + 1 + fw) (now + 1 + fw + bk) k z (sndV (now + 1) (now + 1 + fw + bk) k bs (slowM (hndV (now + 1) v).1 (now + 1) iv, (hndV (now + 1) v).2))) g2 j2 ∧ PHv (now + 1) (finV (now + 1 + fw) (now + 1 + fw + bk) k z (sndV (now + 1) (now + 1 + fw + bk) k bs (slowM (hndV (now + 1) v).1 (now + 1) iv, (hndV (now + 1) v).2))) g2 j2 + 5 * (bs.length : Int) ≤ PHv now v g j + 5 * (frN (now + 1) v.1 v.2.2 : Int) + 5 * (bgN (endsM (hndV (now + 1) v).1 (now + 1)) (now + 1) iv : Int) + 25 * (if z = true then 1 else 0) + 2 + 400 * ((now + 1) / 200 - now / 200) := by
  obtain ⟨hI, hp, hl⟩ := h
  obtain ⟨h1, p1⟩ := hI.nxt
  have hpt : ∀ a ∈ v.2.2, now + 1 ≤ a.1 := fun a ha => by have := hp a ha; omega
  have hl1 : lsB v.2.2 (now + 1 + R) := fun a ha hA => by have := hl a ha hA; omega
  obtain ⟨g2, j2, h2, p2⟩ := IB.hnd hq hR v.2.2 [] v.1 g j h1 (fun a ha => by cases ha) hpt hl1
  have e2 : hndV (now + 1) v = (v.2.2.foldl (hndS (now + 1)) v.1, v.2.1, [] ++ v.2.2.filter (fun n => decide (n.1 ≠ now + 1))) := rfl
  rw [e2] at hs hz ⊢
  dsimp only at hs hz ⊢
  have hk2 : ∀ a ∈ [] ++ v.2.2.filter (fun n => decide (n.1 ≠ now + 1)), now + 1 < a.1 ∧ a ∈ v.2.2 := by
    intro a ha
    rw [List.nil_append, List.mem_filter] at ha
    have b1 := hpt a ha.1
    have b2 := of_decide_eq_true ha.2
    exact ⟨by omega, ha.1⟩
  obtain ⟨j3, h3, p3⟩ := h2.ends (fun a ha => (hk2 a ha).1)
  have hP3 : lsB ([] ++ v.2.2.filter (fun n => decide (n.1 ≠ now + 1))) (now + 1 - 1 + R) := fun a ha hA => by
    have := hl a (hk2 a ha).2 hA
    omega
  obtain ⟨h4, p4⟩ := h3.begins (iv := iv) h0 hP3 hR
  have h4 : IB (now + 1) c dl tq T0 R (slowM (v.2.2.foldl (hndS (now + 1)) v.1) (now + 1) iv) v.2.1 ([] ++ v.2.2.filter (fun n => decide (n.1 ≠ now + 1))) g2 j3 := h4
  obtain ⟨j5, h5, p5⟩ := IB.snds bs _ _ _ g2 j3 h4 hs
  have f2 : (slowM (v.2.2.foldl (hndS (now + 1)) v.1) (now + 1) iv).1 2 = v.1.1 2 := by
    unfold slowM
    rw [begins_o (by decide) (by decide) (by decide), ends_o (by decide) (by decide) (by decide), hnd_2]
  generalize hvs : sndV (now + 1) (now + 1 + fw + bk) k bs (slowM (v.2.2.foldl (hndS (now + 1)) v.1) (now + 1) iv, v.2.1, [] ++ v.2.2.filter (fun n => decide (n.1 ≠ now + 1))) = vs at *
  have f3 : vs.1.1 2 = v.1.1 2 := by
    rw [← hvs, snd_2]
    exact f2
  obtain ⟨h6, p6⟩ := h5.fin (k := k) (z := z) (fw := fw) (bk := bk) hz (by rw [f3]; exact hc) (by rw [f3]; exact hd) hRR
  have evs : (vs.1, vs.2.1, vs.2.2) = vs := rfl
  rw [evs] at h6 p6
  refine ⟨g2, j5, ⟨h6, ?_, ?_⟩, ?_⟩
  · intro a ha
    rcases fin_mem ha with w | w
    · rw [← hvs] at w
      rcases snd_mem _ _ _ w with y | y
      · exact (hk2 a y).1
      · omega
    · omega
  · intro a ha hA
    rcases fin_mem ha with w | w
    · rw [← hvs] at w
      rcases snd_mem _ _ _ w with y | y
      · have := hl1 a (hk2 a y).2 hA
        exact this
      · omega
    · exact absurd w.2.1 hA
  · have an := aNl_fin (du := now + 1 + fw) (ar := now + 1 + fw + bk) (k := k) (z := z) (v := vs)
    have q1 : PHv now v g j = PF now v.1 v.2.1 v.2.2 g j + 25 * (aNl v.2.2 : Int) := rfl
    have q1' : PH (now + 1) v.1 v.2.1 ([] ++ v.2.2) g j = PF (now + 1) v.1 v.2.1 v.2.2 g j + 25 * (aNl v.2.2 : Int) := rfl
    have q2 : ∀ jj, PH (now + 1) (v.2.2.foldl (hndS (now + 1)) v.1) v.2.1 ([] ++ v.2.2.filter (fun n => decide (n.1 ≠ now + 1))) g2 jj = PF (now + 1) (v.2.2.foldl (hndS (now + 1)) v.1) v.2.1 ([] ++ v.2.2.filter (fun n => decide (n.1 ≠ now + 1))) g2 jj + 25 * (aNl ([] ++ v.2.2.filter (fun n => decide (n.1 ≠ now + 1))) : Int) := fun _ => rfl
    have q4 : PH (now + 1) (slowM (v.2.2.foldl (hndS (now + 1)) v.1) (now + 1) iv) v.2.1 ([] ++ v.2.2.filter (fun n => decide (n.1 ≠ now + 1))) g2 j3 = PF (now + 1) (beginsM (endsM (v.2.2.foldl (hndS (now + 1)) v.1) (now + 1)) (now + 1) iv) v.2.1 ([] ++ v.2.2.filter (fun n => decide (n.1 ≠ now + 1))) g2 j3 + 25 * (aNl ([] ++ v.2.2.filter (fun n => decide (n.1 ≠ now + 1))) : Int) := rfl
    have q5 : PH (now + 1) vs.1 vs.2.1 vs.2.2 g2 j5 = PF (now + 1) vs.1 vs.2.1 vs.2.2 g2 j5 + 25 * (aNl vs.2.2 : Int) := rfl
    have q6 : PHv (now + 1) (finV (now + 1 + fw) (now + 1 + fw + bk) k z vs) g2 j5 = PF (now + 1) (finV (now + 1 + fw) (now + 1 + fw + bk) k z vs).1 (finV (now + 1 + fw) (now + 1 + fw + bk) k z vs).2.1 (finV (now + 1 + fw) (now + 1 + fw + bk) k z vs).2.2 g2 j5 + 25 * (aNl (finV (now + 1 + fw) (now + 1 + fw + bk) k z vs).2.2 : Int) := rfl
    rw [q2 j2] at p2
    rw [q1'] at p2
    rw [q4, q5] at p5
    rw [q6, q1]
    omega
