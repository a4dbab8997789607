/-! Bounds: fresh losses of a sender are R apart, slow-downs 61 -/
def HT (R th : Int) (s : SdM) (l : List NtM) : Prop := ∀ n ∈ l, ¬ isA n → s.1 9 ≤ n.2.2.2 → th + R ≤ n.1
section CNT
variable {now c dl tq T0 R : Int} {o : List Int}
theorem HT.hnd (hq : tq < now) (hR : R ≤ 60) (hR1 : 1 ≤ R) : ∀ (t ks : List NtM) (s : SdM) (g : Gh) (j : GJ) (th : Int), IB now c dl tq T0 R s o (ks ++ t) g j → (∀ a ∈ ks, now < a.1) → (∀ a ∈ t, now ≤ a.1) → lsB (ks ++ t) (now + R) → HT R th s (ks ++ t) → th ≤ now →
    ∃ th2, th2 ≤ now ∧ HT R th2 (t.foldl (hndS now) s) (ks ++ t.filter (fun n => decide (n.1 ≠ now))) ∧ R * (frN now s t : Int) ≤ th2 - th := by
  intro t
  induction t with
  | nil =>
    intro ks s g j th h _ _ _ hH hth
    refine ⟨th, hth, hH, ?_⟩
    show R * ((0 : Nat) : Int) ≤ th - th
    simp
  | cons n t ih =>
    intro ks s g j th h hks ht hl hH hth
    rw [List.foldl_cons]
    have ef : frN now s (n :: t) = (if n.1 = now ∧ ¬ isA n ∧ ¬ n.2.2.2 < s.1 9 then 1 else 0) + frN now (hndS now s n) t := rfl
    rw [ef]
    have ht2 : ∀ a ∈ t, now ≤ a.1 := fun a ha => ht a (List.mem_cons_of_mem _ ha)
    by_cases e : n.1 = now
    · rw [List.filter_cons_of_neg (by simp [e])]
      have eh : hndS now s n = reachM s n.2.2.1 n.2.2.2 (now / 200) := if_pos e
      have hl2 : lsB (ks ++ t) (now + R) := hl.sub (fun a ha => mid_mem ha)
      by_cases z : isA n
      · have er : reachM s n.2.2.1 n.2.2.2 (now / 200) = ackM s n.2.2.2 (now / 200) := if_pos z
        rw [eh, er]
        obtain ⟨j2, h2, p2⟩ := h.ack z e hq hks ht2 hl2 hR
        have e9 : (ackM s n.2.2.2 (now / 200)).1 9 = s.1 9 := ack_o (by decide) (by decide) (by decide)
        have hH2 : HT R th (ackM s n.2.2.2 (now / 200)) (ks ++ t) := by
          intro a ha hA hn
          rw [e9] at hn
          exact hH a (mid_mem ha) hA hn
        obtain ⟨th3, k1, k2, k3⟩ := ih ks _ _ j2 th h2 hks ht2 hl2 hH2 hth
        refine ⟨th3, k1, k2, ?_⟩
        rw [if_neg (fun y => y.2.1 z), Nat.zero_add]
        exact k3
      · have er : reachM s n.2.2.1 n.2.2.2 (now / 200) = lostM s n.2.2.2 := if_neg z
        rw [eh, er]
        obtain ⟨h2, p2⟩ := h.lost z
        by_cases y : n.2.2.2 < s.1 9
        · have hH2 : HT R th (lostM s n.2.2.2) (ks ++ t) := by
            intro a ha hA hn
            rw [lost_9s y] at hn
            exact hH a (mid_mem ha) hA hn
          obtain ⟨th3, k1, k2, k3⟩ := ih ks _ _ j th h2 hks ht2 hl2 hH2 hth
          refine ⟨th3, k1, k2, ?_⟩
          rw [if_neg (fun w => w.2.2 y), Nat.zero_add]
          exact k3
        · have hH2 : HT R now (lostM s n.2.2.2) (ks ++ t) := by
            intro a ha hA hn
            rw [lost_9f y] at hn
            have h3 : a.2.2.2 < s.1 6 := h.1.1.2.2 a (mid_mem ha) hA
            omega
          have hb := hH n (List.mem_append_right _ List.mem_cons_self) z (by omega)
          obtain ⟨th3, k1, k2, k3⟩ := ih ks _ _ j now h2 hks ht2 hl2 hH2 (Int.le_refl _)
          refine ⟨th3, k1, k2, ?_⟩
          rw [if_pos ⟨e, z, y⟩]
          have : R * ((1 + frN now (lostM s n.2.2.2) t : Nat) : Int) = R + R * (frN now (lostM s n.2.2.2) t : Int) := by
            push_cast
            rw [Int.mul_add, Int.mul_one]
          omega
    · rw [List.filter_cons_of_pos (by simp [e])]
      have eh : hndS now s n = s := if_neg e
      rw [eh, if_neg (fun y => e y.1), Nat.zero_add]
      have el : ks ++ n :: t = (ks ++ [n]) ++ t := by simp
      have el2 : ks ++ n :: t.filter (fun n => decide (n.1 ≠ now)) = (ks ++ [n]) ++ t.filter (fun n => decide (n.1 ≠ now)) := by simp
      rw [el] at h hl hH
      rw [el2]
      have hn := ht n List.mem_cons_self
      exact ih (ks ++ [n]) s g j th h (fun a ha => by
        rcases List.mem_append.mp ha with w | w
        · exact hks a w
        · rw [List.mem_singleton] at w
          rw [w]
          omega) ht2 hl hH hth
theorem HT.snds {k : Nat} {ar th : Int} (ha : th + R ≤ ar) : ∀ (bs : List Bool) (v : SV), HT R th v.1 v.2.2 → HT R th (sndV now ar k bs v).1 (sndV now ar k bs v).2.2 := by
  intro bs
  induction bs with
  | nil => intro v h; exact h
  | cons b bs ih =>
    intro v h
    refine ih (snd1 now ar k b v) ?_
    intro n hn hA h9
    have e9 : (sentM v.1).1 9 = v.1.1 9 := sent_o (by decide) (by decide)
    have h9 : (sentM v.1).1 9 ≤ n.2.2.2 := h9
    rw [e9] at h9
    cases b with
    | true => exact h n hn hA h9
    | false =>
      have hn : n ∈ v.2.2 ++ [(ar, k, 1, v.1.1 6)] := hn
      rcases List.mem_append.mp hn with w | w
      · exact h n w hA h9
      · rw [List.mem_singleton] at w
        rw [w]
        exact ha
theorem HT.fin {k : Nat} {z : Bool} {du ar th : Int} {v : SV} (h : HT R th v.1 v.2.2) : HT R th (finV du ar k z v).1 (finV du ar k z v).2.2 := by
  have e : (finV du ar k z v).1 = v.1 := by
    cases z with
    | false => rfl
    | true =>
      cases hv : v.2.1 with
      | nil =>
        unfold finV
        rw [hv]
      | cons x t =>
        rw [fin_t hv]
  intro n hn hA h9
  rw [e] at h9
  rcases fin_mem hn with w | w
  · exact h n w hA h9
  · exact absurd w.2.1 hA
theorem HT.slow {iv th : Int} {s : SdM} {l : List NtM} (h : HT R th s l) : HT R th (slowM s now iv) l := by
  intro n hn hA h9
  have e : (slowM s now iv).1 9 = s.1 9 := by
    unfold slowM
    rw [begins_o (by decide) (by decide) (by decide), ends_o (by decide) (by decide) (by decide)]
  rw [e] at h9
  exact h n hn hA h9
end CNT
/-- slow-downs: the last began at be, or so long ago that it does not matter -/
def BG (now be : Int) (s : SdM) : Prop := be ≤ now ∧ (s.1 11 ≠ -1 → be + 60 ≤ s.1 11) ∧ (s.1 11 = -1 → be + 60 ≤ s.1 10 ∨ be + 61 ≤ now + 1)
theorem BG.hnd {now be t2 : Int} : ∀ (t : List NtM) (s : SdM), BG now be s → BG now be (t.foldl (hndS t2) s) := by
  intro t
  induction t with
  | nil => intro s h; exact h
  | cons n t ih =>
    intro s h
    rw [List.foldl_cons]
    refine ih _ ?_
    have key : ∀ s2 : SdM, s2.1 11 = s.1 11 → s2.1 10 = s.1 10 → BG now be s2 := by
      intro s2 e1 e2
      unfold BG
      rw [e1, e2]
      exact h
    unfold hndS
    by_cases e : n.1 = t2
    · rw [if_pos e]
      unfold reachM
      by_cases z : n.2.2.1 = 0
      · rw [if_pos z]
        exact key _ (ack_o (by decide) (by decide) (by decide)) (ack_o (by decide) (by decide) (by decide))
      · rw [if_neg z]
        refine key _ lost_11 ?_
        by_cases y : n.2.2.2 < s.1 9
        · rw [lost_s y]; simp [iup]
        · rw [lost_f y]; simp [iup]
    · rw [if_neg e]
      exact h
theorem BG.slow {now be iv : Int} {s : SdM} (h : BG now be s) (h0 : 0 ≤ now + 1) : ∃ b2, BG (now + 1) b2 (slowM s (now + 1) iv) ∧ 61 * (bgN (endsM s (now + 1)) (now + 1) iv : Int) ≤ b2 - be := by
  obtain ⟨h1, h2, h3⟩ := h
  have hE : ∀ s2 : SdM, s2 = endsM s (now + 1) → (be ≤ now ∧ (s2.1 11 ≠ -1 → be + 60 ≤ s2.1 11) ∧ (s2.1 11 = -1 → be + 60 ≤ s2.1 10 ∨ be + 61 ≤ now + 1)) := by
    intro s2 e
    rw [e]
    unfold endsM
    by_cases q : s.1 11 = -1
    · rw [if_pos q]
      exact ⟨h1, h2, h3⟩
    · rw [if_neg q]
      by_cases q2 : now + 1 < s.1 11
      · rw [if_pos q2]
        exact ⟨h1, h2, h3⟩
      · rw [if_neg q2]
        have e10 : (iup (iup (iup s.1 4 (s.1 12)) 11 (-1)) 10 (now + 1)) 10 = now + 1 := by simp [iup]
        have e11 : (iup (iup (iup s.1 4 (s.1 12)) 11 (-1)) 10 (now + 1)) 11 = -1 := by simp [iup]
        refine ⟨h1, fun z => absurd e11 z, fun _ => ?_⟩
        left
        dsimp only
        rw [e10]
        have := h2 q
        omega
  obtain ⟨k1, k2, k3⟩ := hE _ rfl
  unfold slowM
  generalize endsM s (now + 1) = s2 at k1 k2 k3
  unfold bgN beginsM
  by_cases q : 0 < iv ∧ s2.1 3 ≠ 0 ∧ s2.1 11 = -1 ∧ iv ≤ now + 1 - s2.1 10
  · rw [if_pos q, if_pos q]
    refine ⟨now + 1, ⟨Int.le_refl _, ?_, ?_⟩, ?_⟩
    · intro _
      have e11 : (iup (iup (iup s2.1 12 (s2.1 4)) 4 512) 11 (now + 1 + 60)) 11 = now + 1 + 60 := by simp [iup]
      dsimp only
      omega
    · intro z
      have e11 : (iup (iup (iup s2.1 12 (s2.1 4)) 4 512) 11 (now + 1 + 60)) 11 = now + 1 + 60 := by simp [iup]
      dsimp only at z
      right
      omega
    · have := k3 q.2.2.1
      show 61 * ((1 : Nat) : Int) ≤ now + 1 - be
      omega
  · rw [if_neg q, if_neg q]
    refine ⟨be, ⟨by omega, k2, fun z => ?_⟩, ?_⟩
    · rcases k3 z with w | w
      · exact Or.inl w
      · right; omega
    · show 61 * ((0 : Nat) : Int) ≤ be - be
      simp
