/-! Bounds: notices made are packets sent less what the queue gains -/
theorem hnd_5 {now : Int} : ∀ (t : List NtM) (s : SdM), (t.foldl (hndS now) s).1 5 = s.1 5 - (t.countP (fun n => decide (n.1 = now)) : Nat) := by
  intro t
  induction t with
  | nil => intro s; simp
  | cons n t ih =>
    intro s
    rw [List.foldl_cons, ih, List.countP_cons]
    by_cases e : n.1 = now
    · have eh : hndS now s n = reachM s n.2.2.1 n.2.2.2 (now / 200) := if_pos e
      rw [eh, if_pos (decide_eq_true e)]
      have e5 : (reachM s n.2.2.1 n.2.2.2 (now / 200)).1 5 = s.1 5 - 1 := by
        unfold reachM
        split
        · exact ack_5
        · exact lost_5
      rw [e5]
      push_cast
      omega
    · have eh : hndS now s n = s := if_neg e
      rw [eh, if_neg (by rw [decide_eq_true_eq]; exact e)]
      omega
theorem snd_56 {now ar : Int} {k : Nat} : ∀ (bs : List Bool) (v : SV), (sndV now ar k bs v).1.1 5 - (sndV now ar k bs v).1.1 6 = v.1.1 5 - v.1.1 6 := by
  intro bs
  induction bs with
  | nil => intro v; rfl
  | cons b bs ih =>
    intro v
    have ev : sndV now ar k (b :: bs) v = sndV now ar k bs (snd1 now ar k b v) := rfl
    have hs : (snd1 now ar k b v).1 = sentM v.1 := rfl
    rw [ev, ih, hs, sent_5, sent_6]
    omega
/-- the queue's own packets -/
def qsM (nS : Nat) (m : MS) : Int := sumN (fun k => ((own k m).length : Int)) nS
section MADE
variable {nS nC : Nat} {m : MS}
theorem tick_56 {k : Nat} (hk : k < nS) (h4 : nS ≤ 4) : (ms (tickM nS nC m) k).1 5 - (ms (tickM nS nC m) k).1 6 = (ms m k).1 5 - (ms m k).1 6 - ((((mnt m).filter (fun n => decide (n.2.1 = k))).countP (fun n => decide (n.1 = mg m 5 + 1)) : Nat) : Int) := by
  obtain ⟨bs, z, h1, h2, h3, h5, h6, h7⟩ := tick_vo (nC := nC) hk h4 (m := m)
  have a : (vwK k (tickM nS nC m)).1.1 5 - (vwK k (tickM nS nC m)).1.1 6 = (ms m k).1 5 - (ms m k).1 6 - ((((mnt m).filter (fun n => decide (n.2.1 = k))).countP (fun n => decide (n.1 = mg m 5 + 1)) : Nat) : Int) := by
    rw [h2, fin_s, snd_56]
    have e : ∀ i : Nat, i ≠ 4 → i ≠ 10 → i ≠ 11 → i ≠ 12 → (slowM (hndV (mg m 5 + 1) (vwK k m)).1 (mg m 5 + 1) (mg m 4)).1 i = (hndV (mg m 5 + 1) (vwK k m)).1.1 i := by
      intro i i4 i10 i11 i12
      unfold slowM
      rw [begins_o i4 i12 i11, ends_o i4 i10 i11]
    show (slowM (hndV (mg m 5 + 1) (vwK k m)).1 (mg m 5 + 1) (mg m 4)).1 5 - (slowM (hndV (mg m 5 + 1) (vwK k m)).1 (mg m 5 + 1) (mg m 4)).1 6 = _
    rw [e 5 (by decide) (by decide) (by decide) (by decide), e 6 (by decide) (by decide) (by decide) (by decide)]
    have f5 : (hndV (mg m 5 + 1) (vwK k m)).1.1 5 = (ms m k).1 5 - ((((mnt m).filter (fun n => decide (n.2.1 = k))).countP (fun n => decide (n.1 = mg m 5 + 1)) : Nat) : Int) := hnd_5 _ _
    have f6 : (hndV (mg m 5 + 1) (vwK k m)).1.1 6 = (ms m k).1 6 := hnd_6 _ _
    rw [f5, f6]
    omega
  exact a
/-- by owner -/
theorem cnt_sum {l : List NtM} {p : NtM → Bool} : ∀ n : Nat, ((l.countP (fun a => p a && decide (a.2.1 < n)) : Nat) : Int) = sumN (fun k => (((l.filter (fun a => decide (a.2.1 = k))).countP p : Nat) : Int)) n := by
  intro n
  induction n with
  | zero =>
    have : l.countP (fun a => p a && decide (a.2.1 < 0)) = 0 := by
      rw [List.countP_eq_zero]
      intro a _
      simp
    rw [this]
    rfl
  | succ n ih =>
    show _ = sumN (fun k => (((l.filter (fun a => decide (a.2.1 = k))).countP p : Nat) : Int)) n + (((l.filter (fun a => decide (a.2.1 = n))).countP p : Nat) : Int)
    rw [← ih, List.countP_filter]
    clear ih
    induction l with
    | nil => rfl
    | cons a l ih =>
      rw [List.countP_cons, List.countP_cons, List.countP_cons]
      push_cast at ih ⊢
      cases hp : p a with
      | false =>
        simp only [Bool.false_and, Bool.false_eq_true, if_false]
        omega
      | true =>
        simp only [Bool.true_and]
        by_cases q : a.2.1 < n
        · rw [if_pos (by simpa using (show a.2.1 < n + 1 by omega)), if_pos (by simpa using q), if_neg (by simp; omega)]
          omega
        · by_cases y : a.2.1 = n
          · rw [if_pos (by simpa using (show a.2.1 < n + 1 by omega)), if_neg (by simpa using q), if_pos (by simpa using y)]
            omega
          · rw [if_neg (by simp; omega), if_neg (by simpa using q), if_neg (by simpa using y)]
            omega
theorem flt_len {t : Int} : ∀ l : List NtM, ((l.filter (fun n => decide (n.1 ≠ t))).length : Int) = (l.length : Int) - (l.countP (fun n => decide (n.1 = t)) : Nat) := by
  intro l
  induction l with
  | nil => rfl
  | cons a l ih =>
    rw [List.countP_cons]
    by_cases q : a.1 = t
    · rw [List.filter_cons_of_neg (by simp [q]), if_pos (decide_eq_true q), List.length_cons]
      push_cast
      omega
    · rw [List.filter_cons_of_pos (by simp [q]), if_neg (by rw [decide_eq_true_eq]; exact q), List.length_cons, List.length_cons]
      push_cast
      omega
theorem fl_sum (h : ∀ n ∈ mnt m, n.2.1 < nS) (hF : ∀ k, k < nS → FI (vwK k m)) : sumN (fun k => (ms m k).1 5) nS = qsM nS m + ((mnt m).length : Int) := by
  have e := len_sum (l := mnt m) nS
  have e2 : (mnt m).countP (fun a => decide (a.2.1 < nS)) = (mnt m).length := by
    rw [List.countP_eq_length]
    intro a ha
    exact decide_eq_true (h a ha)
  rw [e2] at e
  rw [e]
  unfold qsM
  rw [← sumN_add]
  refine sumN_congr nS (fun k hk => ?_)
  have f : (ms m k).1 5 = ((own k m).length + ((mnt m).filter (fun n => decide (n.2.1 = k))).length : Nat) := (hF k hk).1
  rw [f]
  push_cast
  rfl
/-- a tick: made = sent + queue before - queue behind -/
theorem made_eq (h4 : nS ≤ 4) (h : ∀ n ∈ mnt m, n.2.1 < nS) (h2 : ∀ n ∈ mnt (tickM nS nC m), n.2.1 < nS) (hF : ∀ k, k < nS → FI (vwK k m)) (hF2 : ∀ k, k < nS → FI (vwK k (tickM nS nC m))) : ((mnt (tickM nS nC m)).length : Int) - (((mnt m).filter (fun n => decide (n.1 ≠ mg m 5 + 1))).length : Int) = sntM nS (tickM nS nC m) - sntM nS m + qsM nS m - qsM nS (tickM nS nC m) := by
  have a := fl_sum h hF
  have b := fl_sum h2 hF2
  have c : sumN (fun k => (ms (tickM nS nC m) k).1 5) nS + sntM nS m = sumN (fun k => (ms m k).1 5) nS + sntM nS (tickM nS nC m) - (((mnt m).countP (fun n => decide (n.1 = mg m 5 + 1)) : Nat) : Int) := by
    have d := cnt_sum (l := mnt m) (p := fun n => decide (n.1 = mg m 5 + 1)) nS
    have e : (mnt m).countP (fun a => (decide (a.1 = mg m 5 + 1)) && decide (a.2.1 < nS)) = (mnt m).countP (fun n => decide (n.1 = mg m 5 + 1)) := by
      refine List.countP_congr (fun n hn => ?_)
      have := h n hn
      simp [this]
    rw [e] at d
    rw [d]
    have f : sumN (fun k => (ms (tickM nS nC m) k).1 5 + (ms m k).1 6 + (((mnt m).filter (fun n => decide (n.2.1 = k))).countP (fun n => decide (n.1 = mg m 5 + 1)) : Nat)) nS = sumN (fun k => (ms m k).1 5 + (ms (tickM nS nC m) k).1 6) nS := by
      refine sumN_congr nS (fun k hk => ?_)
      have := tick_56 (nC := nC) (m := m) hk h4
      omega
    rw [sumN_add, sumN_add, sumN_add] at f
    unfold sntM
    omega
  have g := flt_len (t := mg m 5 + 1) (mnt m)
  omega
end MADE
