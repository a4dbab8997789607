/-! Bounds: sends in a time not longer than the way of a loss: at most the flight behind it and what was finished -/
def cLs (x : Int) (l : List NtM) : Nat := l.countP (fun n => decide (¬ n.2.2.1 = 0 ∧ n.1 ≤ x))
theorem cLs_mid {x : Int} {l1 l2 : List NtM} {n : NtM} : cLs x (l1 ++ n :: l2) = cLs x (l1 ++ l2) + if ¬ n.2.2.1 = 0 ∧ n.1 ≤ x then 1 else 0 := by
  unfold cLs
  rw [List.countP_append, List.countP_append, List.countP_cons]
  by_cases q : ¬ n.2.2.1 = 0 ∧ n.1 ≤ x
  · rw [if_pos q, if_pos (decide_eq_true q)]
    omega
  · rw [if_neg q, if_neg (by rw [decide_eq_true_eq]; exact q)]
    omega
theorem cLs_app {x : Int} {l : List NtM} {n : NtM} : cLs x (l ++ [n]) = cLs x l + if ¬ n.2.2.1 = 0 ∧ n.1 ≤ x then 1 else 0 := by
  have := cLs_mid (x := x) (l1 := l) (l2 := []) (n := n)
  rw [List.append_nil] at this
  exact this
/-- kept by all but what is finished; x: when losses sent from now on come in at the earliest, less one -/
def wGe (x : Int) (s : SdM) (l : List NtM) : Int := s.1 6 - s.1 5 + (aNl l : Int) + (cLs x l : Int)
theorem wGe_hnd {now x : Int} (hx : now ≤ x) : ∀ (t ks : List NtM) (s : SdM), wGe x (t.foldl (hndS now) s) (ks ++ t.filter (fun n => decide (n.1 ≠ now))) = wGe x s (ks ++ t) := by
  intro t
  induction t with
  | nil => intro ks s; rfl
  | cons n t ih =>
    intro ks s
    rw [List.foldl_cons]
    by_cases e : n.1 = now
    · rw [List.filter_cons_of_neg (by simp [e])]
      have eh : hndS now s n = reachM s n.2.2.1 n.2.2.2 (now / 200) := if_pos e
      rw [eh, ih]
      unfold wGe
      rw [aNl_mid, cLs_mid]
      by_cases z : n.2.2.1 = 0
      · have er : reachM s n.2.2.1 n.2.2.2 (now / 200) = ackM s n.2.2.2 (now / 200) := if_pos z
        rw [er, ack_5, ack_o (k := 6) (by decide) (by decide) (by decide), if_pos z, if_neg (fun y => y.1 z)]
        push_cast
        omega
      · have er : reachM s n.2.2.1 n.2.2.2 (now / 200) = lostM s n.2.2.2 := if_neg z
        rw [er, lost_5, lost_6, if_neg z, if_pos ⟨z, by omega⟩]
        push_cast
        omega
    · rw [List.filter_cons_of_pos (by simp [e])]
      have eh : hndS now s n = s := if_neg e
      rw [eh]
      have el : ks ++ n :: t = (ks ++ [n]) ++ t := by simp
      have el2 : ks ++ n :: t.filter (fun n => decide (n.1 ≠ now)) = (ks ++ [n]) ++ t.filter (fun n => decide (n.1 ≠ now)) := by simp
      rw [el, el2]
      exact ih _ _
theorem wGe_snd {now ar x : Int} {k : Nat} (hx : x < ar) : ∀ (bs : List Bool) (v : SV), wGe x (sndV now ar k bs v).1 (sndV now ar k bs v).2.2 = wGe x v.1 v.2.2 := by
  intro bs
  induction bs with
  | nil => intro v; rfl
  | cons b bs ih =>
    intro v
    have ev : sndV now ar k (b :: bs) v = sndV now ar k bs (snd1 now ar k b v) := rfl
    rw [ev, ih]
    have hs : (snd1 now ar k b v).1 = sentM v.1 := rfl
    unfold wGe
    rw [hs, sent_5, sent_6]
    cases b with
    | true =>
      have hl : (snd1 now ar k true v).2.2 = v.2.2 := rfl
      rw [hl]
      omega
    | false =>
      have hl : (snd1 now ar k false v).2.2 = v.2.2 ++ [(ar, k, 1, v.1.1 6)] := rfl
      rw [hl, aNl_app, cLs_app, if_neg (show ¬ (1 : Int) = 0 by decide), if_neg (fun y => by have : ar ≤ x := y.2; omega)]
      push_cast
      omega
theorem wGe_fin {du ar x : Int} {k : Nat} {z : Bool} {v : SV} (hz : z = true → v.2.1 ≠ []) : wGe x (finV du ar k z v).1 (finV du ar k z v).2.2 = wGe x v.1 v.2.2 + (if z = true then 1 else 0) := by
  cases z with
  | false =>
    show wGe x v.1 v.2.2 = wGe x v.1 v.2.2 + (if false = true then 1 else 0)
    rw [if_neg (by decide)]
    omega
  | true =>
    cases ho : v.2.1 with
    | nil => exact absurd ho (hz rfl)
    | cons y t =>
      rw [fin_t ho, if_pos rfl]
      unfold wGe
      rw [aNl_app, cLs_app, if_pos rfl, if_neg (fun w => w.1 rfl)]
      push_cast
      omega
section GEN
variable {nS nC : Nat} {m : MS}
theorem wGe_tick {k : Nat} {x : Int} (hk : k < nS) (h4 : nS ≤ 4) (hx : mg m 5 + 1 ≤ x) (hR : x < mg m 5 + 1 + mg m 2 + mg m 3) : wGe x (vwK k (tickM nS nC m)).1 (vwK k (tickM nS nC m)).2.2 = wGe x (vwK k m).1 (vwK k m).2.2 + (if fnB k (beginM (midM nS nC m)) = true then 1 else 0) := by
  obtain ⟨bs, z, h1, h2, h3, h5, h6, h7⟩ := tick_vo (nC := nC) hk h4 (m := m)
  rw [h2, wGe_fin h6, wGe_snd hR, h5]
  congr 1
  have e := wGe_hnd hx (vwK k m).2.2 [] (vwK k m).1
  have e2 : hndV (mg m 5 + 1) (vwK k m) = ((vwK k m).2.2.foldl (hndS (mg m 5 + 1)) (vwK k m).1, (vwK k m).2.1, [] ++ (vwK k m).2.2.filter (fun n => decide (n.1 ≠ mg m 5 + 1))) := rfl
  rw [e2]
  dsimp only
  rw [← (show wGe x ((vwK k m).2.2.foldl (hndS (mg m 5 + 1)) (vwK k m).1) ([] ++ (vwK k m).2.2.filter (fun n => decide (n.1 ≠ mg m 5 + 1))) = wGe x (vwK k m).1 (vwK k m).2.2 from e)]
  unfold wGe slowM
  rw [begins_o (k := 5) (by decide) (by decide) (by decide), ends_o (k := 5) (by decide) (by decide) (by decide), begins_o (k := 6) (by decide) (by decide) (by decide), ends_o (k := 6) (by decide) (by decide) (by decide)]
/-- what sender k finished in T ticks -/
def fkT (nS nC k : Nat) : Nat → MS → Int
  | 0, _ => 0
  | n + 1, m => fkT nS nC k n m + (if fnB k (beginM (midM nS nC (tkN nS nC n m))) = true then 1 else 0)
theorem wGe_run {k : Nat} (hk : k < nS) (h4 : nS ≤ 4) : ∀ T : Nat, (T : Int) ≤ mg m 2 + mg m 3 → wGe (mg m 5 + mg m 2 + mg m 3) (vwK k (tkN nS nC T m)).1 (vwK k (tkN nS nC T m)).2.2 = wGe (mg m 5 + mg m 2 + mg m 3) (vwK k m).1 (vwK k m).2.2 + fkT nS nC k T m := by
  intro T
  induction T with
  | zero =>
    intro _
    show _ = _ + (0 : Int)
    rw [Int.add_zero]
    rfl
  | succ T ih =>
    intro hT
    have g2 := tkN_g (nS := nS) (nC := nC) (m := m) (i := 2) (by decide) (by decide) (by decide) (by decide) (by decide) (by decide) T
    have g3 := tkN_g (nS := nS) (nC := nC) (m := m) (i := 3) (by decide) (by decide) (by decide) (by decide) (by decide) (by decide) T
    have g5 := tkN_5 (nS := nS) (nC := nC) (m := m) T
    have et : tkN nS nC (T + 1) m = tickM nS nC (tkN nS nC T m) := rfl
    have ef : fkT nS nC k (T + 1) m = fkT nS nC k T m + (if fnB k (beginM (midM nS nC (tkN nS nC T m))) = true then 1 else 0) := rfl
    rw [et, ef, wGe_tick hk h4 (by rw [g5]; push_cast at hT; omega) (by rw [g5, g2, g3]; push_cast at hT; omega), ih (by push_cast at hT; omega)]
    omega
/-- sends of sender k in T ticks, T not above the way of a loss -/
theorem gen_k {k : Nat} (hk : k < nS) (h4 : nS ≤ 4) {T : Nat} (hT : (T : Int) ≤ mg m 2 + mg m 3) (hF : FI (vwK k m)) : (ms (tkN nS nC T m) k).1 6 - (ms m k).1 6 ≤ (ms (tkN nS nC T m) k).1 5 + fkT nS nC k T m := by
  have e := wGe_run (nC := nC) (m := m) hk h4 T hT
  unfold wGe at e
  have h1 : (ms m k).1 5 = (((vwK k m).2.1.length + (vwK k m).2.2.length : Nat) : Int) := hF.1
  have h2 : ∀ (x : Int) (l : List NtM), aNl l + cLs x l ≤ l.length := by
    intro x l
    induction l with
    | nil => exact Nat.le_refl _
    | cons n l ih =>
      have a := aNl_mid (l1 := []) (l2 := l) (n := n)
      have b := cLs_mid (x := x) (l1 := []) (l2 := l) (n := n)
      rw [List.nil_append, List.nil_append] at a b
      rw [a, b, List.length_cons]
      split <;> split <;> omega
  have h3 := h2 (mg m 5 + mg m 2 + mg m 3) (vwK k m).2.2
  have e1 : (vwK k m).1.1 6 = (ms m k).1 6 := rfl
  have e2 : (vwK k m).1.1 5 = (ms m k).1 5 := rfl
  have e3 : (vwK k (tkN nS nC T m)).1.1 6 = (ms (tkN nS nC T m) k).1 6 := rfl
  have e4 : (vwK k (tkN nS nC T m)).1.1 5 = (ms (tkN nS nC T m) k).1 5 := rfl
  omega
theorem fkT_sum : ∀ T : Nat, sumN (fun k => fkT nS nC k T m) nS ≤ fnT nS nC T m := by
  intro T
  induction T with
  | zero =>
    have : sumN (fun k => fkT nS nC k 0 m) nS = sumN (fun _ => 0) nS := rfl
    rw [this, sumN_c]
    show _ ≤ (0 : Int)
    omega
  | succ T ih =>
    have e : sumN (fun k => fkT nS nC k (T + 1) m) nS = sumN (fun k => fkT nS nC k T m) nS + sumN (fun k => if fnB k (beginM (midM nS nC (tkN nS nC T m))) = true then 1 else 0) nS := by
      rw [← sumN_add]
      rfl
    have e2 := fnB_sum (beginM (midM nS nC (tkN nS nC T m))) nS
    have e3 : fnT nS nC (T + 1) m = fnT nS nC T m + fiB (beginM (midM nS nC (tkN nS nC T m))) := rfl
    omega
/-- all senders -/
theorem gen_all (h4 : nS ≤ 4) {T : Nat} (hT : (T : Int) ≤ mg m 2 + mg m 3) (hF : ∀ k, k < nS → FI (vwK k m)) : sntM nS (tkN nS nC T m) - sntM nS m ≤ sumN (fun k => (ms (tkN nS nC T m) k).1 5) nS + fnT nS nC T m := by
  have a : sumN (fun k => (ms (tkN nS nC T m) k).1 6 - (ms m k).1 6) nS ≤ sumN (fun k => (ms (tkN nS nC T m) k).1 5 + fkT nS nC k T m) nS := sumN_le nS (fun k hk => gen_k hk h4 hT (hF k hk))
  have b : sumN (fun k => (ms (tkN nS nC T m) k).1 6 - (ms m k).1 6) nS + sntM nS m = sntM nS (tkN nS nC T m) := by
    unfold sntM
    rw [← sumN_add]
    exact sumN_congr nS (fun k _ => by omega)
  have c := fkT_sum (nS := nS) (nC := nC) (m := m) T
  rw [sumN_add] at a
  omega
end GEN
