/-! Bounds: notices made in a run -/
theorem len_snd {now ar : Int} {k : Nat} : ∀ (bs : List Bool) (v : SV), v.2.2.length ≤ (sndV now ar k bs v).2.2.length := by
  intro bs
  induction bs with
  | nil => intro v; exact Nat.le_refl _
  | cons b bs ih =>
    intro v
    have ev : sndV now ar k (b :: bs) v = sndV now ar k bs (snd1 now ar k b v) := rfl
    rw [ev]
    refine Nat.le_trans ?_ (ih _)
    cases b with
    | true => exact Nat.le_refl _
    | false =>
      show v.2.2.length ≤ (v.2.2 ++ [(ar, k, 1, v.1.1 6)]).length
      rw [List.length_append]
      omega
theorem len_fin {du ar : Int} {k : Nat} {z : Bool} {v : SV} : v.2.2.length ≤ (finV du ar k z v).2.2.length := by
  cases z with
  | false => exact Nat.le_refl _
  | true =>
    cases ho : v.2.1 with
    | nil =>
      have e : finV du ar k true v = v := by
        unfold finV
        rw [ho]
      rw [e]
      exact Nat.le_refl _
    | cons y t =>
      rw [fin_t ho]
      show v.2.2.length ≤ (v.2.2 ++ [_]).length
      rw [List.length_append]
      omega
section CRN
variable {nS nC : Nat} {m : MS}
theorem kept_le (h4 : nS ≤ 4) (h : ∀ n ∈ mnt m, n.2.1 < nS) (h2 : ∀ n ∈ mnt (tickM nS nC m), n.2.1 < nS) : ((mnt m).filter (fun n => decide (n.1 ≠ mg m 5 + 1))).length ≤ (mnt (tickM nS nC m)).length := by
  have a := len_sum (l := mnt (tickM nS nC m)) nS
  have b := len_sum (l := (mnt m).filter (fun n => decide (n.1 ≠ mg m 5 + 1))) nS
  have a2 : (mnt (tickM nS nC m)).countP (fun a => decide (a.2.1 < nS)) = (mnt (tickM nS nC m)).length := by
    rw [List.countP_eq_length]
    intro x hx
    exact decide_eq_true (h2 x hx)
  have b2 : ((mnt m).filter (fun n => decide (n.1 ≠ mg m 5 + 1))).countP (fun a => decide (a.2.1 < nS)) = ((mnt m).filter (fun n => decide (n.1 ≠ mg m 5 + 1))).length := by
    rw [List.countP_eq_length]
    intro x hx
    exact decide_eq_true (h x (List.mem_filter.mp hx).1)
  rw [a2] at a
  rw [b2] at b
  have key : sumN (fun k => ((((mnt m).filter (fun n => decide (n.1 ≠ mg m 5 + 1))).filter (fun a => decide (a.2.1 = k))).length : Int)) nS ≤ sumN (fun k => (((mnt (tickM nS nC m)).filter (fun a => decide (a.2.1 = k))).length : Int)) nS := by
    refine sumN_le nS (fun k hk => ?_)
    obtain ⟨bs, z, h1, h2, h3, h5, h6, h7⟩ := tick_vo (nC := nC) hk h4 (m := m)
    have e1 : ((mnt (tickM nS nC m)).filter (fun a => decide (a.2.1 = k))) = (vwK k (tickM nS nC m)).2.2 := rfl
    have e2 : (((mnt m).filter (fun n => decide (n.1 ≠ mg m 5 + 1))).filter (fun a => decide (a.2.1 = k))).length = (hndV (mg m 5 + 1) (vwK k m)).2.2.length := by
      show _ = (((mnt m).filter (fun a => decide (a.2.1 = k))).filter (fun n => decide (n.1 ≠ mg m 5 + 1))).length
      rw [List.filter_filter, List.filter_filter]
      congr 1
      refine List.filter_congr (fun x _ => ?_)
      exact Bool.and_comm _ _
    rw [e1, e2, h2]
    have c := len_fin (du := mg m 5 + 1 + mg m 2) (ar := mg m 5 + 1 + mg m 2 + mg m 3) (k := k) (z := z) (v := sndV (mg m 5 + 1) (mg m 5 + 1 + mg m 2 + mg m 3) k bs (slowM (hndV (mg m 5 + 1) (vwK k m)).1 (mg m 5 + 1) (mg m 4), (hndV (mg m 5 + 1) (vwK k m)).2))
    have d := len_snd (now := mg m 5 + 1) (ar := mg m 5 + 1 + mg m 2 + mg m 3) (k := k) bs (slowM (hndV (mg m 5 + 1) (vwK k m)).1 (mg m 5 + 1) (mg m 4), (hndV (mg m 5 + 1) (vwK k m)).2)
    have d2 : (slowM (hndV (mg m 5 + 1) (vwK k m)).1 (mg m 5 + 1) (mg m 4), (hndV (mg m 5 + 1) (vwK k m)).2).2.2.length = (hndV (mg m 5 + 1) (vwK k m)).2.2.length := rfl
    omega
  omega
theorem crM_eq (h4 : nS ≤ 4) (h : ∀ n ∈ mnt m, n.2.1 < nS) (h2 : ∀ n ∈ mnt (tickM nS nC m), n.2.1 < nS) (hF : ∀ k, k < nS → FI (vwK k m)) (hF2 : ∀ k, k < nS → FI (vwK k (tickM nS nC m))) : (crM nS nC m : Int) = sntM nS (tickM nS nC m) - sntM nS m + qsM nS m - qsM nS (tickM nS nC m) := by
  have a := made_eq (nC := nC) h4 h h2 hF hF2
  have b := kept_le (nC := nC) h4 h h2
  have e : crM nS nC m = (mnt (tickM nS nC m)).length - ((mnt m).filter (fun n => decide (n.1 ≠ mg m 5 + 1))).length := by
    unfold crM
    congr 2
  omega
theorem crN_eq (h4 : nS ≤ 4) : ∀ T : Nat, (∀ i, i ≤ T → (∀ n ∈ mnt (tkN nS nC i m), n.2.1 < nS) ∧ ∀ k, k < nS → FI (vwK k (tkN nS nC i m))) → (crN nS nC T m : Int) = sntM nS (tkN nS nC T m) - sntM nS m + qsM nS m - qsM nS (tkN nS nC T m) := by
  intro T
  induction T with
  | zero =>
    intro _
    show ((0 : Nat) : Int) = sntM nS m - sntM nS m + qsM nS m - qsM nS m
    omega
  | succ T ih =>
    intro h
    have a := ih (fun i hi => h i (by omega))
    have b := crM_eq (nC := nC) (m := tkN nS nC T m) h4 (h T (by omega)).1 (h (T + 1) (by omega)).1 (h T (by omega)).2 (h (T + 1) (by omega)).2
    have e : crN nS nC (T + 1) m = crN nS nC T m + crM nS nC (tkN nS nC T m) := rfl
    have et : tkN nS nC (T + 1) m = tickM nS nC (tkN nS nC T m) := rfl
    rw [e, et]
    push_cast
    omega
theorem qsM_le (h4 : nS ≤ 4) (hq : (mq m).length ≤ 60) : 0 ≤ qsM nS m ∧ qsM nS m ≤ 61 := by
  unfold qsM
  have e : ∀ (l : List PkM) (n : Nat), sumN (fun k => ((ownL k l).length : Int)) n ≤ l.length ∧ 0 ≤ sumN (fun k => ((ownL k l).length : Int)) n := by
    intro l n
    have c : ∀ n : Nat, sumN (fun k => ((ownL k l).length : Int)) n = ((l.countP (fun p => decide (p.1 < n)) : Nat) : Int) := by
      intro n
      induction n with
      | zero =>
        have : l.countP (fun a => decide (a.1 < 0)) = 0 := by
          rw [List.countP_eq_zero]
          intro a _
          simp
        rw [this]
        rfl
      | succ n ih =>
        show sumN (fun k => ((ownL k l).length : Int)) n + ((ownL n l).length : Int) = _
        rw [ih]
        unfold ownL
        rw [List.length_map, ← List.countP_eq_length_filter]
        clear ih
        induction l with
        | nil => rfl
        | cons a l ih =>
          rw [List.countP_cons, List.countP_cons, List.countP_cons]
          push_cast at ih ⊢
          by_cases q : a.1 < n
          · rw [if_pos (by simpa using q), if_neg (by simp; omega), if_pos (by simpa using (show a.1 < n + 1 by omega))]
            omega
          · by_cases y : a.1 = n
            · rw [if_neg (by simpa using q), if_pos (by simpa using y), if_pos (by simpa using (show a.1 < n + 1 by omega))]
              omega
            · rw [if_neg (by simpa using q), if_neg (by simpa using y), if_neg (by simp; omega)]
              omega
    rw [c]
    have := List.countP_le_length (p := fun p => decide (p.1 < n)) (l := l)
    omega
  have v : ∀ n : Nat, sumN (fun k => ((ownV k (mv m)).length : Int)) n ≤ 1 ∧ 0 ≤ sumN (fun k => ((ownV k (mv m)).length : Int)) n := by
    intro n
    cases hv : mv m with
    | none =>
      have : sumN (fun k => ((ownV k none).length : Int)) n = sumN (fun _ => 0) n := rfl
      rw [this, sumN_c]
      omega
    | some p =>
      have c : ∀ n : Nat, sumN (fun k => ((ownV k (some p)).length : Int)) n = if p.1 < n then 1 else 0 := by
        intro n
        induction n with
        | zero => rfl
        | succ n ih =>
          show sumN (fun k => ((ownV k (some p)).length : Int)) n + ((ownV n (some p)).length : Int) = _
          rw [ih]
          unfold ownV
          dsimp only
          by_cases q : p.1 < n
          · rw [if_pos q, if_neg (by omega), if_pos (by omega)]
            rfl
          · by_cases y : p.1 = n
            · rw [if_neg q, if_pos y, if_pos (by omega)]
              rfl
            · rw [if_neg q, if_neg y, if_neg (by omega)]
              rfl
      rw [c]
      split <;> omega
  have s : sumN (fun k => ((own k m).length : Int)) nS = sumN (fun k => ((ownV k (mv m)).length : Int)) nS + sumN (fun k => ((ownL k (mq m)).length : Int)) nS := by
    rw [← sumN_add]
    refine sumN_congr nS (fun k _ => ?_)
    unfold own
    rw [List.length_append]
    push_cast
    rfl
  have a := e (mq m) nS
  have b := v nS
  omega
/-- a run of ticks -/
theorem crN_le (h4 : nS ≤ 4) {T : Nat} (h : ∀ i, i ≤ T → (∀ n ∈ mnt (tkN nS nC i m), n.2.1 < nS) ∧ ∀ k, k < nS → FI (vwK k (tkN nS nC i m))) (hq : (mq m).length ≤ 60) (hq2 : (mq (tkN nS nC T m)).length ≤ 60) : (crN nS nC T m : Int) ≤ sntM nS (tkN nS nC T m) - sntM nS m + 61 := by
  have a := crN_eq (nC := nC) h4 T h
  have b := qsM_le (nS := nS) h4 hq
  have c := qsM_le (nS := nS) h4 hq2
  omega
end CRN
