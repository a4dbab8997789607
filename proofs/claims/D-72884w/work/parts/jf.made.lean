/-! Bounds: notices made are packets sent and one for a packet finished -/
theorem snt_one {nS k : Nat} {m x : MS} (hk : k < nS) (h : ∀ j, j ≠ k → ms x j = ms m j) : sntM nS x - sntM nS m = (ms x k).1 6 - (ms m k).1 6 := by
  have key : ∀ n : Nat, (n ≤ k → sntM n x = sntM n m) ∧ (k < n → sntM n x - sntM n m = (ms x k).1 6 - (ms m k).1 6) := by
    intro n
    induction n with
    | zero => exact ⟨fun _ => rfl, fun z => absurd z (Nat.not_lt_zero _)⟩
    | succ n ih =>
      have e1 : sntM (n + 1) x = sntM n x + (ms x n).1 6 := rfl
      have e2 : sntM (n + 1) m = sntM n m + (ms m n).1 6 := rfl
      rw [e1, e2]
      refine ⟨fun z => ?_, fun z => ?_⟩
      · rw [ih.1 (by omega), h n (by omega)]
      · by_cases q : n = k
        · have := ih.1 (by omega)
          rw [q] at this ⊢
          omega
        · have := ih.2 (by omega)
          rw [h n q]
          omega
  exact (key nS).2 hk
theorem made_sends {k : Nat} : ∀ (i : Nat) (m : MS), ((mnt (sendsM i k m)).length : Int) - (mnt m).length ≤ (ms (sendsM i k m) k).1 6 - (ms m k).1 6 ∧ (ms m k).1 6 ≤ (ms (sendsM i k m) k).1 6 ∧ ∀ j, j ≠ k → ms (sendsM i k m) j = ms m j := by
  intro i
  induction i with
  | zero =>
    intro m
    show ((mnt m).length : Int) - (mnt m).length ≤ (ms m k).1 6 - (ms m k).1 6 ∧ (ms m k).1 6 ≤ (ms m k).1 6 ∧ _
    exact ⟨by omega, by omega, fun _ _ => rfl⟩
  | succ i ih =>
    intro m
    have es : sendsM (i + 1) k m = if (ms m k).1 3 ≠ 0 ∧ (ms m k).1 5 < (ms m k).1 4 / 256 then sendsM i k (sendM1 k m) else m := rfl
    rw [es]
    split
    · obtain ⟨a1, a3, a2⟩ := ih (sendM1 k m)
      have b1 : ((mnt (sendM1 k m)).length : Int) ≤ (mnt m).length + 1 := by
        unfold sendM1 enqM
        split
        · split
          · show ((mnt m).length : Int) ≤ _
            omega
          · show ((mnt m).length : Int) ≤ _
            omega
        · show (((mnt m) ++ [_]).length : Int) ≤ _
          rw [List.length_append, List.length_singleton]
          push_cast
          omega
      have b2 : ∀ j, ms (sendM1 k m) j = fup (ms m) k (sentM (ms m k)) j := by
        intro j
        unfold sendM1 enqM
        split
        · split <;> rfl
        · rfl
      have b3 : (ms (sendM1 k m) k).1 6 = (ms m k).1 6 + 1 := by
        rw [b2]
        unfold fup
        rw [if_pos rfl]
        exact sent_6
      refine ⟨by omega, by omega, fun j hj => ?_⟩
      rw [a2 j hj, b2]
      unfold fup
      rw [if_neg hj]
    · exact ⟨by omega, by omega, fun _ _ => rfl⟩
theorem made_acts {nS : Nat} {m : MS} : ∀ n : Nat, n ≤ nS → ((mnt (actsM n m)).length : Int) - (mnt m).length ≤ sntM nS (actsM n m) - sntM nS m ∧ sntM nS m ≤ sntM nS (actsM n m) := by
  intro n
  induction n with
  | zero =>
    intro _
    show ((mnt m).length : Int) - (mnt m).length ≤ sntM nS m - sntM nS m ∧ sntM nS m ≤ sntM nS m
    omega
  | succ n ih =>
    intro hn
    have h1 := ih (by omega)
    have hs := made_sends (k := n) ((ms (slowMk n (actsM n m)) n).1 4 / 256 - (ms (slowMk n (actsM n m)) n).1 5).toNat (slowMk n (actsM n m))
    have e1 : (mnt (slowMk n (actsM n m))).length = (mnt (actsM n m)).length := rfl
    have e2 : ∀ j, j ≠ n → ms (slowMk n (actsM n m)) j = ms (actsM n m) j := by
      intro j hj
      show fup _ n _ j = _
      unfold fup
      rw [if_neg hj]
    have e3 : (ms (slowMk n (actsM n m)) n).1 6 = (ms (actsM n m) n).1 6 := by
      show (fup _ n (slowM _ _ _) n).1 6 = _
      unfold fup
      rw [if_pos rfl]
      unfold slowM
      rw [begins_o (by decide) (by decide) (by decide), ends_o (by decide) (by decide) (by decide)]
    have hd := snt_one (nS := nS) (k := n) (m := actsM n m) (x := actM n (actsM n m)) (by omega) (fun j hj => (hs.2.2 j hj).trans (e2 j hj))
    have ea : actsM (n + 1) m = actM n (actsM n m) := rfl
    rw [ea]
    have hs1 : ((mnt (actM n (actsM n m))).length : Int) - (mnt (slowMk n (actsM n m))).length ≤ (ms (actM n (actsM n m)) n).1 6 - (ms (slowMk n (actsM n m)) n).1 6 := hs.1
    rw [e1, e3] at hs1
    have hs2 : (ms (slowMk n (actsM n m)) n).1 6 ≤ (ms (actM n (actsM n m)) n).1 6 := hs.2.1
    rw [e3] at hs2
    omega
theorem made_tick {nS nC : Nat} {m : MS} : (crM nS nC m : Int) ≤ sntM nS (tickM nS nC m) - sntM nS m + fiB (beginM (midM nS nC m)) := by
  have h1 := made_acts (nS := nS) (m := handM (nowM m)) nS (Nat.le_refl _)
  have e1 : mnt (handM (nowM m)) = (mnt m).filter (fun n => n.1 ≠ mg m 5 + 1) := rfl
  have e2 : mnt (midM nS nC m) = mnt (actsM nS (handM (nowM m))) := (burs_keep nC).2.2
  have e3 : mnt (beginM (midM nS nC m)) = mnt (midM nS nC m) := begin_keep.2.1
  have e4 : ((mnt (tickM nS nC m)).length : Int) ≤ (mnt (beginM (midM nS nC m))).length + fiB (beginM (midM nS nC m)) := by
    show ((mnt (finiM (beginM (midM nS nC m)))).length : Int) ≤ _
    generalize beginM (midM nS nC m) = x
    unfold finiM fiB
    cases hv : mv x with
    | none =>
      show ((mnt x).length : Int) ≤ (mnt x).length + 0
      omega
    | some p =>
      dsimp only
      by_cases q : mg x 14 = mg x 5
      · rw [if_pos q, if_pos q]
        split
        · show (((mnt x) ++ [_]).length : Int) ≤ _
          rw [List.length_append, List.length_singleton]
          push_cast
          omega
        · show ((mnt x).length : Int) ≤ _
          omega
      · rw [if_neg q, if_neg q]
        omega
  have e5 : ms (tickM nS nC m) = ms (actsM nS (handM (nowM m))) := by
    show ms (finiM (beginM (midM nS nC m))) = _
    rw [fini_keep.1, begin_keep.1]
    exact (burs_keep nC).1
  have e6 : sntM nS (tickM nS nC m) = sntM nS (actsM nS (handM (nowM m))) := by
    unfold sntM
    rw [e5]
  have e7 : sntM nS (handM (nowM m)) = sntM nS m := by
    unfold sntM
    refine sumN_congr nS (fun k _ => ?_)
    have : ms (handM (nowM m)) k = (hndV (mg m 5 + 1) (vwK k m)).1 := congrArg Prod.fst (v_hand (k := k) (m := nowM m))
    rw [this]
    exact hnd_6 _ _
  rw [e1] at h1
  rw [e3, e2] at e4
  rw [e6, e7.symm]
  unfold crM
  have h0 : 0 ≤ fiB (beginM (midM nS nC m)) := by
    unfold fiB
    cases mv (beginM (midM nS nC m)) with
    | none => exact Int.le_refl _
    | some p =>
      dsimp only
      split <;> decide
  omega
