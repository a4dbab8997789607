/-! Bounds: a whole tick as one sender sees it -/
theorem v_enqS {j k : Nat} {m : MS} (hk : k < 4) : vwK k (enqSM j m) = vwK k m := by
  unfold enqSM enqM
  by_cases q : ((mq m).length : Int) < mg m 0
  · rw [if_pos q, if_pos q]
    unfold vwK
    refine Prod.ext rfl (Prod.ext ?_ rfl)
    show ownV k (mv m) ++ ownL k (mq m ++ [(4 + j, _, _)]) = ownV k (mv m) ++ ownL k (mq m)
    rw [ownL_snoc, if_neg (by show ¬ 4 + j = k; omega), List.append_nil]
  · rw [if_neg q]
    rfl
theorem v_burN {j k : Nat} (hk : k < 4) : ∀ (n : Nat) (m : MS), vwK k (burstNM n j m) = vwK k m := by
  intro n
  induction n with
  | zero => intro m; rfl
  | succ n ih => intro m; exact (ih _).trans (v_enqS hk)
theorem v_burs {k : Nat} {m : MS} (hk : k < 4) : ∀ n : Nat, vwK k (burstsM n m) = vwK k m := by
  intro n
  induction n with
  | zero => rfl
  | succ n ih => exact (v_burN hk _ _).trans ih
theorem v_begin {k : Nat} {m : MS} : vwK k (beginM m) = vwK k m := by
  have hb := begin_keep (m := m)
  unfold vwK
  refine Prod.ext (by show ms (beginM m) k = ms m k; rw [hb.1]) (Prod.ext ?_ (by show (mnt (beginM m)).filter _ = _; rw [hb.2.1]))
  show own k (beginM m) = own k m
  unfold beginM
  split
  · rename_i p l hv hq
    show ownV k (some p) ++ ownL k l = ownV k (mv m) ++ ownL k (mq m)
    rw [hv, hq, ownL_cons]
    rfl
  · rfl
def fnB (k : Nat) (m : MS) : Bool := match mv m with
  | some p => decide (mg m 14 = mg m 5 ∧ p.1 = k)
  | none => false
theorem v_fini {k : Nat} {m : MS} (hk : k < 4) : vwK k (finiM m) = finV (mg m 5 + mg m 2) (mg m 5 + mg m 2 + mg m 3) k (fnB k m) (vwK k m) := by
  unfold finiM fnB
  cases hv : mv m with
  | none => rfl
  | some p =>
    dsimp only
    by_cases q : mg m 14 = mg m 5
    · rw [if_pos q]
      by_cases q4 : p.1 < 4
      · rw [if_pos q4]
        by_cases qk : p.1 = k
        · have eo : own k m = p.2.2 :: ownL k (mq m) := by
            unfold own ownV
            rw [hv]
            dsimp only
            rw [if_pos qk]
            rfl
          have ed : decide (mg m 14 = mg m 5 ∧ p.1 = k) = true := decide_eq_true ⟨q, qk⟩
          rw [ed]
          unfold finV vwK
          dsimp only
          rw [eo]
          refine Prod.ext rfl (Prod.ext rfl ?_)
          show (mnt m ++ [(mg m 5 + mg m 2 + mg m 3, p.1, 0, mg m 5 + mg m 2 - p.2.2 + (ms m p.1).1 2)]).filter (fun n : NtM => decide (n.2.1 = k)) = (mnt m).filter (fun n : NtM => decide (n.2.1 = k)) ++ [(mg m 5 + mg m 2 + mg m 3, k, 0, mg m 5 + mg m 2 - p.2.2 + (ms m k).1 2)]
          rw [List.filter_append, List.filter_cons_of_pos (by simp [qk]), qk]
          rfl
        · have ed : decide (mg m 14 = mg m 5 ∧ p.1 = k) = false := decide_eq_false (fun z => qk z.2)
          rw [ed]
          unfold finV vwK
          dsimp only
          refine Prod.ext rfl (Prod.ext ?_ ?_)
          · show ownV k none ++ ownL k (mq m) = ownV k (mv m) ++ ownL k (mq m)
            rw [hv]
            show ([] : List Int) ++ _ = (if p.1 = k then [p.2.2] else []) ++ _
            rw [if_neg qk]
          · show (mnt m ++ [(mg m 5 + mg m 2 + mg m 3, p.1, 0, mg m 5 + mg m 2 - p.2.2 + (ms m p.1).1 2)]).filter (fun n : NtM => decide (n.2.1 = k)) = (mnt m).filter (fun n : NtM => decide (n.2.1 = k))
            rw [List.filter_append, List.filter_cons_of_neg (by simp [qk])]
            simp
      · rw [if_neg q4]
        have ed : decide (mg m 14 = mg m 5 ∧ p.1 = k) = false := decide_eq_false (fun z => q4 (by have := z.2; omega))
        rw [ed]
        unfold finV vwK
        dsimp only
        refine Prod.ext rfl (Prod.ext ?_ rfl)
        show ownV k none ++ ownL k (mq m) = ownV k (mv m) ++ ownL k (mq m)
        rw [hv]
        show ([] : List Int) ++ _ = (if p.1 = k then [p.2.2] else []) ++ _
        rw [if_neg (by omega)]
    · rw [if_neg q]
      have ed : decide (mg m 14 = mg m 5 ∧ p.1 = k) = false := decide_eq_false (fun z => q z.1)
      rw [ed]
      rfl
/-- the finished one is there -/
theorem fnB_own {k : Nat} {m : MS} (h : fnB k m = true) : own k m ≠ [] := by
  unfold fnB at h
  unfold own ownV
  cases hv : mv m with
  | none => rw [hv] at h; cases h
  | some p =>
    rw [hv] at h
    dsimp only at h ⊢
    rw [if_pos (of_decide_eq_true h).2]
    simp
/-- a tick: notices, slow-down, packets sent, at most one finished -/
theorem tick_v {nS nC k : Nat} {m : MS} (hk : k < nS) (h4 : nS ≤ 4) : ∃ (bs : List Bool) (z : Bool), sndOK (mg m 5 + 1) (mg m 5 + 1 + mg m 2 + mg m 3) k bs (slowM (hndV (mg m 5 + 1) (vwK k m)).1 (mg m 5 + 1) (mg m 4), (hndV (mg m 5 + 1) (vwK k m)).2) ∧ vwK k (tickM nS nC m) = finV (mg m 5 + 1 + mg m 2) (mg m 5 + 1 + mg m 2 + mg m 3) k z (sndV (mg m 5 + 1) (mg m 5 + 1 + mg m 2 + mg m 3) k bs (slowM (hndV (mg m 5 + 1) (vwK k m)).1 (mg m 5 + 1) (mg m 4), (hndV (mg m 5 + 1) (vwK k m)).2)) ∧ ¬ wantsM (sndV (mg m 5 + 1) (mg m 5 + 1 + mg m 2 + mg m 3) k bs (slowM (hndV (mg m 5 + 1) (vwK k m)).1 (mg m 5 + 1) (mg m 4), (hndV (mg m 5 + 1) (vwK k m)).2)).1 ∧ z = fnB k (beginM (midM nS nC m)) ∧ (z = true → (sndV (mg m 5 + 1) (mg m 5 + 1 + mg m 2 + mg m 3) k bs (slowM (hndV (mg m 5 + 1) (vwK k m)).1 (mg m 5 + 1) (mg m 4), (hndV (mg m 5 + 1) (vwK k m)).2)).2.1 ≠ []) := by
  have g5 : mg (handM (nowM m)) 5 = mg m 5 + 1 := rfl
  have g4 : mg (handM (nowM m)) 4 = mg m 4 := rfl
  have g2 : mg (handM (nowM m)) 2 = mg m 2 := rfl
  have g3 : mg (handM (nowM m)) 3 = mg m 3 := rfl
  have vh : vwK k (handM (nowM m)) = hndV (mg m 5 + 1) (vwK k m) := v_hand (k := k) (m := nowM m)
  obtain ⟨bs, h1, h2, h3⟩ := (v_acts (k := k) (m := handM (nowM m)) nS).2 hk
  have es : ms (handM (nowM m)) k = (hndV (mg m 5 + 1) (vwK k m)).1 := congrArg Prod.fst vh
  have ew : ms (actsM nS (handM (nowM m))) k = (vwK k (actsM nS (handM (nowM m)))).1 := rfl
  rw [ew, h2] at h3
  rw [g5, g4, g2, g3, vh, es] at h1 h2 h3
  have gm : mg (midM nS nC m) = mg (handM (nowM m)) := ((burs_keep (m := actsM nS (handM (nowM m))) nC).2.1).trans (acts_g nS)
  have gb := (begin_keep (m := midM nS nC m)).2.2
  have e1 : vwK k (midM nS nC m) = vwK k (actsM nS (handM (nowM m))) := v_burs (by omega) nC
  refine ⟨bs, fnB k (beginM (midM nS nC m)), h1, ?_, h3, rfl, ?_⟩
  · have e0 : vwK k (tickM nS nC m) = vwK k (finiM (beginM (midM nS nC m))) := rfl
    rw [e0, v_fini (by omega), gb 5 (by decide), gb 2 (by decide), gb 3 (by decide), gm, g5, g2, g3, v_begin, e1, h2]
  · intro hz
    have w := fnB_own hz
    have e : own k (beginM (midM nS nC m)) = (vwK k (beginM (midM nS nC m))).2.1 := rfl
    rw [e, v_begin, e1, h2] at w
    exact w
