/-! Bounds: sums over senders; packets finished -/
def sumN (f : Nat → Int) : Nat → Int
  | 0 => 0
  | n + 1 => sumN f n + f n
theorem sumN_add (f g : Nat → Int) : ∀ n, sumN (fun k => f k + g k) n = sumN f n + sumN g n := by
  intro n
  induction n with
  | zero => rfl
  | succ n ih =>
    show sumN _ n + (f n + g n) = sumN f n + f n + (sumN g n + g n)
    rw [ih]
    omega
theorem sumN_mul (c : Int) (f : Nat → Int) : ∀ n, sumN (fun k => c * f k) n = c * sumN f n := by
  intro n
  induction n with
  | zero => show (0 : Int) = c * 0; omega
  | succ n ih =>
    show sumN _ n + c * f n = c * (sumN f n + f n)
    rw [ih, Int.mul_add]
theorem sumN_c (c : Int) : ∀ n : Nat, sumN (fun _ => c) n = n * c := by
  intro n
  induction n with
  | zero => show (0 : Int) = ((0 : Nat) : Int) * c; simp
  | succ n ih =>
    show sumN _ n + c = ((n + 1 : Nat) : Int) * c
    rw [ih]
    push_cast
    rw [Int.add_mul, Int.one_mul]
theorem sumN_le {f g : Nat → Int} : ∀ n, (∀ k, k < n → f k ≤ g k) → sumN f n ≤ sumN g n := by
  intro n
  induction n with
  | zero => intro _; exact Int.le_refl _
  | succ n ih =>
    intro h
    have a := ih (fun k hk => h k (by omega))
    have b := h n (by omega)
    show sumN f n + f n ≤ sumN g n + g n
    omega
theorem sumN_congr {f g : Nat → Int} (n : Nat) (h : ∀ k, k < n → f k = g k) : sumN f n = sumN g n := by
  have a := sumN_le (f := f) (g := g) n (fun k hk => by rw [h k hk]; exact Int.le_refl _)
  have b := sumN_le (f := g) (g := f) n (fun k hk => by rw [h k hk]; exact Int.le_refl _)
  omega
/-- one that is finished, of whomever -/
def fiB (m : MS) : Int := match mv m with
  | some _ => if mg m 14 = mg m 5 then 1 else 0
  | none => 0
theorem fnB_sum (m : MS) : ∀ n : Nat, sumN (fun k => if fnB k m = true then 1 else 0) n ≤ fiB m := by
  have h0 : 0 ≤ fiB m := by
    unfold fiB
    cases mv m with
    | none => exact Int.le_refl _
    | some p =>
      dsimp only
      split <;> decide
  have key : ∀ n : Nat, sumN (fun k => if fnB k m = true then 1 else 0) n ≤ fiB m ∧ (∀ p, mv m = some p → n ≤ p.1 → sumN (fun k => if fnB k m = true then 1 else 0) n = 0) := by
    intro n
    induction n with
    | zero => exact ⟨h0, fun _ _ _ => rfl⟩
    | succ n ih =>
      obtain ⟨i1, i2⟩ := ih
      have es : sumN (fun k => if fnB k m = true then (1 : Int) else 0) (n + 1) = sumN (fun k => if fnB k m = true then 1 else 0) n + (if fnB n m = true then 1 else 0) := rfl
      rw [es]
      cases hv : mv m with
      | none =>
        have e : fnB n m = false := by
          unfold fnB
          rw [hv]
        rw [e, if_neg (by decide)]
        exact ⟨by omega, fun p hp => by cases hp⟩
      | some p =>
        by_cases z : fnB n m = true
        · rw [if_pos z]
          have z2 := z
          unfold fnB at z2
          rw [hv] at z2
          have z3 := of_decide_eq_true z2
          have s0 := i2 p hv (by omega)
          have ef : fiB m = 1 := by
            unfold fiB
            rw [hv]
            dsimp only
            rw [if_pos z3.1]
          refine ⟨by omega, fun q hq hle => ?_⟩
          have : p = q := Option.some.inj hq
          subst this
          omega
        · rw [if_neg z]
          refine ⟨by omega, fun q hq hle => ?_⟩
          have : p = q := Option.some.inj hq
          subst this
          have := i2 p hv (by omega)
          omega
  exact fun n => (key n).1
/-- the server's clock -/
def phM (m : MS) : Int := match mv m with
  | some _ => mg m 14 - mg m 1
  | none => mg m 5
theorem phM_tick {nS nC : Nat} {m : MS} (hs : 1 ≤ mg m 1) : mg m 1 * fiB (beginM (midM nS nC m)) ≤ phM (tickM nS nC m) - phM m ∧ (phM m ≤ mg m 5 + 19 → mg m 1 ≤ 20 → phM (tickM nS nC m) ≤ mg m 5 + 1 + 19) := by
  -- what the server sees in the middle of the tick
  have hm : ∀ n : Nat, mv (burstsM n (actsM nS (handM (nowM m)))) = mv (actsM nS (handM (nowM m))) := by
    intro n
    induction n with
    | zero => rfl
    | succ n ih =>
      show mv (burstNM _ n (burstsM n _)) = _
      have b : ∀ (i : Nat) (x : MS), mv (burstNM i n x) = mv x := by
        intro i
        induction i with
        | zero => intro x; rfl
        | succ i ih2 =>
          intro x
          show mv (burstNM i n (enqSM n x)) = _
          rw [ih2]
          unfold enqSM enqM
          split
          · rfl
          · rfl
      rw [b]
      exact ih
  have ha : ∀ n : Nat, mv (actsM n (handM (nowM m))) = mv m := by
    intro n
    induction n with
    | zero => rfl
    | succ n ih =>
      show mv (actM n (actsM n _)) = _
      have b : ∀ (i : Nat) (x : MS), mv (sendsM i n x) = mv x := by
        intro i
        induction i with
        | zero => intro x; rfl
        | succ i ih2 =>
          intro x
          show mv (if _ then _ else _) = _
          split
          · rw [ih2]
            unfold sendM1 enqM
            split
            · split <;> rfl
            · rfl
          · rfl
      unfold actM
      rw [b]
      exact ih
  have hv : mv (midM nS nC m) = mv m := (hm nC).trans (ha nS)
  have g5 : mg (midM nS nC m) 5 = mg m 5 + 1 := by rw [mid_g]; rfl
  have g1 : mg (midM nS nC m) 1 = mg m 1 := by rw [mid_g]; rfl
  have g14 : mg (midM nS nC m) 14 = mg m 14 := by rw [mid_g]; rfl
  have ht : phM (tickM nS nC m) = phM (finiM (beginM (midM nS nC m))) := rfl
  rw [ht]
  generalize midM nS nC m = x at *
  have hb1 : mg (beginM x) 1 = mg m 1 := by rw [begin_keep.2.2 1 (by decide), g1]
  have hb5 : mg (beginM x) 5 = mg m 5 + 1 := by rw [begin_keep.2.2 5 (by decide), g5]
  have hf1 : mg (finiM (beginM x)) 1 = mg m 1 := by rw [fini_keep.2.2 1 (by decide), hb1]
  have hf5 : mg (finiM (beginM x)) 5 = mg m 5 + 1 := by rw [fini_keep.2.2 5 (by decide), hb5]
  have hf14 : mg (finiM (beginM x)) 14 = mg (beginM x) 14 := fini_keep.2.2 14 (by decide)
  -- the end of the tick
  have hend : (∀ p, mv (beginM x) = some p → (mg (beginM x) 14 = mg m 5 + 1 → mv (finiM (beginM x)) = none) ∧ (mg (beginM x) 14 ≠ mg m 5 + 1 → mv (finiM (beginM x)) = some p)) ∧ (mv (beginM x) = none → mv (finiM (beginM x)) = none) := by
    refine ⟨fun p hp => ⟨fun e => ?_, fun e => ?_⟩, fun hp => ?_⟩
    · unfold finiM
      rw [hp]
      dsimp only
      rw [if_pos (by rw [hb5]; exact e)]
      split <;> rfl
    · unfold finiM
      rw [hp]
      dsimp only
      rw [if_neg (by rw [hb5]; exact e)]
      exact hp
    · unfold finiM
      rw [hp]
      exact hp
  have fin : phM (finiM (beginM x)) = match mv (beginM x) with
      | some _ => if mg (beginM x) 14 = mg m 5 + 1 then mg m 5 + 1 else mg (beginM x) 14 - mg m 1
      | none => mg m 5 + 1 := by
    unfold phM
    cases hp : mv (beginM x) with
    | none =>
      rw [hend.2 hp]
      exact hf5
    | some p =>
      dsimp only
      by_cases e : mg (beginM x) 14 = mg m 5 + 1
      · rw [if_pos e, (hend.1 p hp).1 e]
        exact hf5
      · rw [if_neg e, (hend.1 p hp).2 e]
        show mg (finiM (beginM x)) 14 - mg (finiM (beginM x)) 1 = _
        rw [hf14, hf1]
  have hfi : fiB (beginM x) = match mv (beginM x) with
      | some _ => if mg (beginM x) 14 = mg m 5 + 1 then 1 else 0
      | none => 0 := by
    unfold fiB
    rw [hb5]
  rw [fin, hfi]
  cases hvm : mv m with
  | some p =>
    have e1 : beginM x = x := by
      unfold beginM
      rw [hv, hvm]
    rw [e1, hv, hvm]
    have e2 : phM m = mg m 14 - mg m 1 := by
      unfold phM
      rw [hvm]
    rw [e2]
    dsimp only
    rw [g14]
    by_cases e : mg m 14 = mg m 5 + 1
    · rw [if_pos e, if_pos e]
      omega
    · rw [if_neg e, if_neg e]
      omega
  | none =>
    have e2 : phM m = mg m 5 := by
      unfold phM
      rw [hvm]
    rw [e2]
    cases hq : mq x with
    | nil =>
      have e1 : beginM x = x := by
        unfold beginM
        rw [hv, hvm, hq]
      rw [e1, hv, hvm]
      show mg m 1 * 0 ≤ (mg m 5 + 1) - mg m 5 ∧ (mg m 5 ≤ mg m 5 + 19 → mg m 1 ≤ 20 → mg m 5 + 1 ≤ mg m 5 + 1 + 19)
      generalize mg m 5 = a
      generalize mg m 1 = b
      rw [Int.mul_zero]
      exact ⟨by omega, fun _ _ => by omega⟩
    | cons p l =>
      have e1 : beginM x = (iup (mg x) 14 (mg x 5 + mg x 1 - 1), l, some p, x.2.2.2) := by
        unfold beginM
        rw [hv, hvm, hq]
      have e3 : mg (beginM x) 14 = mg m 5 + mg m 1 := by
        rw [e1]
        show mg x 5 + mg x 1 - 1 = _
        omega
      have e4 : mv (beginM x) = some p := by rw [e1]
      rw [e4]
      dsimp only
      rw [e3]
      by_cases e : mg m 5 + mg m 1 = mg m 5 + 1
      · rw [if_pos e, if_pos e]
        omega
      · rw [if_neg e, if_neg e]
        omega
