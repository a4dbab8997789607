/-! Bounds, levels by squares: a new sender -/
section SQN
variable {m : MS} {k : Nat} {F Q lo hi a b d : Int}
theorem LQ1.new (hv : vwK k m = (newS a b d (mg m 5), [], [])) (h0 : 0 ≤ mg m 5) (h5 : mg m 5 ≤ 100000) (ha : 1 ≤ a ∧ a ≤ 200) (hb : 1 ≤ b ∧ b ≤ 8) (hd : -1000 ≤ d ∧ d ≤ 1000) (hf : 0 ≤ mg m 2 ∧ mg m 2 ≤ 100) (hbk : 1 ≤ mg m 3 ∧ mg m 3 ≤ 100) (hQ : 0 ≤ Q) (hF : 512 ≤ F) : LQ1 F Q m (mg m 5 + 200) lo hi k (25 * F + 25600) ∧ AL lo hi (ms m k) (vwK k m).2.2 := by
  have es : ms m k = newS a b d (mg m 5) := congrArg Prod.fst hv
  have n2 : (ms m k).1 2 = d := by rw [es]; rfl
  refine ⟨⟨((-99000 : Int), [], fun _ => 0), mg m 5 / 200, mg m 5, 0, ?_, ?_, ?_⟩, ?_⟩
  · rw [hv, n2]
    refine ⟨⟨?_, ?_, ?_, ?_, ?_⟩, ?_, ?_, ?_, ?_⟩
    · exact ⟨rfl, Int.le_refl _, fun n hn => (by cases hn)⟩
    · refine ⟨List.Pairwise.nil, fun x hx => (by cases hx), ?_, ⟨?_, ?_, ?_⟩, List.Pairwise.nil, fun n hn => (by cases hn)⟩
      · show (-99000 : Int) ≤ _
        omega
      · unfold T0C
        show _ ≤ (-99000 : Int) + _
        omega
      · unfold T0C
        omega
      · unfold T0C
        omega
    · exact ⟨rfl, List.Pairwise.nil, fun e he => (by cases he), fun e he => (by cases he), fun e M z => (by cases z), fun _ j => rfl, fun j v z => (by cases z)⟩
    · exact fun z => absurd rfl z
    · exact ⟨ha, hb, ⟨by show (256 : Int) ≤ 512; omega, by show (0 : Int) ≤ 512; omega⟩, by show (0 : Int) ≤ 0; omega, by show (-1 : Int) ≤ 0; omega⟩
    · exact ⟨fun x hx => (by cases hx), fun j v _ z => (by cases z), fun n hn => (by cases hn)⟩
    · refine ⟨Nat.zero_le _, Int.le_refl _, fun j v z => (by cases z), fun e he => (by cases he), fun j v z => (by cases z), fun j v z => (by cases z)⟩
    · refine ⟨fun _ => rfl, Nat.zero_le _, fun _ => ?_, fun z => (by cases z), fun z => ?_, Int.le_refl _, Int.le_refl _⟩
      · show ((0 : Nat) : Int) ≤ _
        omega
      · have z : mg m 5 / 200 < jxP (mg m 5) (mg m 5 / 200) := z
        unfold jxP at z
        omega
    · refine ⟨Int.le_refl _, fun n hn => (by cases hn), Or.inl ?_⟩
      have e0 : tE (newS a b d (mg m 5)) (lFl ((newS a b d (mg m 5)).1 9) []) ≤ 0 := by
        unfold tE eE
        rw [if_pos (show (newS a b d (mg m 5)).1 5 ≤ 15 by show (0 : Int) ≤ 15; omega)]
        exact Int.le_refl _
      have := Int.mul_nonneg (show 0 ≤ 4194304 * Q by omega) (nd_0 (now := mg m 5) (ts := mg m 5) (L := []))
      show tE (newS a b d (mg m 5)) (lFl ((newS a b d (mg m 5)).1 9) []) ≤ 4194304 * Q * ndP (mg m 5) (mg m 5) []
      omega
  · rw [hv]
    intro n hn
    cases hn
  · rw [hv]
    have e1 : nvP (mg m 5) (mg m 5 / 200) [] = 0 := by
      unfold nvP
      have : ¬ mg m 5 / 200 < jxP (mg m 5) (mg m 5 / 200) := by
        unfold jxP
        omega
      have q0 : ¬ mn0 (mg m 5) [] < jxP (mg m 5) (mg m 5 / 200) := this
      have q1 : ¬ mn1 (mg m 5) [] < jxP (mg m 5) (mg m 5 / 200) := this
      have q2 : ¬ mn2 (mg m 5) [] < jxP (mg m 5) (mg m 5 / 200) := this
      rw [if_neg q0, if_neg q1, if_neg q2]
    have e2 : agP (mg m 5) (mg m 5 / 200) = 0 := by
      unfold agP jxP
      omega
    have e3 : lvE (newS a b d (mg m 5)) = 512 := by
      unfold lvE
      rw [mW_n rfl]
      rfl
    unfold ZE PT lvF
    dsimp only
    rw [e1, e2, e3]
    have e4 : cS0 0 = 0 := rfl
    rw [e4]
    omega
  · rw [hv]
    exact AL.none (by rw [es]; rfl) (fun j => by rw [es]; rfl) rfl
end SQN
