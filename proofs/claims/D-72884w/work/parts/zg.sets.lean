/-! Bounds, the account: what every state has, over all calls -/
section BAC
variable {nS nC : Nat} {m : MS} {lo hi : Nat → Int}
theorem BAs.tun (h : BAs nS m lo hi) : ∀ k, k < nS → (1 ≤ (ms m k).1 0 ∧ (ms m k).1 0 ≤ 200) ∧ (1 ≤ (ms m k).1 1 ∧ (ms m k).1 1 ≤ 8) ∧ -1000 ≤ (ms m k).1 2 ∧ (ms m k).1 2 ≤ 1000 := by
  intro k hk
  obtain ⟨g, ⟨⟨hV, -⟩, -, -⟩, -⟩ := h.2.2.2.2.2.2.2.1.gs k hk
  have hI := hV.2.2.2.2
  have hl := h.2.2.2.2.2.2.2.2.2.1 k hk
  unfold sdB at hI
  exact ⟨hI.1, hI.2.1, hl.2.2.1, hl.2.2.2⟩
/-- settings alone -/
theorem BAs.setG {g' : Nat → Int} (h : BAs nS m lo hi) (h5 : mg m 5 ≤ 100000) (e5 : g' 5 = mg m 5) (e14 : g' 14 = mg m 14) (hc : g' 0 ≤ 60) (hs : 1 ≤ g' 1 ∧ g' 1 ≤ 20) (hf : 0 ≤ g' 2 ∧ g' 2 ≤ 100) (hb : 1 ≤ g' 3 ∧ g' 3 ≤ 100) : BAs nS (g', m.2) lo hi := by
  refine h.set (m' := (g', m.2)) rfl rfl rfl e5 e14 hc hs hf hb (by show _ ≤ (1000000 : Int); omega) (fun k hk => ⟨SF4.rfl _, h.tun k hk⟩) (fun k hk => ?_)
  have hl := h.2.2.2.2.2.2.2.2.2.1 k hk
  exact ⟨Int.le_refl _, Int.le_refl _, hl.1, hl.2.1⟩
theorem BAs.lnk (h : BAs nS m lo hi) (h5 : mg m 5 ≤ 100000) {a b : Int} (ha : 1 ≤ a ∧ a ≤ 60) (hb : 1 ≤ b ∧ b ≤ 20) : BAs nS (lnkM m a b) lo hi := h.setG h5 rfl rfl ha.2 hb h.2.2.2.2.2.1 h.2.2.2.2.2.2.1
theorem BAs.tim (h : BAs nS m lo hi) (h5 : mg m 5 ≤ 100000) {a b : Int} (ha : 0 ≤ a ∧ a ≤ 100) (hb : 1 ≤ b ∧ b ≤ 100) : BAs nS (timM m a b) lo hi := h.setG h5 rfl rfl h.2.2.2.1 h.2.2.2.2.1 ha hb
theorem BAs.slw (h : BAs nS m lo hi) (h5 : mg m 5 ≤ 100000) {a : Int} : BAs nS (slwM m a) lo hi := h.setG h5 rfl rfl h.2.2.2.1 h.2.2.2.2.1 h.2.2.2.2.2.1 h.2.2.2.2.2.2.1
theorem BAs.mc (h : BAs nS m lo hi) (h5 : mg m 5 ≤ 100000) {c : Nat → Nat → Int} : BAs nS (mg m, mq m, mv m, ms m, c, mnt m) lo hi := by
  refine h.set (m' := (mg m, mq m, mv m, ms m, c, mnt m)) rfl rfl rfl rfl rfl h.2.2.2.1 h.2.2.2.2.1 h.2.2.2.2.2.1 h.2.2.2.2.2.2.1 (by show _ ≤ (1000000 : Int); omega) (fun k hk => ⟨SF4.rfl _, h.tun k hk⟩) (fun k hk => ?_)
  have hl := h.2.2.2.2.2.2.2.2.2.1 k hk
  exact ⟨Int.le_refl _, Int.le_refl _, hl.1, hl.2.1⟩
theorem fld_s {i w j : Nat} {a : Int} : ms (fldM m i w a) j = if j = i then fldS (ms m i) w a else ms m j := rfl
/-- a sender's field 0, 1, 2 or 3 -/
theorem BAs.fld {lo2 hi2 : Nat → Int} (h : BAs nS m lo hi) (h5 : mg m 5 ≤ 100000) {i w : Nat} {a : Int} (hw : w ≤ 3) (h0 : w = 0 → 1 ≤ a ∧ a ≤ 200) (h1 : w = 1 → 1 ≤ a ∧ a ≤ 8) (h2 : w = 2 → -1000 ≤ a ∧ a ≤ 1000) (hl2 : ∀ k, k < nS → lo2 k ≤ lo k ∧ hi k ≤ hi2 k) (h22 : w = 2 → lo2 i ≤ a ∧ a + 1320 ≤ hi2 i) : BAs nS (fldM m i w a) lo2 hi2 := by
  refine h.set (m' := fldM m i w a) rfl rfl rfl rfl rfl h.2.2.2.1 h.2.2.2.2.1 h.2.2.2.2.2.1 h.2.2.2.2.2.2.1 (by show _ ≤ (1000000 : Int); omega) (fun k hk => ?_) (fun k hk => ?_)
  · have t := h.tun k hk
    rw [fld_s]
    by_cases q : k = i
    · rw [if_pos q]
      subst q
      have e : ∀ j : Nat, (fldS (ms m k) w a).1 j = if j = w then a else (ms m k).1 j := fun j => rfl
      refine ⟨⟨rfl, fun j hj => ?_⟩, ?_, ?_, ?_⟩
      · rw [e, if_neg (by omega)]
      · rw [e]
        split
        · rename_i z
          exact h0 z.symm
        · exact t.1
      · rw [e]
        split
        · rename_i z
          exact h1 z.symm
        · exact t.2.1
      · rw [e]
        split
        · rename_i z
          exact h2 z.symm
        · exact t.2.2
    · rw [if_neg q]
      exact ⟨SF4.rfl _, t⟩
  · have hl := h.2.2.2.2.2.2.2.2.2.1 k hk
    have hl3 := hl2 k hk
    refine ⟨hl3.1, hl3.2, ?_⟩
    rw [fld_s]
    by_cases q : k = i
    · rw [if_pos q]
      subst q
      have e : (fldS (ms m k) w a).1 2 = if 2 = w then a else (ms m k).1 2 := rfl
      rw [e]
      split
      · rename_i z
        exact h22 z.symm
      · omega
    · rw [if_neg q]
      omega
/-- a new sender -/
theorem BAs.addS (h : BAs nS m lo hi) (h5 : mg m 5 ≤ 100000) (h4 : nS < 4) {a b d : Int} (ha : 1 ≤ a ∧ a ≤ 200) (hb : 1 ≤ b ∧ b ≤ 8) (hd : -1000 ≤ d ∧ d ≤ 1000) {lo2 hi2 : Nat → Int} (hl2 : ∀ k, k < nS → lo2 k = lo k ∧ hi2 k = hi k) (hn : lo2 nS ≤ d ∧ d + 1320 ≤ hi2 nS) : BAs (nS + 1) (setSM m nS (newS a b d (mg m 5))) lo2 hi2 := by
  obtain ⟨-, hw, hq, hc, hs, hf, hbk, hG, hA, hl, hO, hZ⟩ := h
  have eo : own nS m = [] := by
    unfold own
    have e1 : ownV nS (mv m) = [] := by
      cases hv : mv m with
      | none => rfl
      | some p =>
        show (if p.1 = nS then [p.2.2] else []) = []
        rw [if_neg (fun z => by have := hO.2.2 p hv (by omega); omega)]
    have e2 : ownL nS (mq m) = [] := by
      unfold ownL
      rw [List.filter_eq_nil_iff.mpr (fun p hp z => by
        have z := of_decide_eq_true z
        have := hO.2.1 p hp (by omega)
        omega)]
      rfl
    rw [e1, e2]
    rfl
  have en : (mnt m).filter (fun n => decide (n.2.1 = nS)) = [] := List.filter_eq_nil_iff.mpr (fun n hn z => by
    have z := of_decide_eq_true z
    have := hO.1 n hn
    omega)
  have es : ∀ k, ms (setSM m nS (newS a b d (mg m 5))) k = if k = nS then newS a b d (mg m 5) else ms m k := fun k => rfl
  have ev : ∀ k, k < nS → vwK k (setSM m nS (newS a b d (mg m 5))) = vwK k m := by
    intro k hk
    show (ms (setSM m nS (newS a b d (mg m 5))) k, own k m, _) = (ms m k, own k m, _)
    rw [es, if_neg (by omega)]
    rfl
  have ev2 : vwK nS (setSM m nS (newS a b d (mg m 5))) = (newS a b d (mg m 5), [], []) := by
    show (ms (setSM m nS (newS a b d (mg m 5))) nS, own nS m, (mnt m).filter (fun n => decide (n.2.1 = nS))) = _
    rw [es, if_pos rfl, eo, en]
  have eg : mg (setSM m nS (newS a b d (mg m 5))) = mg m := rfl
  have n2 : (newS a b d (mg m 5)).1 2 = d := rfl
  have h0 := hZ.2.2
  refine ⟨by omega, hw, hq, hc, hs, hf, hbk, ?_, ?_, ?_, ⟨fun n hn => by have := hO.1 n hn; omega, fun p hp z => by have := hO.2.1 p hp z; omega, fun p hp z => by have := hO.2.2 p hp z; omega⟩, hZ⟩
  · intro k hk
    rw [eg]
    by_cases q : k = nS
    · subst q
      rw [ev2, es, if_pos rfl, n2]
      refine ⟨((-99000 : Int), [], fun _ => 0), ⟨⟨⟨⟨?_, ?_, ?_, ?_, ?_⟩, ?_⟩, fun n hn => (by cases hn), ?_⟩, fun e he => (by cases he)⟩, fun z => absurd rfl z⟩
      · exact ⟨rfl, Int.le_refl _, fun n hn => (by cases hn)⟩
      · refine ⟨List.Pairwise.nil, fun x hx => (by cases hx), ?_, ⟨?_, ?_, ?_⟩, List.Pairwise.nil, fun n hn => (by cases hn)⟩
        · show (-99000 : Int) ≤ _
          omega
        · show (-100000 : Int) ≤ -99000 + _
          omega
        · show (-100000 : Int) ≤ _
          omega
        · show (-100000 : Int) ≤ 1000000
          omega
      · exact ⟨rfl, List.Pairwise.nil, fun e he => (by cases he), fun e he => (by cases he), fun e M z => (by cases z), fun _ j => rfl, fun j v z => (by cases z)⟩
      · exact fun z => absurd rfl z
      · exact ⟨ha, hb, ⟨by show (256 : Int) ≤ 512; omega, by show (0 : Int) ≤ 512; omega⟩, by show (0 : Int) ≤ 0; omega, by show (-1 : Int) ≤ 0; omega⟩
      · exact ⟨fun x hx => (by cases hx), fun j v _ z => (by cases z), fun n hn => (by cases hn), Int.le_refl _⟩
      · exact ⟨by show (-99000 : Int) ≤ -99000; omega, by show (-99000 : Int) ≤ -98000; omega⟩
    · have hk2 : k < nS := by omega
      obtain ⟨g, hGk⟩ := hG k hk2
      have e := hl2 k hk2
      refine ⟨g, ?_⟩
      rw [ev k hk2, es, if_neg q, e.1, e.2]
      exact hGk
  · intro k hk n hn2
    rw [eg]
    by_cases q : k = nS
    · subst q
      rw [ev2] at hn2
      cases hn2
    · rw [ev k (by omega)] at hn2
      exact hA k (by omega) n hn2
  · intro k hk
    rw [es]
    by_cases q : k = nS
    · subst q
      rw [if_pos rfl, n2]
      exact ⟨hn.1, hn.2, hd⟩
    · have e := hl2 k (by omega)
      rw [if_neg q, e.1, e.2]
      exact hl k (by omega)
/-- any call, with the widest ranges -/
theorem BAs.sts {u u' : CuM} (h : BAs u.1 u.2.2 (fun _ => -1000) (fun _ => 2320)) (h5 : mg u.2.2 5 ≤ 100000) (hs : StS u u') : BAs u'.1 u'.2.2 (fun _ => -1000) (fun _ => 2320) ∧ mg u'.2.2 5 = mg u.2.2 5 := by
  rcases hs with ⟨a, b, a1, a2, b1, b2, e⟩ | ⟨a, b, a1, a2, b1, b2, e⟩ | ⟨a, a1, a2, e⟩ | ⟨a, b, d, a1, a2, b1, b2, d1, d2, h4, e⟩ | ⟨i, a, b, hi, a1, a2, b1, b2, e⟩ | ⟨i, a, hi, a1, a2, e⟩ | ⟨i, a, hi, ha, e⟩ | ⟨a, b, d, f, -, -, -, -, -, -, -, -, -, e⟩ | ⟨i, -, e⟩
  · rw [e]; exact ⟨h.lnk h5 ⟨a1, a2⟩ ⟨b1, b2⟩, rfl⟩
  · rw [e]; exact ⟨h.tim h5 ⟨a1, a2⟩ ⟨b1, b2⟩, rfl⟩
  · rw [e]; exact ⟨h.slw h5, rfl⟩
  · rw [e]; exact ⟨h.addS h5 h4 ⟨a1, a2⟩ ⟨b1, b2⟩ ⟨d1, d2⟩ (fun k hk => ⟨rfl, rfl⟩) ⟨d1, by show _ ≤ (2320 : Int); omega⟩, rfl⟩
  · rw [e]
    have h1 : BAs u.1 (fldM u.2.2 i 0 a) (fun _ => -1000) (fun _ => 2320) := h.fld h5 (by omega) (fun _ => ⟨a1, a2⟩) (fun z => by omega) (fun z => by omega) (fun k hk => ⟨Int.le_refl _, Int.le_refl _⟩) (fun z => by omega)
    exact ⟨h1.fld h5 (by omega) (fun z => by omega) (fun _ => ⟨b1, b2⟩) (fun z => by omega) (fun k hk => ⟨Int.le_refl _, Int.le_refl _⟩) (fun z => by omega), rfl⟩
  · rw [e]
    exact ⟨h.fld h5 (by omega) (fun z => by omega) (fun z => by omega) (fun _ => ⟨a1, a2⟩) (fun k hk => ⟨Int.le_refl _, Int.le_refl _⟩) (fun _ => ⟨a1, by show _ ≤ (2320 : Int); omega⟩), rfl⟩
  · rw [e]
    exact ⟨h.fld h5 (by omega) (fun z => by omega) (fun z => by omega) (fun z => by omega) (fun k hk => ⟨Int.le_refl _, Int.le_refl _⟩) (fun z => by omega), rfl⟩
  · rw [e]; exact ⟨h.mc h5, rfl⟩
  · rw [e]; exact ⟨h.mc h5, rfl⟩
end BAC
