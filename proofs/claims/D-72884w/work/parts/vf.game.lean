/-! Bounds, trials in mode H: what negative ones may still cost, as a game over the ages and kinds (low, high) of the latest three -/
abbrev GTb := Nat → Nat → Nat → Nat → Nat → Nat → Nat → Nat → Nat
/-- what makes a negative one count: the kind of the acknowledgment, ages and kinds of the latest three -/
abbrev GRl := Nat → Nat → Nat → Nat → Nat → Nat → Nat → Bool
/-- hundredths of the price of a negative one, by the drops behind (c) -/
def farU (c a k : Nat) : Nat := if 5 ≤ k ∧ a ≤ 1 ∧ c = 1 then 148 else if 5 ≤ k ∧ a ≤ 1 ∧ c = 2 then 203 else 100
/-- a pair of kinds in pr with a minute's boundary between -/
def prR (pr : Nat → Nat → Bool) : GRl := fun x a b k A B C => (decide (a < b) && (pr A B || pr A C)) || ((decide (b < k) && pr B C) || (decide (5 ≤ a) && (pr x A || (pr x B || pr x C))))
/-- h minutes still to begin; M kinds; alw: kinds that may come in -/
def gmOK (M : Nat) (alw : Nat → Nat → Bool) (rl : GRl) (tb : GTb) : Prop := ∀ h, h < 4 → ∀ c, c < 4 → ∀ k, k < 6 → ∀ b, b < k + 1 → ∀ a, a < b + 1 → ∀ A, A < M → ∀ B, B < M → ∀ C, C < M →
  tb h (c - 1) a b k A B C ≤ tb h c a b k A B C ∧
  (∀ x, x < M → alw h x = true → tb h (min 3 (c + 1)) 0 a b x A B ≤ tb h c a b k A B C ∧
    ((a < k ∨ 5 ≤ k) → tb h c 0 a b x A B + (if rl x a b k A B C = true then farU c a k else 0) ≤ tb h c a b k A B C)) ∧
  (h = 0 ∨ tb (h - 1) c (min 5 (a + 1)) (min 5 (b + 1)) (min 5 (k + 1)) A B C ≤ tb h c a b k A B C)
def tyL (ty : Int → Int → Nat) (L : List EnF) (i : Nat) : Nat := match L[i]? with | some e => ty e.1 e.2.2 | none => 0
def hgL (H now : Int) : Nat := min 3 (H - now / 200).toNat
def ag1 (now : Int) (L : List EnF) : Nat := max (agB now (mn0 now L)) (agB now (mn1 now L))
def ag2 (now : Int) (L : List EnF) : Nat := max (ag1 now L) (agB now (mn2 now L))
def gval (tb : GTb) (H : Int) (ty : Int → Int → Nat) (c : Nat) (now : Int) (L : List EnF) : Nat := tb (hgL H now) (min c 3) (agB now (mn0 now L)) (ag1 now L) (ag2 now L) (tyL ty L 0) (tyL ty L 1) (tyL ty L 2)
theorem ag_5 {now x : Int} : agB now x ≤ 5 := by
  unfold agB
  omega
theorem ag_b {now : Int} {L : List EnF} : agB now (mn0 now L) ≤ ag1 now L ∧ ag1 now L ≤ ag2 now L ∧ ag2 now L ≤ 5 := by
  have a0 := ag_5 (now := now) (x := mn0 now L)
  have a1 := ag_5 (now := now) (x := mn1 now L)
  have a2 := ag_5 (now := now) (x := mn2 now L)
  unfold ag2 ag1
  omega
theorem ag_s {now ka tq T0 : Int} {L : List EnF} {fa : Int → Int} {f : Int → Option Int} {la : List Int} (hS : SF now ka tq T0 L fa f la) : ag1 now L = agB now (mn1 now L) ∧ ag2 now L = agB now (mn2 now L) := by
  obtain ⟨b0, b1, b2⟩ := mn_le hS
  unfold ag2 ag1 agB
  omega
/-- whether a negative one counts -/
def grel (rl : GRl) (ty : Int → Int → Nat) (now d : Int) (L : List EnF) : Bool := rl (ty now d) (agB now (mn0 now L)) (ag1 now L) (ag2 now L) (tyL ty L 0) (tyL ty L 1) (tyL ty L 2)
theorem tyL_ack {ty : Int → Int → Nat} {now tq T0 d : Int} {L : List EnF} : tyL ty (ackL tq T0 now d L) 0 = ty now d ∧ tyL ty (ackL tq T0 now d L) 1 = tyL ty L 0 ∧ tyL ty (ackL tq T0 now d L) 2 = tyL ty L 1 := by
  unfold ackL tyL
  rw [List.take_succ_cons]
  refine ⟨rfl, ?_, ?_⟩
  · match L with
    | [] => rfl
    | _ :: _ => rfl
  · match L with
    | [] => rfl
    | [_] => rfl
    | _ :: _ :: _ => rfl
theorem tyL_lt {ty : Int → Int → Nat} {M : Nat} (hM : 0 < M) (h : ∀ t d, ty t d < M) {L : List EnF} {i : Nat} : tyL ty L i < M := by
  unfold tyL
  split
  · exact h _ _
  · exact hM
theorem agB_le {now x y : Int} (h : x ≤ y) : agB now y ≤ agB now x ∧ agB now x ≤ 5 := by
  unfold agB
  omega
section GAME
variable {M : Nat} {alw : Nat → Nat → Bool} {rl : GRl} {tb : GTb} {ty : Int → Int → Nat} {H now ka tq T0 d : Int} {c : Nat} {L : List EnF} {fa : Int → Int} {f : Int → Option Int} {la : List Int}
theorem gv_c (hg : gmOK M alw rl tb) (hM : 0 < M) (ht : ∀ t d, ty t d < M) : ∀ (c c2 : Nat), c2 ≤ c → gval tb H ty c2 now L ≤ gval tb H ty c now L := by
  obtain ⟨x0, x1, x2⟩ := ag_b (now := now) (L := L)
  have hh : hgL H now < 4 := by
    unfold hgL
    omega
  intro c
  induction c with
  | zero =>
    intro c2 h
    have : c2 = 0 := by omega
    rw [this]
    exact Nat.le_refl _
  | succ c ih =>
    intro c2 h
    by_cases q : c2 = c + 1
    · rw [q]
      exact Nat.le_refl _
    · refine Nat.le_trans (ih c2 (by omega)) ?_
      by_cases q3 : c < 3
      · have k := (hg (hgL H now) hh (c + 1) (by omega) (ag2 now L) (by omega) (ag1 now L) (by omega) (agB now (mn0 now L)) (by omega) (tyL ty L 0) (tyL_lt hM ht) (tyL ty L 1) (tyL_lt hM ht) (tyL ty L 2) (tyL_lt hM ht)).1
        unfold gval
        rw [show min c 3 = c by omega, show min (c + 1) 3 = c + 1 by omega]
        exact k
      · unfold gval
        rw [show min c 3 = min (c + 1) 3 by omega]
        exact Nat.le_refl _
theorem gv_ack (hg : gmOK M alw rl tb) (hM : 0 < M) (ht : ∀ t d, ty t d < M) (hS : SF now ka tq T0 L fa f la) (hd : alw (hgL H now) (ty now d) = true) : gval tb H ty (c + 1) now (ackL tq T0 now d L) ≤ gval tb H ty c now L ∧ (mn2 now L < mn0 now L ∨ mn2 now L + 5 ≤ now / 200 → gval tb H ty c now (ackL tq T0 now d L) + (if grel rl ty now d L = true then farU (min c 3) (agB now (mn0 now L)) (ag2 now L) else 0) ≤ gval tb H ty c now L) := by
  obtain ⟨b0, b1, b2⟩ := mn_le hS
  obtain ⟨x0, x1, x2⟩ := ag_b (now := now) (L := L)
  obtain ⟨a0, a1, a2⟩ := mn_ack (now := now) (tq := tq) (T0 := T0) (d := d) (L := L)
  obtain ⟨t0, t1, t2⟩ := tyL_ack (ty := ty) (now := now) (tq := tq) (T0 := T0) (d := d) (L := L)
  obtain ⟨s1, s2⟩ := ag_s hS
  have hh : hgL H now < 4 := by
    unfold hgL
    omega
  have e0 : agB now (now / 200) = 0 := by
    unfold agB
    omega
  have e1 : ag1 now (ackL tq T0 now d L) = agB now (mn0 now L) := by
    unfold ag1
    rw [a0, a1, e0]
    omega
  have e2 : ag2 now (ackL tq T0 now d L) = ag1 now L := by
    unfold ag2
    rw [e1, a2, s1]
    omega
  have k := (hg (hgL H now) hh (min c 3) (by omega) (ag2 now L) (by omega) (ag1 now L) (by omega) (agB now (mn0 now L)) (by omega) (tyL ty L 0) (tyL_lt hM ht) (tyL ty L 1) (tyL_lt hM ht) (tyL ty L 2) (tyL_lt hM ht)).2.1 (ty now d) (ht _ _) hd
  have hcond : mn2 now L < mn0 now L ∨ mn2 now L + 5 ≤ now / 200 → (agB now (mn0 now L) < ag2 now L ∨ 5 ≤ ag2 now L) := by
    intro z
    rw [s2]
    unfold agB
    omega
  unfold gval grel
  rw [e1, e2, a0, e0, t0, t1, t2, show min (c + 1) 3 = min 3 (min c 3 + 1) by omega]
  exact ⟨k.1, fun z => k.2 (hcond z)⟩
theorem gv_nxt (hg : gmOK M alw rl tb) (hM : 0 < M) (ht : ∀ t d, ty t d < M) (hS : SF now ka tq T0 L fa f la) (h1 : H - 3 ≤ now / 200) (h2 : (now + 1) / 200 ≤ H) (hz : ∀ h c, h < 4 → c < 4 → tb h c 0 0 0 0 0 0 ≤ tb h c 1 1 1 0 0 0) : gval tb H ty c (now + 1) L ≤ gval tb H ty c now L := by
  obtain ⟨b0, b1, b2⟩ := mn_le hS
  obtain ⟨x0, x1, x2⟩ := ag_b (now := now) (L := L)
  have hh : hgL H now < 4 := by
    unfold hgL
    omega
  have k := hg (hgL H now) hh (min c 3) (by omega) (ag2 now L) (by omega) (ag1 now L) (by omega) (agB now (mn0 now L)) (by omega) (tyL ty L 0) (tyL_lt hM ht) (tyL ty L 1) (tyL_lt hM ht) (tyL ty L 2) (tyL_lt hM ht)
  have q : (now + 1) / 200 = now / 200 ∨ (now + 1) / 200 = now / 200 + 1 := by omega
  have hq0 : (now + 1) / 200 = now / 200 → hgL H (now + 1) = hgL H now := by
    intro q
    unfold hgL
    rw [q]
  have hq1 : (now + 1) / 200 = now / 200 + 1 → hgL H (now + 1) = hgL H now - 1 ∧ hgL H now ≠ 0 := by
    intro q
    unfold hgL
    rw [q] at h2 ⊢
    omega
  by_cases hl : L = []
  · subst hl
    have z : ∀ x : Int, agB x (mn0 x []) = 0 ∧ ag1 x [] = 0 ∧ ag2 x [] = 0 := by
      intro x
      have e : agB x (x / 200) = 0 := by
        unfold agB
        omega
      have e0 : agB x (mn0 x []) = 0 := e
      have e1 : agB x (mn1 x []) = 0 := e
      have e2 : agB x (mn2 x []) = 0 := e
      unfold ag2 ag1
      rw [e0, e1, e2]
      exact ⟨rfl, rfl, rfl⟩
    unfold gval
    rw [(z now).1, (z now).2.1, (z now).2.2] at k ⊢
    rw [(z (now + 1)).1, (z (now + 1)).2.1, (z (now + 1)).2.2]
    rcases q with q | q
    · rw [hq0 q]
      exact Nat.le_refl _
    · obtain ⟨-, -, k5⟩ := k
      rcases k5 with k5 | k5
      · exact absurd k5 (hq1 q).2
      · rw [(hq1 q).1]
        refine Nat.le_trans ?_ k5
        exact hz (hgL H now - 1) (min c 3) (by omega) (by omega)
  · have m0 : mn0 (now + 1) L = mn0 now L := by
      unfold mn0
      split
      · exact absurd rfl hl
      · rfl
    have m1 : mn1 (now + 1) L = mn1 now L := by
      unfold mn1
      split
      · exact absurd rfl hl
      · rfl
      · rfl
    have m2 : mn2 (now + 1) L = mn2 now L := by
      unfold mn2
      split
      · exact absurd rfl hl
      · rfl
      · rfl
      · rfl
    rcases q with q | q
    · have ag : ∀ x : Int, agB (now + 1) x = agB now x := by
        intro x
        unfold agB
        rw [q]
      have e1 : ag1 (now + 1) L = ag1 now L := by
        unfold ag1
        rw [m0, m1, ag, ag]
      have e2 : ag2 (now + 1) L = ag2 now L := by
        unfold ag2
        rw [e1, m2, ag]
      unfold gval
      rw [e1, e2, m0, ag, hq0 q]
      exact Nat.le_refl _
    · have ag : ∀ x : Int, x ≤ now / 200 → agB (now + 1) x = min 5 (agB now x + 1) := by
        intro x hx
        unfold agB
        rw [q]
        omega
      have g0 := ag _ b2
      have g1 := ag (mn1 now L) (by omega)
      have g2 := ag (mn2 now L) (by omega)
      have e1 : ag1 (now + 1) L = min 5 (ag1 now L + 1) := by
        unfold ag1
        rw [m0, m1, g0, g1]
        omega
      have e2 : ag2 (now + 1) L = min 5 (ag2 now L + 1) := by
        unfold ag2
        rw [e1, m2, g2]
        omega
      unfold gval
      rw [e1, e2, m0, g0, (hq1 q).1]
      obtain ⟨-, -, k5⟩ := k
      rcases k5 with k5 | k5
      · exact absurd k5 (hq1 q).2
      · exact k5
theorem far_pr {w wh wf : Int} (hS : SF now ka tq T0 L fa f la) (hw : 0 ≤ w) (h1 : 100 * wh ≤ 148 * w) (h2 : 100 * wf ≤ 203 * w) : 100 * prQ c now L w wh wf ≤ w * (farU (min c 3) (agB now (mn0 now L)) (ag2 now L) : Nat) := by
  rw [(ag_s hS).2]
  obtain ⟨b0, b1, b2⟩ := mn_le hS
  have hw1 : w * ((148 : Nat) : Int) = 148 * w := Int.mul_comm _ _
  have hw2 : w * ((203 : Nat) : Int) = 203 * w := Int.mul_comm _ _
  have hw3 : w * ((100 : Nat) : Int) = 100 * w := Int.mul_comm _ _
  have c1 : (5 ≤ agB now (mn2 now L) ↔ mn2 now L + 5 ≤ now / 200) := by
    unfold agB
    omega
  have c2 : (agB now (mn0 now L) ≤ 1 ↔ now / 200 ≤ mn0 now L + 1) := by
    unfold agB
    omega
  unfold prQ farU
  by_cases q : mn2 now L + 5 ≤ now / 200 ∧ now / 200 ≤ mn0 now L + 1 ∧ 1 ≤ c ∧ c ≤ 2
  · rw [if_pos q]
    by_cases q1 : c = 1
    · rw [if_pos q1, if_pos (show 5 ≤ agB now (mn2 now L) ∧ agB now (mn0 now L) ≤ 1 ∧ min c 3 = 1 from ⟨c1.mpr q.1, c2.mpr q.2.1, by omega⟩), hw1]
      omega
    · rw [if_neg q1, if_neg (show ¬ (5 ≤ agB now (mn2 now L) ∧ agB now (mn0 now L) ≤ 1 ∧ min c 3 = 1) by omega), if_pos (show 5 ≤ agB now (mn2 now L) ∧ agB now (mn0 now L) ≤ 1 ∧ min c 3 = 2 from ⟨c1.mpr q.1, c2.mpr q.2.1, by omega⟩), hw2]
      omega
  · rw [if_neg q]
    split
    · rw [hw1]; omega
    · split
      · rw [hw2]; omega
      · rw [hw3]; omega
end GAME
