/-! Bounds: a negative acknowledgment is paid by the gaps behind it -/
def ptE (e : EnF) : Pt := (e.2.1, e.1 / 200)
def p1G (now : Int) (L : List EnF) : Pt := match L with
  | [] => (now, now / 200)
  | e :: _ => ptE e
def p2G (now : Int) (L : List EnF) : Pt := match L with
  | _ :: e :: _ => ptE e
  | _ => p1G now L
def p3G (now : Int) (L : List EnF) : Pt := match L with
  | _ :: _ :: e :: _ => ptE e
  | _ => p2G now L
def Gf (now : Int) (L : List EnF) (b1 b2 : Bool) : Int := gG (now, now / 200) (p1G now L) (p2G now L) (p3G now L) b1 b2
/-- ghost times do not rise towards the older ones -/
def TS (now : Int) (L : List EnF) : Prop := L.Pairwise (fun a b => b.1 ≤ a.1 ∧ b.2.1 ≤ a.2.1) ∧ ∀ e ∈ L, e.1 ≤ now ∧ e.2.1 ≤ now
theorem TS.nxt {now : Int} {L : List EnF} (h : TS now L) : TS (now + 1) L := ⟨h.1, fun e he => by have := h.2 e he; omega⟩
theorem TS.ack {now tq T0 d : Int} {L : List EnF} (h : TS now L) (hq : tq < now) : TS now (ackL tq T0 now d L) := by
  have ht : tN tq T0 now = now := if_neg (by omega)
  unfold ackL
  rw [ht]
  refine ⟨List.Pairwise.sublist (List.take_sublist _ _) ?_, fun e he => ?_⟩
  · rw [List.pairwise_cons]
    exact ⟨fun b hb => h.2 b hb, h.1⟩
  · rcases List.mem_cons.mp (List.mem_of_mem_take he) with q | q
    · rw [q]
      exact ⟨Int.le_refl _, Int.le_refl _⟩
    · exact h.2 e q
theorem pts_co {now : Int} {L : List EnF} (h : TS now L) : co (now, now / 200) (p1G now L) ∧ co (p1G now L) (p2G now L) ∧ co (p2G now L) (p3G now L) := by
  obtain ⟨h1, h2⟩ := h
  unfold co
  match L with
  | [] => exact ⟨⟨Int.le_refl _, Int.le_refl _⟩, ⟨Int.le_refl _, Int.le_refl _⟩, ⟨Int.le_refl _, Int.le_refl _⟩⟩
  | [a] =>
    have a1 := h2 a (by simp)
    have := div200 a1.1
    exact ⟨⟨a1.2, this⟩, ⟨Int.le_refl _, Int.le_refl _⟩, ⟨Int.le_refl _, Int.le_refl _⟩⟩
  | [a, b] =>
    have a1 := h2 a (by simp)
    have := div200 a1.1
    rw [List.pairwise_cons] at h1
    have ab := h1.1 b (by simp)
    have := div200 ab.1
    refine ⟨⟨a1.2, by assumption⟩, ⟨ab.2, by assumption⟩, ⟨Int.le_refl _, Int.le_refl _⟩⟩
  | a :: b :: c :: M =>
    have a1 := h2 a (by simp)
    have d1 := div200 a1.1
    rw [List.pairwise_cons, List.pairwise_cons] at h1
    have ab := h1.1 b (by simp)
    have bc := h1.2.1 c (by simp)
    have d2 := div200 ab.1
    have d3 := div200 bc.1
    exact ⟨⟨a1.2, d1⟩, ⟨ab.2, d2⟩, ⟨bc.2, d3⟩⟩
/-- the entries within reach are not before the third -/
theorem pts_min {now : Int} {L : List EnF} (h : TS now L) {e : EnF} (he : e ∈ L.take 3) : (p3G now L).1 ≤ e.2.1 := by
  obtain ⟨h1, -⟩ := h
  match L with
  | [] => cases he
  | [a] =>
    have : e = a := by simpa using he
    rw [this]
    exact Int.le_refl _
  | [a, b] =>
    rw [List.pairwise_cons] at h1
    have ab := h1.1 b (by simp)
    have : e = a ∨ e = b := by simpa using he
    show b.2.1 ≤ e.2.1
    rcases this with q | q <;> rw [q] <;> omega
  | a :: b :: c :: M =>
    rw [List.pairwise_cons, List.pairwise_cons] at h1
    have ab := h1.1 b (by simp)
    have bc := h1.2.1 c (by simp)
    have : e = a ∨ e = b ∨ e = c := by simpa using he
    show c.2.1 ≤ e.2.1
    rcases this with q | q | q <;> rw [q] <;> omega
/-- points behind an acknowledgment -/
theorem Gf_ack {now tq T0 d : Int} {L : List EnF} (hq : tq < now) (b b1 : Bool) : Gf now (ackL tq T0 now d L) b b1 = gG (now, now / 200) (now, now / 200) (p1G now L) (p2G now L) b b1 := by
  have ht : tN tq T0 now = now := if_neg (by omega)
  unfold Gf ackL
  rw [ht]
  match L with
  | [] => rfl
  | [_] => rfl
  | [_, _] => rfl
  | _ :: _ :: _ :: _ => rfl
section GACK
variable {now c dl tq T0 R : Int} {s : SdM} {o : List Int} {l1 l2 : List NtM} {n : NtM} {g : Gh} {b1 b2 : Bool}
/-- how the first of its minute lies, and what the gaps give -/
theorem neg_gap (h : VM now c dl tq T0 R s o (l1 ++ n :: l2) g) (hn : isA n) (ht : n.1 = now) (hq : tq < now) (hT : TS now g.2.1) (hw : ∀ e ∈ g.2.1, tq < e.2.1) (hneg : queueM (enterM s n.2.2.2 (now / 200)) (now / 200) < 0) :
    ∃ G : Nat, - (G : Int) ≤ queueM (enterM s n.2.2.2 (now / 200)) (now / 200) ∧ (Gf now (ackL tq T0 now n.2.2.2 g.2.1) true b1 + ((G : Int) + 200) ≤ Gf now g.2.1 b1 b2 ∨ Gf now (ackL tq T0 now n.2.2.2 g.2.1) true b1 + (2 * (G : Int) / 5 + 500) ≤ Gf now g.2.1 b1 b2) := by
  obtain ⟨hS, hL, -⟩ := h.stor hn ht
  have hS0 := h.2.2.1
  have htN : tN tq T0 now = now := if_neg (by omega)
  rw [htN] at hL
  generalize hgL : (stepG tq T0 now s.2.1 g n).2.1 = L' at hS hL
  obtain ⟨p, a, b, r, e1, e2, e3, e4, e, he, he1, he2, he3⟩ := SF.neg hS hL rfl hneg
  rw [hL] at e1
  have hco := pts_co hT
  have hall : ∀ y ∈ b :: r, y ∈ g.2.1.take 3 := by
    intro y hy
    cases p with
    | nil =>
      have : g.2.1.take 3 = b :: r := (List.cons.inj e1).2
      rw [this]; exact hy
    | cons p0 p' =>
      have : g.2.1.take 3 = p' ++ a :: b :: r := (List.cons.inj e1).2
      rw [this]
      exact List.mem_append_right _ (List.mem_cons_of_mem _ hy)
  have hmin := pts_min hT (hall e he)
  have key : ∀ t : Int, - queueM (enterM s n.2.2.2 (now / 200)) (now / 200) ≤ t - e.2.1 → ∃ G : Nat, (G : Int) = t - (p3G now g.2.1).1 ∧ - (G : Int) ≤ queueM (enterM s n.2.2.2 (now / 200)) (now / 200) := by
    intro t hh
    exact ⟨(t - (p3G now g.2.1).1).toNat, by omega, by omega⟩
  rw [Gf_ack hq]
  unfold Gf
  match hLL : g.2.1, p with
  | [], [] => rw [hLL] at e1; simp at e1
  | [], _ :: p' => rw [hLL] at e1; simp at e1
  | n1 :: M, [] =>
    -- the new one is the first of its minute
    rw [hLL] at e1 hall hco hmin hw key
    have ea : (now, now, n.2.2.2) = a := (List.cons.inj e1).1
    have eb : (n1 :: M).take 3 = b :: r := (List.cons.inj e1).2
    rw [List.take_succ_cons] at eb
    have ebn : n1 = b := (List.cons.inj eb).1
    subst ea
    subst ebn
    have hk : 5 ≤ now / 200 - n1.1 / 200 := by
      rcases e3 with z | z
      · exfalso
        have h5 := (hS0.2.2.2.2.1 n1 M hLL).1
        have z : (if n1.1 / 200 = now / 200 then omin (s.2.1 (now / 200)) (some n.2.2.2) else s.2.1 (n1.1 / 200)) = none := z
        by_cases y : n1.1 / 200 = now / 200
        · rw [if_pos y] at z
          exact omin_ne z
        · rw [if_neg y] at z
          exact h5 z
      · omega
    obtain ⟨G, hG, hG2⟩ := key now (he2 hq)
    refine ⟨G, hG2, Or.inr ?_⟩
    rw [hG]
    exact gG_n0 hco.1 hco.2.1 hco.2.2 hk
  | n1 :: M, [p0] =>
    rw [hLL] at e1 hall hco hmin hw key
    have eb : (n1 :: M).take 3 = a :: b :: r := (List.cons.inj e1).2
    rw [List.take_succ_cons] at eb
    have ean : n1 = a := (List.cons.inj eb).1
    subst ean
    cases M with
    | nil => simp at eb
    | cons n2 M2 =>
      have eb2 : (n2 :: M2).take 2 = b :: r := (List.cons.inj eb).2
      rw [List.take_succ_cons] at eb2
      have ebn : n2 = b := (List.cons.inj eb2).1
      subst ebn
      obtain ⟨G, hG, hG2⟩ := key n1.2.1 (he2 (hw n1 (by simp)))
      refine ⟨G, hG2, ?_⟩
      rw [hG]
      exact gG_n1 hco.1 hco.2.1 hco.2.2 (show 1 ≤ n1.1 / 200 - n2.1 / 200 by omega)
  | n1 :: M, p0 :: p1 :: p' =>
    rw [hLL] at e1 hall hco hmin hw key
    have eb : (n1 :: M).take 3 = p1 :: (p' ++ a :: b :: r) := (List.cons.inj e1).2
    rw [List.take_succ_cons] at eb
    have eb := (List.cons.inj eb).2
    cases M with
    | nil => simp at eb
    | cons n2 M2 =>
      rw [List.take_succ_cons] at eb
      cases p' with
      | nil =>
        have ean : n2 = a := (List.cons.inj eb).1
        subst ean
        have eb := (List.cons.inj eb).2
        cases M2 with
        | nil => simp at eb
        | cons n3 M3 =>
          rw [List.take_succ_cons] at eb
          have ebn : n3 = b := (List.cons.inj eb).1
          subst ebn
          obtain ⟨G, hG, hG2⟩ := key n2.2.1 (he2 (hw n2 (by simp)))
          refine ⟨G, hG2, ?_⟩
          rw [hG]
          exact gG_n2 hco.1 hco.2.1 hco.2.2 (show 1 ≤ n2.1 / 200 - n3.1 / 200 by omega)
      | cons p2 p'' =>
        have eb := (List.cons.inj eb).2
        have hlen := congrArg List.length eb
        rw [List.length_take] at hlen
        simp at hlen
        omega
end GACK
