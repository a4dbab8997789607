/-! Bounds: how many negative acknowledgments may come: minutes of the latest three -/
def mn0 (now : Int) : List EnF → Int
  | [] => now / 200
  | e :: _ => e.1 / 200
def mn1 (now : Int) : List EnF → Int
  | [] => now / 200
  | [e] => e.1 / 200
  | _ :: e :: _ => e.1 / 200
def mn2 (now : Int) : List EnF → Int
  | [] => now / 200
  | [e] => e.1 / 200
  | [_, e] => e.1 / 200
  | _ :: _ :: e :: _ => e.1 / 200
def nuP (now : Int) (L : List EnF) : Nat := (if mn0 now L < now / 200 then 1 else 0) + (if mn1 now L < now / 200 then 1 else 0) + (if mn2 now L < mn0 now L ∨ mn2 now L + 5 ≤ now / 200 then 1 else 0)
theorem mn_le {now ka tq T0 : Int} {L : List EnF} {fa : Int → Int} {f : Int → Option Int} {la : List Int} (h : SF now ka tq T0 L fa f la) : mn2 now L ≤ mn1 now L ∧ mn1 now L ≤ mn0 now L ∧ mn0 now L ≤ now / 200 := by
  obtain ⟨-, h2, h3, -, -, -, -⟩ := h
  match L, h2, h3 with
  | [], _, _ => exact ⟨Int.le_refl _, Int.le_refl _, Int.le_refl _⟩
  | [e], _, h3 =>
    have := div200 (h3 e List.mem_cons_self).1
    exact ⟨Int.le_refl _, Int.le_refl _, this⟩
  | [e, e1], h2, h3 =>
    have a := div200 (h3 e List.mem_cons_self).1
    rw [List.pairwise_cons] at h2
    have b := div200 (h2.1 e1 List.mem_cons_self).1
    exact ⟨Int.le_refl _, b, a⟩
  | e :: e1 :: e2 :: M, h2, h3 =>
    have a := div200 (h3 e List.mem_cons_self).1
    rw [List.pairwise_cons, List.pairwise_cons] at h2
    have b := div200 (h2.1 e1 List.mem_cons_self).1
    have c := div200 (h2.2.1 e2 List.mem_cons_self).1
    exact ⟨c, b, a⟩
theorem mn_ack {now tq T0 d : Int} {L : List EnF} : mn0 now (ackL tq T0 now d L) = now / 200 ∧ mn1 now (ackL tq T0 now d L) = mn0 now L ∧ mn2 now (ackL tq T0 now d L) = mn1 now L := by
  unfold ackL
  rw [List.take_succ_cons]
  match L with
  | [] => exact ⟨rfl, rfl, rfl⟩
  | [e] => exact ⟨rfl, rfl, rfl⟩
  | e :: e1 :: M => exact ⟨rfl, rfl, rfl⟩
/-- an acknowledgment -/
theorem nuP_ack {now ka tq T0 d : Int} {L : List EnF} {fa : Int → Int} {f : Int → Option Int} {la : List Int} (h : SF now ka tq T0 L fa f la) : nuP now L = nuP now (ackL tq T0 now d L) + (if mn2 now L < mn0 now L ∨ mn2 now L + 5 ≤ now / 200 then 1 else 0) := by
  obtain ⟨a0, a1, a2⟩ := mn_ack (now := now) (tq := tq) (T0 := T0) (d := d) (L := L)
  obtain ⟨b0, b1, b2⟩ := mn_le h
  unfold nuP
  rw [a0, a1, a2]
  have e0 : ¬ now / 200 < now / 200 := by omega
  rw [if_neg e0]
  have e1 : (mn1 now L < now / 200 ∨ mn1 now L + 5 ≤ now / 200) ↔ mn1 now L < now / 200 := by omega
  by_cases q : mn1 now L < now / 200
  · rw [if_pos q, if_pos (e1.mpr q)]
    omega
  · rw [if_neg q, if_neg (fun z => q (e1.mp z))]
    omega
theorem nuP_3 {now : Int} {L : List EnF} : nuP now L ≤ 3 := by
  unfold nuP
  split <;> split <;> split <;> omega
/-- one left: the next one may be it -/
theorem nuP_1 {now ka tq T0 : Int} {L : List EnF} {fa : Int → Int} {f : Int → Option Int} {la : List Int} (h : SF now ka tq T0 L fa f la) (h1 : nuP now L = 1) : mn2 now L < mn0 now L ∨ mn2 now L + 5 ≤ now / 200 := by
  obtain ⟨b0, b1, b2⟩ := mn_le h
  unfold nuP at h1
  apply Decidable.byContradiction
  intro z
  rw [if_neg z] at h1
  by_cases q : mn0 now L < now / 200
  · rw [if_pos q, if_pos (by omega)] at h1
    omega
  · rw [if_neg q] at h1
    by_cases y : mn1 now L < now / 200
    · omega
    · rw [if_neg y] at h1
      omega
/-- a tick more -/
theorem nuP_nxt {now ka tq T0 : Int} {L : List EnF} {fa : Int → Int} {f : Int → Option Int} {la : List Int} (h : SF now ka tq T0 L fa f la) : nuP (now + 1) L ≤ nuP now L + 2 * ((now + 1) / 200 - now / 200).toNat := by
  obtain ⟨b0, b1, b2⟩ := mn_le h
  have hd : (now + 1) / 200 = now / 200 ∨ (now + 1) / 200 = now / 200 + 1 := by omega
  match L, b0, b1, b2 with
  | [], _, _, _ =>
    unfold nuP
    have c0 : mn0 (now + 1) [] = (now + 1) / 200 := rfl
    have c1 : mn1 (now + 1) [] = (now + 1) / 200 := rfl
    have c2 : mn2 (now + 1) [] = (now + 1) / 200 := rfl
    rw [c0, c1, c2]
    split <;> split <;> split <;> omega
  | [e], b0, b1, b2 =>
    unfold nuP
    have c0 : mn0 (now + 1) [e] = mn0 now [e] := rfl
    have c1 : mn1 (now + 1) [e] = mn1 now [e] := rfl
    have c2 : mn2 (now + 1) [e] = mn2 now [e] := rfl
    rw [c0, c1, c2]
    generalize mn0 now [e] = x at *
    generalize mn1 now [e] = y at *
    generalize mn2 now [e] = z at *
    split <;> split <;> split <;> split <;> split <;> split <;> omega
  | [e, e1], b0, b1, b2 =>
    unfold nuP
    have c0 : mn0 (now + 1) [e, e1] = mn0 now [e, e1] := rfl
    have c1 : mn1 (now + 1) [e, e1] = mn1 now [e, e1] := rfl
    have c2 : mn2 (now + 1) [e, e1] = mn2 now [e, e1] := rfl
    rw [c0, c1, c2]
    generalize mn0 now [e, e1] = x at *
    generalize mn1 now [e, e1] = y at *
    generalize mn2 now [e, e1] = z at *
    split <;> split <;> split <;> split <;> split <;> split <;> omega
  | e :: e1 :: e2 :: M, b0, b1, b2 =>
    unfold nuP
    have c0 : mn0 (now + 1) (e :: e1 :: e2 :: M) = mn0 now (e :: e1 :: e2 :: M) := rfl
    have c1 : mn1 (now + 1) (e :: e1 :: e2 :: M) = mn1 now (e :: e1 :: e2 :: M) := rfl
    have c2 : mn2 (now + 1) (e :: e1 :: e2 :: M) = mn2 now (e :: e1 :: e2 :: M) := rfl
    rw [c0, c1, c2]
    generalize mn0 now (e :: e1 :: e2 :: M) = x at *
    generalize mn1 now (e :: e1 :: e2 :: M) = y at *
    generalize mn2 now (e :: e1 :: e2 :: M) = z at *
    split <;> split <;> split <;> split <;> split <;> split <;> omega
/-- a negative one is among them; how far below zero -/
theorem neg_in {now ka tq T0 d k2 : Int} {L : List EnF} {fa : Int → Int} {s : SdM} (h : SF now ka tq T0 L fa s.2.1 s.2.2) (h2 : SF now k2 tq T0 (ackL tq T0 now d L) (ackF tq T0 now s.2.1 fa) (enterM s d (now / 200)).2.1 (enterM s d (now / 200)).2.2) (hneg : queueM (enterM s d (now / 200)) (now / 200) < 0) : mn2 now L < mn0 now L ∨ mn2 now L + 5 ≤ now / 200 := by
  have hL : ackL tq T0 now d L = (now, tN tq T0 now, d) :: L.take 3 := by
    unfold ackL
    rw [List.take_succ_cons]
  obtain ⟨p, a, b, r, e1, e2, e3, -, -⟩ := SF.neg h2 hL rfl hneg
  obtain ⟨b0, b1, b2⟩ := mn_le h
  apply Decidable.byContradiction
  intro z
  have hz : mn2 now L = mn0 now L ∧ now / 200 < mn2 now L + 5 := by omega
  -- every old one among the first three lies in one minute
  have hall : ∀ e ∈ L.take 3, e.1 / 200 = mn0 now L := by
    intro e he
    match L, he, hz, b0, b1 with
    | [e0], he, _, _, _ =>
      have : e = e0 := by simpa using he
      rw [this]; rfl
    | [e0, f1], he, hz, b0, b1 =>
      have : e = e0 ∨ e = f1 := by simpa using he
      rcases this with q | q
      · rw [q]; rfl
      · rw [q]
        have : mn1 now [e0, f1] = mn0 now [e0, f1] := by omega
        exact this
    | e0 :: f1 :: f2 :: M, he, hz, b0, b1 =>
      have : e = e0 ∨ e = f1 ∨ e = f2 := by simpa using he
      have c1 : mn1 now (e0 :: f1 :: f2 :: M) = mn0 now (e0 :: f1 :: f2 :: M) := by omega
      have c2 := hz.1
      rcases this with q | q | q
      · rw [q]; rfl
      · rw [q]; exact c1
      · rw [q]; exact c2
  rw [hL] at e1
  have hb : b ∈ L.take 3 := by
    cases p with
    | nil =>
      have := (List.cons.inj e1).2
      rw [this]
      exact List.mem_cons_self
    | cons x p =>
      have := (List.cons.inj e1).2
      rw [this]
      exact List.mem_append_right _ (List.mem_cons_of_mem _ List.mem_cons_self)
  have hbm := hall b hb
  -- its minute is kept
  cases hLL : L with
  | nil => rw [hLL] at hb; cases hb
  | cons e0 M =>
    have k0 := (h.2.2.2.2.1 e0 M hLL).1
    have m0 : mn0 now L = e0.1 / 200 := by rw [hLL]; rfl
    have hlt : b.1 / 200 < now / 200 := by
      have ha : a ∈ (now, tN tq T0 now, d) :: L.take 3 := by
        rw [e1]
        exact List.mem_append_right _ List.mem_cons_self
      rcases List.mem_cons.mp ha with q | q
      · rw [q] at e2
        exact e2
      · have := hall a q
        omega
    rcases e3 with q | q
    · have : (enterM s d (now / 200)).2.1 (b.1 / 200) = s.2.1 (b.1 / 200) := by
        show (if b.1 / 200 = now / 200 then _ else _) = _
        rw [if_neg (by omega)]
      rw [this, hbm, m0] at q
      exact k0 q
    · omega
