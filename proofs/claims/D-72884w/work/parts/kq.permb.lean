/-! Bounds, mode B: permissions with what far entries may cost more: gaps between the minutes of the latest -/
def hA (n : Int) : Nat := (min (n - 1) 2).toNat
def hB (n : Int) : Nat := (min (n - 1) 1).toNat
def nuB (now : Int) (L : List EnF) : Nat := nuP now L + hA (now / 200 - mn0 now L) + hA (mn0 now L - mn1 now L) + hB (mn1 now L - mn2 now L)
section NUB
variable {now ka tq T0 d : Int} {L : List EnF} {fa : Int → Int} {f : Int → Option Int} {la : List Int}
theorem nuB_ack (h : SF now ka tq T0 L fa f la) : nuB now (ackL tq T0 now d L) + (if mn2 now L < mn0 now L ∨ mn2 now L + 5 ≤ now / 200 then 1 else 0) ≤ nuB now L ∧ (mn2 now L + 5 ≤ now / 200 → now / 200 ≤ mn0 now L + 1 → nuB now (ackL tq T0 now d L) + 2 ≤ nuB now L) := by
  obtain ⟨a0, a1, a2⟩ := mn_ack (now := now) (tq := tq) (T0 := T0) (d := d) (L := L)
  obtain ⟨b0, b1, b2⟩ := mn_le h
  have hn := nuP_ack (d := d) h
  unfold nuB
  rw [a0, a1, a2, hn]
  generalize nuP now (ackL tq T0 now d L) = n at *
  generalize mn0 now L = x at *
  generalize mn1 now L = y at *
  generalize mn2 now L = z at *
  generalize now / 200 = t at *
  unfold hA hB
  refine ⟨?_, fun q1 q2 => ?_⟩
  · omega
  · rw [if_pos (Or.inr q1)]
    omega
theorem nuB_nxt (h : SF now ka tq T0 L fa f la) : nuB (now + 1) L ≤ nuB now L + 2 * ((now + 1) / 200 - now / 200).toNat := by
  obtain ⟨b0, b1, b2⟩ := mn_le h
  have hd : (now + 1) / 200 = now / 200 ∨ (now + 1) / 200 = now / 200 + 1 := by omega
  have key : L = [] ∨ (mn0 (now + 1) L = mn0 now L ∧ mn1 (now + 1) L = mn1 now L ∧ mn2 (now + 1) L = mn2 now L) := by
    match L with
    | [] => exact Or.inl rfl
    | [e] => exact Or.inr ⟨rfl, rfl, rfl⟩
    | [e, e1] => exact Or.inr ⟨rfl, rfl, rfl⟩
    | e :: e1 :: e2 :: M => exact Or.inr ⟨rfl, rfl, rfl⟩
  rcases key with q | ⟨k0, k1, k2⟩
  · subst q
    unfold nuB nuP
    have c0 : mn0 (now + 1) [] = (now + 1) / 200 := rfl
    have c1 : mn1 (now + 1) [] = (now + 1) / 200 := rfl
    have c2 : mn2 (now + 1) [] = (now + 1) / 200 := rfl
    rw [c0, c1, c2]
    unfold hA hB
    split <;> split <;> split <;> omega
  · unfold nuB nuP
    rw [k0, k1, k2]
    generalize mn0 now L = x at *
    generalize mn1 now L = y at *
    generalize mn2 now L = z at *
    unfold hA hB
    split <;> split <;> split <;> split <;> split <;> split <;> omega
theorem nuB_le (h : SF now ka tq T0 L fa f la) : nuB now L ≤ 8 := by
  have := nuP_3 (now := now) (L := L)
  unfold nuB hA hB
  omega
end NUB
/-- the far entry lies among the latest three -/
theorem far_mn2 {now ka tq T0 : Int} {L : List EnF} {fa : Int → Int} {f : Int → Option Int} {la : List Int} (h : SF now ka tq T0 L fa f la) {e : EnF} (he : e ∈ L.take 3) : mn2 now L ≤ e.1 / 200 := by
  obtain ⟨b0, b1, b2⟩ := mn_le h
  match L, he, b0, b1 with
  | [e0], he, _, _ =>
    have : e = e0 := by simpa using he
    rw [this]; exact Int.le_refl _
  | [e0, f1], he, b0, b1 =>
    have : e = e0 ∨ e = f1 := by simpa using he
    rcases this with q | q
    · rw [q]
      have : mn0 now [e0, f1] = e0.1 / 200 := rfl
      omega
    · rw [q]
      have : mn1 now [e0, f1] = f1.1 / 200 := rfl
      omega
  | e0 :: f1 :: f2 :: M, he, b0, b1 =>
    have : e = e0 ∨ e = f1 ∨ e = f2 := by simpa using he
    have c0 : mn0 now (e0 :: f1 :: f2 :: M) = e0.1 / 200 := rfl
    have c1 : mn1 now (e0 :: f1 :: f2 :: M) = f1.1 / 200 := rfl
    have c2 : mn2 now (e0 :: f1 :: f2 :: M) = f2.1 / 200 := rfl
    rcases this with q | q | q <;> rw [q] <;> omega
