/-! Bounds, mode H: prices with a horizon: the dearest way to use what is left, with h minutes still to begin -/
def pcst (w wf a c : Nat) : Nat := if 5 ≤ c ∧ a ≤ 1 then max w wf else if a < c ∨ 5 ≤ c then w else 0
def pAx (w wf : Nat) (f : Nat → Nat → Nat → Nat) (a b c : Nat) : Nat := max (f a b c) (pcst w wf a c + max (f 0 a b) (pcst w wf 0 b + max (f 0 0 a) (pcst w wf 0 a + f 0 0 0)))
def pBx (w wf : Nat → Nat) : Nat → Nat → Nat → Nat → Nat
  | 0 => fun _ _ _ => 0
  | h + 1 => fun a b c => pAx (w h) (wf h) (pBx w wf h) (min 5 (a + 1)) (min 5 (b + 1)) (min 5 (c + 1))
theorem pcst_0 {w wf : Nat} : pcst w wf 0 0 = 0 := by
  unfold pcst
  rw [if_neg (by omega), if_neg (by omega)]
theorem pAx_ack {w wf a b c : Nat} {f : Nat → Nat → Nat → Nat} : pAx w wf f 0 a b + pcst w wf a c ≤ pAx w wf f a b c := by
  unfold pAx
  rw [pcst_0]
  omega
theorem pAx_f {w wf a b c : Nat} {f : Nat → Nat → Nat → Nat} : f a b c ≤ pAx w wf f a b c := by
  unfold pAx
  omega
theorem pAx_000 {w wf a b c : Nat} {f : Nat → Nat → Nat → Nat} : pAx w wf f 0 0 0 ≤ pAx w wf f a b c := by
  unfold pAx
  rw [pcst_0]
  omega
def agB (now x : Int) : Nat := min 5 (now / 200 - x).toNat
/-- w, wf: the prices, by the minutes still to begin -/
def pwH (w wf : Nat → Nat) (H now : Int) (L : List EnF) : Int := (pAx (w (H - now / 200).toNat) (wf (H - now / 200).toNat) (pBx w wf (H - now / 200).toNat) (agB now (mn0 now L)) (agB now (mn1 now L)) (agB now (mn2 now L)) : Nat)
theorem PWk_H {w wf : Nat → Nat} {H : Int} {hz w0 wf0 : Nat} (hw : ∀ h, hz ≤ h → w0 ≤ w h ∧ wf0 ≤ wf h) : PWk (pwH w wf H) w0 wf0 0 (200 * (H - hz) + 199) := by
  refine ⟨fun now ka tq T0 d L fa f la h ht => ?_, fun now ka tq T0 L fa f la h ht => ?_⟩
  · obtain ⟨a0, a1, a2⟩ := mn_ack (now := now) (tq := tq) (T0 := T0) (d := d) (L := L)
    obtain ⟨b0, b1, b2⟩ := mn_le h
    unfold pwH
    rw [a0, a1, a2]
    have e0 : agB now (now / 200) = 0 := by
      unfold agB
      omega
    rw [e0]
    have hwh := hw (H - now / 200).toNat (by omega)
    generalize (H - now / 200).toNat = hh at *
    have k := pAx_ack (w := w hh) (wf := wf hh) (a := agB now (mn0 now L)) (b := agB now (mn1 now L)) (c := agB now (mn2 now L)) (f := pBx w wf hh)
    have z0 : agB now (mn0 now L) = min 5 (now / 200 - mn0 now L).toNat := rfl
    have z2 : agB now (mn2 now L) = min 5 (now / 200 - mn2 now L).toNat := rfl
    generalize agB now (mn0 now L) = a at *
    generalize agB now (mn1 now L) = b at *
    generalize agB now (mn2 now L) = c at *
    generalize pAx (w hh) (wf hh) (pBx w wf hh) 0 a b = A at *
    generalize pAx (w hh) (wf hh) (pBx w wf hh) a b c = B at *
    unfold pcst at k
    refine ⟨?_, fun h1 h2 => ?_⟩
    · by_cases q : mn2 now L < mn0 now L ∨ mn2 now L + 5 ≤ now / 200
      · rw [if_pos q]
        split at k
        · omega
        · rw [if_pos (by omega)] at k
          omega
      · rw [if_neg q]
        omega
    · rw [if_pos (by omega)] at k
      omega
  · obtain ⟨b0, b1, b2⟩ := mn_le h
    rw [Int.zero_mul, Int.add_zero]
    unfold pwH
    by_cases q : (now + 1) / 200 = now / 200
    · by_cases hl : L = []
      · subst hl
        have z : ∀ x : Int, agB x (mn0 x []) = 0 ∧ agB x (mn1 x []) = 0 ∧ agB x (mn2 x []) = 0 := by
          intro x
          refine ⟨?_, ?_, ?_⟩ <;>
          · show min 5 (x / 200 - x / 200).toNat = 0
            omega
        rw [(z now).1, (z now).2.1, (z now).2.2, (z (now + 1)).1, (z (now + 1)).2.1, (z (now + 1)).2.2, q]
        omega
      · have m0 : mn0 (now + 1) L = mn0 now L := by
          unfold mn0
          split
          · exact absurd rfl hl
          · rfl
        have m1 : mn1 (now + 1) L = mn1 now L := by
          unfold mn1
          split
          · exact absurd rfl hl
          · rfl
          · rfl
        have m2 : mn2 (now + 1) L = mn2 now L := by
          unfold mn2
          split
          · exact absurd rfl hl
          · rfl
          · rfl
          · rfl
        rw [m0, m1, m2]
        unfold agB
        rw [q]
        omega
    · have q : (now + 1) / 200 = now / 200 + 1 := by omega
      obtain ⟨h', hh⟩ : ∃ h' : Nat, (H - now / 200).toNat = h' + 1 := ⟨(H - now / 200).toNat - 1, by omega⟩
      have hh2 : (H - (now + 1) / 200).toNat = h' := by omega
      rw [hh, hh2]
      have up := fun a b c : Nat => pAx_f (w := w (h' + 1)) (wf := wf (h' + 1)) (a := a) (b := b) (c := c) (f := pBx w wf (h' + 1))
      have st : ∀ a b c : Nat, pBx w wf (h' + 1) a b c = pAx (w h') (wf h') (pBx w wf h') (min 5 (a + 1)) (min 5 (b + 1)) (min 5 (c + 1)) := fun _ _ _ => rfl
      by_cases hl : L = []
      · subst hl
        have z : ∀ x : Int, agB x (mn0 x []) = 0 ∧ agB x (mn1 x []) = 0 ∧ agB x (mn2 x []) = 0 := by
          intro x
          refine ⟨?_, ?_, ?_⟩ <;>
          · show min 5 (x / 200 - x / 200).toNat = 0
            omega
        rw [(z now).1, (z now).2.1, (z now).2.2, (z (now + 1)).1, (z (now + 1)).2.1, (z (now + 1)).2.2]
        have u := up 0 0 0
        rw [st] at u
        have v := pAx_000 (w := w h') (wf := wf h') (a := min 5 (0 + 1)) (b := min 5 (0 + 1)) (c := min 5 (0 + 1)) (f := pBx w wf h')
        omega
      · have m0 : mn0 (now + 1) L = mn0 now L := by
          unfold mn0
          split
          · exact absurd rfl hl
          · rfl
        have m1 : mn1 (now + 1) L = mn1 now L := by
          unfold mn1
          split
          · exact absurd rfl hl
          · rfl
          · rfl
        have m2 : mn2 (now + 1) L = mn2 now L := by
          unfold mn2
          split
          · exact absurd rfl hl
          · rfl
          · rfl
          · rfl
        rw [m0, m1, m2]
        have ag : ∀ x : Int, x ≤ now / 200 → agB (now + 1) x = min 5 (agB now x + 1) := by
          intro x hx
          unfold agB
          rw [q]
          omega
        rw [ag _ (by omega), ag _ (by omega), ag _ (by omega)]
        have u := up (agB now (mn0 now L)) (agB now (mn1 now L)) (agB now (mn2 now L))
        rw [st] at u
        omega
