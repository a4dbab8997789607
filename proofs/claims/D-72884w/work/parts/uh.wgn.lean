/-! Bounds, mode H: prices of permissions by the minutes of the latest three acknowledgments: at most 5 (8 by nuB), 3 where no gap is -/
def wgN (m x y z : Int) : Int :=
  if x = m then (if y = m then (if z = m then 0 else if m - 4 < z then 1 else 2) else (if m - 4 < z then 2 else if m - 4 < y then 3 else 4))
  else if x = m - 1 then (if z = m - 1 then 2 else if m - 5 < z then (if m - 4 < y then 3 else 4) else (if m - 4 < y then 4 else 5))
  else if m - 4 < y then (if z = x then 2 else 3) else (if m - 4 < x then 4 else if z = x ∧ m - 5 < z then 4 else 5)
theorem wgN_ack {m x y z : Int} (h0 : x ≤ m) (h1 : y ≤ x) (h2 : z ≤ y) : wgN m m x y + (if z < x ∨ z + 5 ≤ m then 1 else 0) ≤ wgN m x y z ∧ (z + 5 ≤ m → m ≤ x + 1 → wgN m m x y + 2 ≤ wgN m x y z) := by
  unfold wgN
  rw [if_pos rfl]
  constructor
  · repeat' split
    all_goals omega
  · intro a b
    repeat' split
    all_goals omega
theorem wgN_nxt {m x y z : Int} (h0 : x ≤ m) (h1 : y ≤ x) (h2 : z ≤ y) : wgN (m + 1) x y z ≤ wgN m x y z + 2 := by
  unfold wgN
  repeat' split
  all_goals omega
theorem wgN_b {m x y z : Int} : 0 ≤ wgN m x y z ∧ wgN m x y z ≤ 5 ∧ (m - 4 < y → m - 5 < z → wgN m x y z ≤ 3) := by
  unfold wgN
  refine ⟨?_, ?_, fun a b => ?_⟩
  · repeat' split
    all_goals omega
  · repeat' split
    all_goals omega
  · repeat' split
    all_goals omega
def pwG (w now : Int) (L : List EnF) : Int := w * wgN (now / 200) (mn0 now L) (mn1 now L) (mn2 now L)
theorem PWk_wgN {w tz : Int} (hw : 0 ≤ w) : PWk (pwG w) w (2 * w) (2 * w) tz := by
  refine ⟨fun now ka tq T0 d L fa f la h _ => ?_, fun now ka tq T0 L fa f la h _ => ?_⟩
  · obtain ⟨a0, a1, a2⟩ := mn_ack (now := now) (tq := tq) (T0 := T0) (d := d) (L := L)
    obtain ⟨b0, b1, b2⟩ := mn_le h
    have k := wgN_ack b2 b1 b0
    unfold pwG
    rw [a0, a1, a2]
    generalize wgN (now / 200) (now / 200) (mn0 now L) (mn1 now L) = A at *
    generalize wgN (now / 200) (mn0 now L) (mn1 now L) (mn2 now L) = B at *
    have nm : ∀ t : Int, A + t ≤ B → w * A + w * t ≤ w * B := by
      intro t ht
      rw [← Int.mul_add]
      exact Int.mul_le_mul_of_nonneg_left ht hw
    refine ⟨?_, fun h1 h2 => ?_⟩
    · by_cases c : mn2 now L < mn0 now L ∨ mn2 now L + 5 ≤ now / 200
      · have n1 := k.1
        rw [if_pos c] at n1 ⊢
        have := nm 1 n1
        omega
      · have n1 := k.1
        rw [if_neg c] at n1 ⊢
        have := nm 0 n1
        omega
    · have := nm 2 (k.2 h1 h2)
      omega
  · have key : wgN ((now + 1) / 200) (mn0 (now + 1) L) (mn1 (now + 1) L) (mn2 (now + 1) L) ≤ wgN (now / 200) (mn0 now L) (mn1 now L) (mn2 now L) + 2 * ((now + 1) / 200 - now / 200) := by
      obtain ⟨b0, b1, b2⟩ := mn_le h
      by_cases hl : L = []
      · subst hl
        have z : ∀ x : Int, wgN (x / 200) (mn0 x []) (mn1 x []) (mn2 x []) = 0 := by
          intro x
          show wgN (x / 200) (x / 200) (x / 200) (x / 200) = 0
          unfold wgN
          rw [if_pos rfl, if_pos rfl, if_pos rfl]
        rw [z, z]
        omega
      · have m0 : mn0 (now + 1) L = mn0 now L := by
          unfold mn0
          split
          · exact absurd rfl hl
          · rfl
        have m1 : mn1 (now + 1) L = mn1 now L := by
          unfold mn1
          split
          · exact absurd rfl hl
          · rfl
          · rfl
        have m2 : mn2 (now + 1) L = mn2 now L := by
          unfold mn2
          split
          · exact absurd rfl hl
          · rfl
          · rfl
          · rfl
        rw [m0, m1, m2]
        by_cases q : (now + 1) / 200 = now / 200
        · rw [q]
          omega
        · have q : (now + 1) / 200 = now / 200 + 1 := by omega
          rw [q]
          have := wgN_nxt b2 b1 b0
          omega
    have e := Int.mul_le_mul_of_nonneg_left key hw
    unfold pwG
    rw [Int.mul_add, Int.mul_left_comm] at e
    rw [Int.mul_assoc]
    exact e
