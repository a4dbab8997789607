/-! Bounds, ledger by ages: permissions, what is stored by age, what is owed while entries have no true time -/
def nvP (now jg : Int) (L : List EnF) : Nat := (if mn0 now L < jxP now jg then 1 else 0) + (if mn1 now L < jxP now jg then 1 else 0) + (if mn2 now L < jxP now jg then 1 else 0)
def agP (now jg : Int) : Nat := (now / 200 - jxP now jg).toNat
def wcP (now tq jg : Int) : Int := max 0 (min 3 (tq / 200 - jxP now jg + 1))
/-- stored by age -/
def CSP (cS : Nat → Int) : Prop := cS 0 = 0 ∧ cS 1 = 25600 ∧ cS 1 ≤ cS 2 ∧ cS 2 ≤ cS 3 ∧ cS 3 ≤ cS 4 ∧ cS 2 ≤ cS 1 + 25600 ∧ cS 3 ≤ cS 2 + 25600 ∧ cS 4 ≤ cS 3 + 25600
def PT (cS : Nat → Int) (W now tq jg : Int) (L : List EnF) : Int := 12800 * (nvP now jg L : Int) + cS (agP now jg) + W * wcP now tq jg + 128 * (now % 200)
/-- i: by which scale E is counted -/
def IX (now tq jg : Int) (i : Nat) (L : List EnF) : Prop := (mn2 now L < jg → i = 0) ∧ i ≤ 5 ∧ (i ≤ 4 → (i : Int) ≤ now / 200 - jg) ∧ (i = 5 → 1 ≤ wcP now tq jg) ∧ (mn0 now L < jxP now jg → jg = now / 200 ∧ mn0 now L < now / 200 - 4) ∧ tq ≤ now + 200 ∧ jg ≤ now / 200
/-- what it costs to count E by the first scale again -/
def cvI (cS : Nat → Int) (W : Int) (i : Nat) : Int := if i = 0 then 0 else if i = 5 then W else cS i - 25600
theorem cvI_0 {cS : Nat → Int} {W : Int} {i : Nat} (hc : CSP cS) (hW : 0 ≤ W) (h : i ≤ 5) : 0 ≤ cvI cS W i := by
  obtain ⟨c0, c1, c2, c3, c4, -, -, -⟩ := hc
  unfold cvI
  match i, h with
  | 0, _ => simp
  | 1, _ => simp; omega
  | 2, _ => simp; omega
  | 3, _ => simp; omega
  | 4, _ => simp; omega
  | 5, _ => simp; omega
def ixP (now tq jg : Int) (i : Nat) (L : List EnF) : Nat := if mn2 now L < jxP now jg then i else if wcP now tq jg = 0 then agP now jg else 5
section NV
variable {now ka tq T0 jg d : Int} {L : List EnF} {fa : Int → Int} {f : Int → Option Int} {la : List Int} {cS : Nat → Int} {W : Int} {i : Nat}
theorem ag_4 (h : jg ≤ now / 200) : (agP now jg : Int) = now / 200 - jxP now jg ∧ agP now jg ≤ 4 := by
  have := jx_rng h
  unfold agP
  omega
theorem wc_0 : 0 ≤ wcP now tq jg := by
  unfold wcP
  omega
theorem wc_t : wcP now tq jg = 0 ↔ tq < 200 * jxP now jg := by
  unfold wcP
  omega
theorem nv_3 : nvP now jg L ≤ 3 := by
  unfold nvP
  split <;> split <;> split <;> omega
theorem nv_ack (h : jg ≤ now / 200) : nvP now jg L = nvP now jg (ackL tq T0 now d L) + (if mn2 now L < jxP now jg then 1 else 0) := by
  obtain ⟨a0, a1, a2⟩ := mn_ack (now := now) (tq := tq) (T0 := T0) (d := d) (L := L)
  have := jx_rng h
  unfold nvP
  rw [a0, a1, a2, if_neg (show ¬ now / 200 < jxP now jg by omega)]
  omega
theorem IX.ack (hS : SF now ka tq T0 L fa f la) (h : IX now tq jg i L) : IX now tq jg (ixP now tq jg i L) (ackL tq T0 now d L) := by
  obtain ⟨x1, x2, x3, x4, x5, x6, x7⟩ := h
  obtain ⟨a0, a1, a2⟩ := mn_ack (now := now) (tq := tq) (T0 := T0) (d := d) (L := L)
  obtain ⟨b0, b1, b2⟩ := mn_le hS
  have j := jx_rng x7
  have g := ag_4 x7
  have w := wc_0 (now := now) (tq := tq) (jg := jg)
  unfold IX
  rw [a0, a2]
  unfold ixP
  by_cases q : mn2 now L < jxP now jg
  · rw [if_pos q]
    exact ⟨fun z => x1 (by omega), x2, x3, x4, fun z => by omega, x6, x7⟩
  · rw [if_neg q]
    refine ⟨fun z => by omega, ?_, fun z => ?_, fun z => ?_, fun z => by omega, x6, x7⟩
    · split <;> omega
    · split
      · omega
      · rename_i y
        rw [if_neg y] at z
        omega
    · by_cases y : wcP now tq jg = 0
      · rw [if_pos y] at z
        omega
      · omega
/-- minutes dropped -/
theorem nv_only (hS : SF now ka tq T0 L fa f la) (hf : (f (now / 200)).isSome = true) : mn0 now L = now / 200 ∧ nvP now (now / 200) L ≤ 2 := by
  have m0 : mn0 now L = now / 200 := by
    cases hL : L with
    | nil =>
      rw [hS.2.2.2.2.2.1 hL (now / 200)] at hf
      cases hf
    | cons x M =>
      have h5 := (hS.2.2.2.2.1 x M hL).2
      cases hv : f (now / 200) with
      | none => rw [hv] at hf; cases hf
      | some v =>
        have a := h5 _ v hv
        have b := div200 (hS.2.2.1 x (by rw [hL]; exact List.mem_cons_self)).1
        show x.1 / 200 = _
        omega
  refine ⟨m0, ?_⟩
  have j := jx_rng (now := now) (jg := now / 200) (Int.le_refl _)
  unfold nvP
  rw [if_neg (show ¬ mn0 now L < jxP now (now / 200) by omega)]
  split <;> split <;> omega
theorem PT_only (hc : CSP cS) (hW : 0 ≤ W) (hS : SF now ka tq T0 L fa f la) (hf : (f (now / 200)).isSome = true) (hg : jg < now / 200) (h : IX now tq jg i L) : PT cS W now tq (now / 200) L + cvI cS W i ≤ PT cS W now tq jg L ∧ IX now tq (now / 200) 0 L := by
  obtain ⟨m0, n2⟩ := nv_only hS hf
  obtain ⟨x1, x2, x3, x4, x5, x6, x7⟩ := h
  have j := jx_rng x7
  have j2 := jx_rng (now := now) (jg := now / 200) (Int.le_refl _)
  have g := ag_4 x7
  have g2 := ag_4 (now := now) (jg := now / 200) (Int.le_refl _)
  have e2 : agP now (now / 200) = 0 := by omega
  have jl : jxP now jg < now / 200 := by
    unfold jxP
    omega
  have wl : wcP now tq (now / 200) ≤ wcP now tq jg ∧ (1 ≤ wcP now tq jg → wcP now tq (now / 200) + 1 ≤ wcP now tq jg) := by
    unfold wcP
    omega
  have w0 := wc_0 (now := now) (tq := tq) (jg := now / 200)
  constructor
  · unfold PT cvI
    rw [e2]
    obtain ⟨c0, c1, c2, c3, c4, -, -, -⟩ := hc
    have wm : W * wcP now tq (now / 200) ≤ W * wcP now tq jg := Int.mul_le_mul_of_nonneg_left wl.1 hW
    have wm2 : i = 5 → W * wcP now tq (now / 200) + W ≤ W * wcP now tq jg := by
      intro z
      have := Int.mul_le_mul_of_nonneg_left (wl.2 (x4 z)) hW
      rw [Int.mul_add, Int.mul_one] at this
      exact this
    have ca : 25600 ≤ cS (agP now jg) ∧ (1 ≤ i → i ≤ 4 → cS i ≤ cS (agP now jg)) := by
      have : agP now jg = 1 ∨ agP now jg = 2 ∨ agP now jg = 3 ∨ agP now jg = 4 := by omega
      have hi : i ≤ 4 → i ≤ agP now jg := fun z => by
        have := x3 z
        unfold jxP at *
        omega
      refine ⟨?_, fun z1 z2 => ?_⟩
      · rcases this with e | e | e | e <;> rw [e] <;> omega
      · have := hi z2
        match i, z1, z2 with
        | 1, _, _ => rcases ‹agP now jg = 1 ∨ _› with e | e | e | e <;> rw [e] <;> omega
        | 2, _, _ => rcases ‹agP now jg = 1 ∨ _› with e | e | e | e <;> rw [e] <;> omega
        | 3, _, _ => rcases ‹agP now jg = 1 ∨ _› with e | e | e | e <;> rw [e] <;> omega
        | 4, _, _ => rcases ‹agP now jg = 1 ∨ _› with e | e | e | e <;> rw [e] <;> omega
    by_cases q0 : i = 0
    · rw [if_pos q0]
      omega
    · rw [if_neg q0]
      by_cases q5 : i = 5
      · rw [if_pos q5]
        have := wm2 q5
        omega
      · rw [if_neg q5]
        have := ca.2 (by omega) (by omega)
        omega
  · exact ⟨fun _ => rfl, by omega, fun _ => by omega, fun z => by omega, fun z => by omega, x6, Int.le_refl _⟩
theorem mn_nxt : L = [] ∨ (mn0 (now + 1) L = mn0 now L ∧ mn1 (now + 1) L = mn1 now L ∧ mn2 (now + 1) L = mn2 now L) := by
  match L with
  | [] => exact Or.inl rfl
  | [e] => exact Or.inr ⟨rfl, rfl, rfl⟩
  | [e, e1] => exact Or.inr ⟨rfl, rfl, rfl⟩
  | e :: e1 :: e2 :: M => exact Or.inr ⟨rfl, rfl, rfl⟩
/-- the clock moves on -/
def jgN (now jg : Int) (L : List EnF) : Int := if mn0 (now + 1) L < (now + 1) / 200 - 4 then (now + 1) / 200 else jg
def iN (now tq jg : Int) (i : Nat) (L : List EnF) : Nat := if mn0 (now + 1) L < (now + 1) / 200 - 4 then 0 else if i = 5 ∧ wcP (now + 1) tq jg = 0 then 4 else i
theorem PT_nxt (hc : CSP cS) (hW : 0 ≤ W) (hS : SF now ka tq T0 L fa f la) (h : IX now tq jg i L) : PT cS W (now + 1) tq (jgN now jg L) L + (if iN now tq jg i L = i then 0 else cvI cS W i) ≤ PT cS W now tq jg L + 128 ∧ IX (now + 1) tq (jgN now jg L) (iN now tq jg i L) L := by
  obtain ⟨x1, x2, x3, x4, x5, x6, x7⟩ := h
  obtain ⟨b0, b1, b2⟩ := mn_le hS
  obtain ⟨c0, c1, c2, c3, c4, c5, c6, c7⟩ := hc
  have j := jx_rng x7
  have g := ag_4 x7
  have n3 := nv_3 (now := now) (jg := jg) (L := L)
  have hd : (now + 1) / 200 = now / 200 ∨ ((now + 1) / 200 = now / 200 + 1 ∧ now % 200 = 199 ∧ (now + 1) % 200 = 0) := by omega
  have hd2 : (now + 1) / 200 = now / 200 → (now + 1) % 200 = now % 200 + 1 := by omega
  unfold jgN iN
  by_cases q : mn0 (now + 1) L < (now + 1) / 200 - 4
  · rw [if_pos q, if_pos q]
    have hne : mn0 (now + 1) L = mn0 now L ∧ mn1 (now + 1) L = mn1 now L ∧ mn2 (now + 1) L = mn2 now L := by
      rcases mn_nxt (now := now) (L := L) with e | e
      · rw [e] at q
        have q : (now + 1) / 200 < (now + 1) / 200 - 4 := q
        omega
      · exact e
    have j2 := jx_rng (now := now + 1) (jg := (now + 1) / 200) (Int.le_refl _)
    have g2 := ag_4 (now := now + 1) (jg := (now + 1) / 200) (Int.le_refl _)
    have e2 : agP (now + 1) ((now + 1) / 200) = 0 := by omega
    have n32 := nv_3 (now := now + 1) (jg := (now + 1) / 200) (L := L)
    have w02 := wc_0 (now := now + 1) (tq := tq) (jg := (now + 1) / 200)
    constructor
    · unfold PT
      rw [e2]
      by_cases y : mn0 now L < jxP now jg
      · have x5 := x5 y
        have i0 : i = 0 := x1 (by omega)
        have nv : nvP now jg L = 3 := by
          unfold nvP
          rw [if_pos y, if_pos (by omega), if_pos (by omega)]
        have ew : wcP (now + 1) tq ((now + 1) / 200) ≤ wcP now tq jg := by
          unfold wcP
          omega
        have wm := Int.mul_le_mul_of_nonneg_left ew hW
        have ca : 0 ≤ cS (agP now jg) := by
          have : agP now jg = 0 ∨ agP now jg = 1 ∨ agP now jg = 2 ∨ agP now jg = 3 ∨ agP now jg = 4 := by omega
          rcases this with e | e | e | e | e <;> rw [e] <;> omega
        rw [if_pos i0.symm]
        omega
      · have hjg : jxP now jg = now / 200 - 4 ∧ (now + 1) / 200 = now / 200 + 1 := by omega
        have e4 : agP now jg = 4 := by omega
        have ew : wcP (now + 1) tq ((now + 1) / 200) ≤ wcP now tq jg ∧ (1 ≤ wcP now tq jg → wcP (now + 1) tq ((now + 1) / 200) + 1 ≤ wcP now tq jg) := by
          unfold wcP
          omega
        have wm := Int.mul_le_mul_of_nonneg_left ew.1 hW
        rw [e4]
        by_cases q0 : i = 0
        · rw [if_pos q0.symm]
          omega
        · rw [if_neg (fun z => q0 z.symm)]
          unfold cvI
          rw [if_neg q0]
          by_cases q5 : i = 5
          · rw [if_pos q5]
            have := Int.mul_le_mul_of_nonneg_left (ew.2 (x4 q5)) hW
            rw [Int.mul_add, Int.mul_one] at this
            omega
          · rw [if_neg q5]
            have hi : i = 1 ∨ i = 2 ∨ i = 3 ∨ i = 4 := by omega
            have : cS i ≤ cS 4 := by
              rcases hi with e | e | e | e <;> rw [e] <;> omega
            omega
    · exact ⟨fun _ => rfl, by omega, fun _ => by omega, fun z => by omega, fun z => by omega, by omega, Int.le_refl _⟩
  · rw [if_neg q, if_neg q]
    have x72 : jg ≤ (now + 1) / 200 := by omega
    have j2 := jx_rng (now := now + 1) x72
    have g2 := ag_4 (now := now + 1) x72
    have w0 := wc_0 (now := now) (tq := tq) (jg := jg)
    have w02 := wc_0 (now := now + 1) (tq := tq) (jg := jg)
    have jm : jxP now jg ≤ jxP (now + 1) jg := by
      unfold jxP
      omega
    have ew : wcP (now + 1) tq jg ≤ wcP now tq jg := by
      unfold wcP
      omega
    have wm := Int.mul_le_mul_of_nonneg_left ew hW
    have mge : jxP (now + 1) jg ≤ mn0 (now + 1) L := by
      rcases mn_nxt (now := now) (L := L) with e | e
      · rw [e]
        show _ ≤ (now + 1) / 200
        omega
      · unfold jxP
        rw [e.1] at q ⊢
        have : ¬ mn0 now L < jg := fun z => by
          have := x5 (by omega)
          omega
        omega
    have hn : (jxP (now + 1) jg = jxP now jg → nvP (now + 1) jg L = nvP now jg L) ∧ nvP (now + 1) jg L ≤ 2 := by
      constructor
      · intro z
        rcases mn_nxt (now := now) (L := L) with e | e
        · unfold nvP
          rw [e, z]
          have d0 : mn0 (now + 1) [] = (now + 1) / 200 := rfl
          have d1 : mn1 (now + 1) [] = (now + 1) / 200 := rfl
          have d2 : mn2 (now + 1) [] = (now + 1) / 200 := rfl
          have f0 : mn0 now [] = now / 200 := rfl
          have f1 : mn1 now [] = now / 200 := rfl
          have f2 : mn2 now [] = now / 200 := rfl
          rw [d0, d1, d2, f0, f1, f2, if_neg (by omega), if_neg (by omega)]
        · unfold nvP
          rw [e.1, e.2.1, e.2.2, z]
      · unfold nvP
        rw [if_neg (by omega)]
        split <;> split <;> omega
    have hcv : (if (if i = 5 ∧ wcP (now + 1) tq jg = 0 then 4 else i) = i then 0 else cvI cS W i) ≤ if i = 5 ∧ wcP (now + 1) tq jg = 0 then W else 0 := by
      by_cases y : i = 5 ∧ wcP (now + 1) tq jg = 0
      · rw [if_pos y, if_pos y, if_neg (by omega)]
        unfold cvI
        rw [if_neg (by omega), if_pos y.1]
        exact Int.le_refl _
      · rw [if_neg y, if_neg y, if_pos rfl]
        exact Int.le_refl _
    have hcw : W * wcP (now + 1) tq jg + (if i = 5 ∧ wcP (now + 1) tq jg = 0 then W else 0) ≤ W * wcP now tq jg := by
      by_cases y : i = 5 ∧ wcP (now + 1) tq jg = 0
      · rw [if_pos y, y.2]
        have := Int.mul_le_mul_of_nonneg_left (x4 y.1) hW
        rw [Int.mul_one] at this
        omega
      · rw [if_neg y]
        omega
    constructor
    · unfold PT
      by_cases z : now / 200 - jg ≤ 3 ∨ (now + 1) / 200 = now / 200
      · have ej : jxP (now + 1) jg = jxP now jg := by
          unfold jxP
          omega
        have en := hn.1 ej
        rw [en]
        rcases hd with e | ⟨e, e3, e4⟩
        · have ea : agP (now + 1) jg = agP now jg := by omega
          have := hd2 e
          rw [ea]
          omega
        · have ea : agP (now + 1) jg = agP now jg + 1 ∧ agP now jg ≤ 3 := by
            unfold jxP at *
            omega
          have : agP now jg = 0 ∨ agP now jg = 1 ∨ agP now jg = 2 ∨ agP now jg = 3 := by omega
          have cs : cS (agP now jg + 1) ≤ cS (agP now jg) + 25600 := by
            rcases this with w | w | w | w <;> rw [w]
            · show cS 1 ≤ cS 0 + 25600
              omega
            · show cS 2 ≤ cS 1 + 25600
              omega
            · show cS 3 ≤ cS 2 + 25600
              omega
            · show cS 4 ≤ cS 3 + 25600
              omega
          rw [ea.1]
          omega
      · have e4 : agP now jg = 4 ∧ agP (now + 1) jg = 4 := by
          unfold jxP at *
          omega
        have := hn.2
        rw [e4.1, e4.2]
        omega
    · refine ⟨fun z => ?_, ?_, fun z => ?_, fun z => ?_, fun z => by omega, by omega, x72⟩
      · have i0 : i = 0 := by
          rcases mn_nxt (now := now) (L := L) with e | e
          · rw [e] at z
            have z : (now + 1) / 200 < jg := z
            omega
          · exact x1 (by rw [e.2.2] at z; exact z)
        rw [if_neg (by omega)]
        exact i0
      · split <;> omega
      · by_cases y : i = 5 ∧ wcP (now + 1) tq jg = 0
        · rw [if_pos y]
          have := x4 y.1
          have y2 := y.2
          unfold wcP jxP at *
          omega
        · rw [if_neg y] at z ⊢
          have := x3 z
          omega
      · by_cases y : i = 5 ∧ wcP (now + 1) tq jg = 0
        · rw [if_pos y] at z
          omega
        · rw [if_neg y] at z
          omega
end NV
