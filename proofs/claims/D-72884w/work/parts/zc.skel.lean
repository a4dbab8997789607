/-! Bounds, the account: from what is known of a state at every call to the bounds as the law asks for them -/
/-- a call that changes the current state's settings, senders or sources -/
def StS (u u' : CuM) : Prop := (∃ a b : Int, 1 ≤ a ∧ a ≤ 60 ∧ 1 ≤ b ∧ b ≤ 20 ∧ u' = (u.1, u.2.1, lnkM u.2.2 a b)) ∨ (∃ a b : Int, 0 ≤ a ∧ a ≤ 100 ∧ 1 ≤ b ∧ b ≤ 100 ∧ u' = (u.1, u.2.1, timM u.2.2 a b)) ∨ (∃ a : Int, 0 ≤ a ∧ a ≤ 2000 ∧ u' = (u.1, u.2.1, slwM u.2.2 a)) ∨ (∃ a b d : Int, 1 ≤ a ∧ a ≤ 200 ∧ 1 ≤ b ∧ b ≤ 8 ∧ -1000 ≤ d ∧ d ≤ 1000 ∧ u.1 < 4 ∧ u' = (u.1 + 1, u.2.1, setSM u.2.2 u.1 (newS a b d (mg u.2.2 5)))) ∨ (∃ (i : Nat) (a b : Int), i < u.1 ∧ 1 ≤ a ∧ a ≤ 200 ∧ 1 ≤ b ∧ b ≤ 8 ∧ u' = (u.1, u.2.1, fldM (fldM u.2.2 i 0 a) i 1 b)) ∨ (∃ (i : Nat) (a : Int), i < u.1 ∧ -1000 ≤ a ∧ a ≤ 1000 ∧ u' = (u.1, u.2.1, fldM u.2.2 i 2 a)) ∨ (∃ (i : Nat) (a : Int), i < u.1 ∧ (a = 0 ∨ a = 1) ∧ u' = (u.1, u.2.1, fldM u.2.2 i 3 a)) ∨ (∃ a b d f : Int, 0 ≤ a ∧ a ≤ 100000 ∧ 1 ≤ b ∧ b ≤ 1000 ∧ 1 ≤ d ∧ d ≤ 30 ∧ a ≤ f ∧ f ≤ 100000 ∧ u.2.1 < 4 ∧ u' = (u.1, u.2.1 + 1, addCM u.2.2 u.2.1 a b d f)) ∨ ∃ i : Nat, i < u.2.1 ∧ u' = (u.1, u.2.1 - 1, rmCM u.2.2 i)
theorem inR_ne {v a b : Int32} (h : ¬ inR32 v a b = 0) : a.toInt ≤ v.toInt ∧ v.toInt ≤ b.toInt := by
  unfold inR32 at h
  by_cases h1 : v < a
  · rw [if_pos h1] at h
    exact absurd rfl h
  · rw [if_neg h1] at h
    by_cases h2 : b < v
    · rw [if_pos h2] at h
      exact absurd rfl h
    · rw [Int32.lt_iff_toInt_lt] at h1 h2
      omega
theorem and2_ne {x z : Int32} (h : ¬ and2 x z = 0) : ¬ x = 0 ∧ ¬ z = 0 := by
  unfold and2 at h
  by_cases h1 : x = 0
  · rw [if_pos h1] at h
    exact absurd rfl h
  · rw [if_neg h1] at h
    by_cases h2 : z = 0
    · rw [if_pos h2] at h
      exact absurd rfl h
    · exact ⟨h1, h2⟩
theorem YS.cases {y y' : SY} (h : YS y y') : y' = y ∨ (∃ u', StS y.1 u' ∧ y' = (u', saveY y)) ∨ (y.2 ≠ [] ∧ y' = undY y) := by
  have t0 : (0 : Int32).toInt = 0 := by decide
  have t1 : (1 : Int32).toInt = 1 := by decide
  have t8 : (8 : Int32).toInt = 8 := by decide
  have t20 : (20 : Int32).toInt = 20 := by decide
  have t30 : (30 : Int32).toInt = 30 := by decide
  have t60 : (60 : Int32).toInt = 60 := by decide
  have t100 : (100 : Int32).toInt = 100 := by decide
  have t200 : (200 : Int32).toInt = 200 := by decide
  have tk : (1000 : Int32).toInt = 1000 := by decide
  have tn : (-1000 : Int32).toInt = -1000 := by decide
  have t2k : (2000 : Int32).toInt = 2000 := by decide
  have tl : (100000 : Int32).toInt = 100000 := by decide
  rcases h with h | ⟨a, b, h, e⟩ | ⟨a, b, h, e⟩ | ⟨a, h, e⟩ | ⟨a, b, d, h, hd, h4, e⟩ | ⟨i, a, b, hi, h, e⟩ | ⟨i, a, hi, h, e⟩ | ⟨i, a, hi, h, e⟩ | ⟨a, b, d, f, h, h2, h4, e⟩ | ⟨i, hi, e⟩ | h
  · exact Or.inl h
  · obtain ⟨h1, h2⟩ := and2_ne h
    have h1 := inR_ne h1
    have h2 := inR_ne h2
    rw [t1, t60] at h1
    rw [t1, t20] at h2
    exact Or.inr (Or.inl ⟨_, Or.inl ⟨a.toInt, b.toInt, h1.1, h1.2, h2.1, h2.2, rfl⟩, e⟩)
  · obtain ⟨h1, h2⟩ := and2_ne h
    have h1 := inR_ne h1
    have h2 := inR_ne h2
    rw [t0, t100] at h1
    rw [t1, t100] at h2
    exact Or.inr (Or.inl ⟨_, Or.inr (Or.inl ⟨a.toInt, b.toInt, h1.1, h1.2, h2.1, h2.2, rfl⟩), e⟩)
  · have h1 := inR_ne h
    rw [t0, t2k] at h1
    exact Or.inr (Or.inl ⟨_, Or.inr (Or.inr (Or.inl ⟨a.toInt, h1.1, h1.2, rfl⟩)), e⟩)
  · obtain ⟨h1, h2⟩ := and2_ne h
    have h1 := inR_ne h1
    have h2 := inR_ne h2
    have h3 := inR_ne hd
    rw [t1, t200] at h1
    rw [t1, t8] at h2
    rw [tn, tk] at h3
    exact Or.inr (Or.inl ⟨_, Or.inr (Or.inr (Or.inr (Or.inl ⟨a.toInt, b.toInt, d.toInt, h1.1, h1.2, h2.1, h2.2, h3.1, h3.2, h4, rfl⟩))), e⟩)
  · obtain ⟨h1, h2⟩ := and2_ne h
    have h1 := inR_ne h1
    have h2 := inR_ne h2
    rw [t1, t200] at h1
    rw [t1, t8] at h2
    exact Or.inr (Or.inl ⟨_, Or.inr (Or.inr (Or.inr (Or.inr (Or.inl ⟨i, a.toInt, b.toInt, hi, h1.1, h1.2, h2.1, h2.2, rfl⟩)))), e⟩)
  · have h1 := inR_ne h
    rw [tn, tk] at h1
    exact Or.inr (Or.inl ⟨_, Or.inr (Or.inr (Or.inr (Or.inr (Or.inr (Or.inl ⟨i, a.toInt, hi, h1.1, h1.2, rfl⟩))))), e⟩)
  · refine Or.inr (Or.inl ⟨_, Or.inr (Or.inr (Or.inr (Or.inr (Or.inr (Or.inr (Or.inl ⟨i, a.toInt, hi, ?_, rfl⟩)))))), e⟩)
    rcases h with q | q
    · left
      rw [q, t0]
    · right
      rw [q, t1]
  · obtain ⟨h1, h3⟩ := and2_ne h
    obtain ⟨h5, h6⟩ := and2_ne h2
    have h1 := inR_ne h1
    have h3 := inR_ne h3
    have h5 := inR_ne h5
    have h6 := inR_ne h6
    rw [t0, tl] at h1
    rw [t1, tk] at h3
    rw [t1, t30] at h5
    rw [tl] at h6
    exact Or.inr (Or.inl ⟨_, Or.inr (Or.inr (Or.inr (Or.inr (Or.inr (Or.inr (Or.inr (Or.inl ⟨a.toInt, b.toInt, d.toInt, f.toInt, h1.1, h1.2, h3.1, h3.2, h5.1, h5.2, h6.1, h6.2, h4, rfl⟩))))))), e⟩)
  · exact Or.inr (Or.inl ⟨_, Or.inr (Or.inr (Or.inr (Or.inr (Or.inr (Or.inr (Or.inr (Or.inr ⟨i, hi, rfl⟩))))))), e⟩)
  · exact Or.inr (Or.inr h)
/-- saved states, the latest first: their classes do not fall towards the current one -/
def Ch (Inv : Nat → Int → CuM → Prop) : List CuM → Nat → Prop
  | [], _ => True
  | u :: L, c => ∃ c0 Y0, c0 ≤ c ∧ Inv c0 Y0 u ∧ Ch Inv L c0
section SKEL
variable {Inv : Nat → Int → CuM → Prop} {V : Nat → Nat → Int} {Yf : Nat → Int}
theorem Ch.mono {L : List CuM} {c c' : Nat} (h : Ch Inv L c) (hc : c ≤ c') : Ch Inv L c' := by
  cases L with
  | nil => trivial
  | cons u L =>
    obtain ⟨c0, Y0, h1, h2, h3⟩ := h
    exact ⟨c0, Y0, by omega, h2, h3⟩
theorem Ch.left : ∀ {L M : List CuM} {c : Nat}, Ch Inv (L ++ M) c → Ch Inv L c := by
  intro L
  induction L with
  | nil => intro M c _; trivial
  | cons u L ih =>
    intro M c h
    obtain ⟨c0, Y0, h1, h2, h3⟩ := h
    exact ⟨c0, Y0, h1, h2, ih h3⟩
theorem Ch.save {y : SY} {c c' : Nat} {Y : Int} (hI : Inv c Y y.1) (h : Ch Inv y.2.reverse c) (hc : c ≤ c') : Ch Inv (saveY y).reverse c' := by
  have e : (saveY y).reverse = y.1 :: (tl3 y.2).reverse := by
    unfold saveY
    rw [List.reverse_append]
    rfl
  rw [e]
  refine ⟨c, Y, hc, hI, ?_⟩
  unfold tl3
  split
  · cases hy : y.2 with
    | nil => trivial
    | cons a t =>
      rw [hy, List.reverse_cons] at h
      exact h.left
  · exact h
theorem Ch.und {y : SY} {c : Nat} (h : Ch Inv y.2.reverse c) (hy : y.2 ≠ []) : ∃ c0 Y0, c0 ≤ c ∧ Inv c0 Y0 (undY y).1 ∧ Ch Inv (undY y).2.reverse c0 := by
  have e : y.2 = y.2.dropLast ++ [y.2.getLast hy] := (List.dropLast_concat_getLast hy).symm
  have e2 : y.2.reverse = y.2.getLast hy :: y.2.dropLast.reverse := by
    have := congrArg List.reverse e
    rw [List.reverse_append] at this
    exact this
  rw [e2] at h
  obtain ⟨c0, Y0, h1, h2, h3⟩ := h
  refine ⟨c0, Y0, h1, ?_, h3⟩
  have e3 : (undY y).1 = y.2.getLast hy := by
    unfold undY
    rw [List.getLast?_eq_some_getLast hy]
    rfl
  rw [e3]
  exact h2
/-- the account: V n c cells are enough for n calls from a state of class c, Y more stand for what its potential holds -/
theorem LB_skel (hVm : ∀ n c c', c ≤ c' → V n c ≤ V n c') (hV0 : ∀ n c, 0 ≤ V n c) (hVs : ∀ n c, V n c + Yf c + 212 ≤ V (n + 1) c) (hYm : ∀ c c', c ≤ c' → Yf c ≤ Yf c')
    (hI0 : ∀ c Y u, Inv c Y u → 0 ≤ Y ∧ Y ≤ Yf c)
    (hset : ∀ n c Y u u', Inv c Y u → StS u u' → ∃ c' Y', c ≤ c' ∧ Inv c' Y' u' ∧ V n c' + Y' + 46 ≤ V (n + 1) c + Y)
    (hrun : ∀ (n c : Nat) (Y : Int) (u : CuM) (T : Nat), Inv c Y u → T ≤ 1000 → mg u.2.2 5 + T ≤ 100000 → V (n + 1) c + Y ≤ 603072 → rOK u.1 u.2.1 T u.2.2 ∧ ∃ c' Y', c ≤ c' ∧ Inv c' Y' (u.1, u.2.1, tkN u.1 u.2.1 T u.2.2) ∧ V n c' + Y' + (72 + (crN u.1 u.2.1 T u.2.2 : Int)) ≤ V (n + 1) c + Y)
    (htri : ∀ (n c : Nat) (Y : Int) (u : CuM) (k T : Nat), Inv c Y u → k < u.1 → T ≤ 500 → mg u.2.2 5 + T ≤ 100000 → V (n + 1) c + Y ≤ 603072 → rOK u.1 u.2.1 T (offSM u.2.2 k) ∧ V n c + (72 + (crN u.1 u.2.1 T (offSM u.2.2 k) : Int)) ≤ V (n + 1) c)
    (hdr : ∀ (c : Nat) (Y : Int) (u : CuM) (K : Nat), Inv c Y u → K ≤ 500 → mg u.2.2 5 + K ≤ 100000 → rOK u.1 u.2.1 K (offK u.1 u.2.2) ∧ crN u.1 u.2.1 K (offK u.1 u.2.2) ≤ 100) :
    ∀ (n : Nat) (y : SY) (cu su c : Nat) (Y : Int), Inv c Y y.1 → Ch Inv y.2.reverse c → V n c + Y + cu ≤ 603072 → su + n * 33800 + 4 * (603072 - cu) ≤ 7178346 → LB n y cu su := by
  intro n
  induction n with
  | zero =>
    intro y cu su c Y hI hC hv hs
    have a := hI0 _ _ _ hI
    have b := hV0 0 c
    exact ⟨by omega, by omega⟩
  | succ n ih =>
    intro y cu su c Y hI hC hv hs
    have a := hI0 _ _ _ hI
    have b := hV0 n c
    have b2 := hVs n c
    -- the same states
    have same : LB n y (cu + 46) (su + 8620) := ih y _ _ c Y hI hC (by omega) (by omega)
    refine ⟨fun y' hy => ?_, fun T hT hn => ?_, fun k T hk hT hn => ?_, fun K hK hn _ => hdr c Y y.1 K hI hK hn, ?_⟩
    · rcases hy.cases with e | ⟨u', hu, e⟩ | ⟨hne, e⟩
      · rw [e]; exact same
      · obtain ⟨c', Y', hc, hI2, hv2⟩ := hset n c Y y.1 u' hI hu
        have a2 := hI0 _ _ _ hI2
        have b3 := hV0 n c'
        rw [e]
        exact ih _ _ _ c' Y' hI2 (hC.save hI hc) (by omega) (by omega)
      · obtain ⟨c0, Y0, hc, hI2, hC2⟩ := hC.und hne
        have a2 := hI0 _ _ _ hI2
        have m1 := hVm n c0 c hc
        have m2 := hYm c0 c hc
        rw [e]
        exact ih _ _ _ c0 Y0 hI2 hC2 (by omega) (by omega)
    · obtain ⟨hr, c', Y', hc, hI2, hv2⟩ := hrun n c Y y.1 T hI hT hn (by omega)
      have a2 := hI0 _ _ _ hI2
      have b3 := hV0 n c'
      refine ⟨hr, ih (runY y T) _ _ c' Y' hI2 (hC.save hI hc) (by omega) (by omega)⟩
    · obtain ⟨hr, hv2⟩ := htri n c Y y.1 k T hI hk hT hn (by omega)
      refine ⟨hr, ih y _ _ c Y hI hC (by omega) (by omega)⟩
    · exact ih y _ _ c Y hI hC (by omega) (by omega)
end SKEL
