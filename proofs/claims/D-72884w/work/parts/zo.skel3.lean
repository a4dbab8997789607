/-! Bounds, the account: the skeleton for classes of any kind, with a condition on the calls that are left -/
/-- saved states, the latest first: their classes do not fall towards the current one -/
def ChK {κ : Type} (le : κ → κ → Prop) (Inv : κ → Int → CuM → Prop) : List CuM → κ → Prop
  | [], _ => True
  | u :: L, c => ∃ c0 Y0, le c0 c ∧ Inv c0 Y0 u ∧ ChK le Inv L c0
section SKEL3
variable {κ : Type} {le : κ → κ → Prop} {Inv : κ → Int → CuM → Prop} {V : Nat → κ → Int} {Yf : κ → Int} {Ok : Nat → κ → Prop}
theorem ChK.left : ∀ {L M : List CuM} {c : κ}, ChK le Inv (L ++ M) c → ChK le Inv L c := by
  intro L
  induction L with
  | nil => intro M c _; trivial
  | cons u L ih =>
    intro M c h
    obtain ⟨c0, Y0, h1, h2, h3⟩ := h
    exact ⟨c0, Y0, h1, h2, ih h3⟩
theorem ChK.save {y : SY} {c c' : κ} {Y : Int} (hI : Inv c Y y.1) (h : ChK le Inv y.2.reverse c) (hc : le c c') : ChK le Inv (saveY y).reverse c' := by
  have e : (saveY y).reverse = y.1 :: (tl3 y.2).reverse := by
    unfold saveY
    rw [List.reverse_append]
    rfl
  rw [e]
  refine ⟨c, Y, hc, hI, ?_⟩
  unfold tl3
  split
  · cases hy : y.2 with
    | nil => trivial
    | cons a t =>
      rw [hy, List.reverse_cons] at h
      exact h.left
  · exact h
theorem ChK.und {y : SY} {c : κ} (h : ChK le Inv y.2.reverse c) (hy : y.2 ≠ []) : ∃ c0 Y0, le c0 c ∧ Inv c0 Y0 (undY y).1 ∧ ChK le Inv (undY y).2.reverse c0 := by
  have e : y.2 = y.2.dropLast ++ [y.2.getLast hy] := (List.dropLast_concat_getLast hy).symm
  have e2 : y.2.reverse = y.2.getLast hy :: y.2.dropLast.reverse := by
    have := congrArg List.reverse e
    rw [List.reverse_append] at this
    exact this
  rw [e2] at h
  obtain ⟨c0, Y0, h1, h2, h3⟩ := h
  refine ⟨c0, Y0, h1, ?_, h3⟩
  have e3 : (undY y).1 = y.2.getLast hy := by
    unfold undY
    rw [List.getLast?_eq_some_getLast hy]
    rfl
  rw [e3]
  exact h2
/-- the account: V n c cells are enough for n calls from a state of class c -/
theorem LB_skel3 (hrefl : ∀ c, le c c) (hOs : ∀ n c, Ok (n + 1) c → Ok n c) (hOm : ∀ n c c', le c c' → Ok n c' → Ok n c)
    (hVm : ∀ n c c', le c c' → Ok n c' → V n c ≤ V n c') (hV0 : ∀ n c, Ok n c → 0 ≤ V n c) (hVs : ∀ n c, Ok (n + 1) c → V n c + Yf c + 212 ≤ V (n + 1) c) (hYm : ∀ c c', le c c' → Yf c ≤ Yf c')
    (hI0 : ∀ c Y u, Inv c Y u → 0 ≤ Y ∧ Y ≤ Yf c) (hI4 : ∀ c Y u, Inv c Y u → u.1 ≤ 4)
    (hset : ∀ n c Y u u', Ok (n + 1) c → Inv c Y u → StS u u' → ∃ c' Y', le c c' ∧ Ok n c' ∧ Inv c' Y' u' ∧ V n c' + Y' + 46 ≤ V (n + 1) c + Y)
    (hrun : ∀ (n : Nat) (c : κ) (Y : Int) (u : CuM) (T : Nat), Ok (n + 1) c → Inv c Y u → T ≤ 1000 → mg u.2.2 5 + T ≤ 100000 → V (n + 1) c + Y ≤ 603072 → nOK u.1 u.2.1 T u.2.2 ∧ (∀ j, j < u.1 → (ms (tkN u.1 u.2.1 T u.2.2) j).1 6 ≤ (ms u.2.2 j).1 6 + crN u.1 u.2.1 T u.2.2 + 61) ∧ ∃ c' Y', le c c' ∧ Ok n c' ∧ Inv c' Y' (u.1, u.2.1, tkN u.1 u.2.1 T u.2.2) ∧ V n c' + Y' + (72 + (crN u.1 u.2.1 T u.2.2 : Int)) ≤ V (n + 1) c + Y)
    (htri : ∀ (n : Nat) (c : κ) (Y : Int) (u : CuM) (k T : Nat), Ok (n + 1) c → Inv c Y u → k < u.1 → T ≤ 500 → mg u.2.2 5 + T ≤ 100000 → V (n + 1) c + Y ≤ 603072 → nOK u.1 u.2.1 T (offSM u.2.2 k) ∧ (∀ j, j < u.1 → (ms (tkN u.1 u.2.1 T (offSM u.2.2 k)) j).1 6 ≤ (ms (offSM u.2.2 k) j).1 6 + crN u.1 u.2.1 T (offSM u.2.2 k) + 61) ∧ V n c + (72 + (crN u.1 u.2.1 T (offSM u.2.2 k) : Int)) ≤ V (n + 1) c)
    (hdr : ∀ (c : κ) (Y : Int) (u : CuM) (K : Nat), Inv c Y u → K ≤ 500 → mg u.2.2 5 + K ≤ 100000 → nOK u.1 u.2.1 K (offK u.1 u.2.2) ∧ (∀ j, j < u.1 → (ms (tkN u.1 u.2.1 K (offK u.1 u.2.2)) j).1 6 ≤ (ms (offK u.1 u.2.2) j).1 6 + crN u.1 u.2.1 K (offK u.1 u.2.2) + 61) ∧ crN u.1 u.2.1 K (offK u.1 u.2.2) ≤ 100) :
    ∀ (n : Nat) (y : SY) (cu su : Nat) (c : κ) (Y : Int), Ok n c → Inv c Y y.1 → ChK le Inv y.2.reverse c → Snt y.1 cu → (∀ u ∈ y.2, Snt u cu) → V n c + Y + cu ≤ 603072 → su + n * 33800 + 4 * (603072 - cu) ≤ 7178346 → LB n y cu su := by
  intro n
  induction n with
  | zero =>
    intro y cu su c Y hO hI hC _ _ hv hs
    have a := hI0 _ _ _ hI
    have b := hV0 0 c hO
    exact ⟨by omega, by omega⟩
  | succ n ih =>
    intro y cu su c Y hO hI hC hS hSs hv hs
    have a := hI0 _ _ _ hI
    have h4 := hI4 _ _ _ hI
    have hO1 := hOs n c hO
    have b := hV0 n c hO1
    have b2 := hVs n c hO
    have sav : ∀ u ∈ saveY y, Snt u cu := by
      intro u hu
      unfold saveY at hu
      rcases List.mem_append.mp hu with q | q
      · refine hSs u ?_
        unfold tl3 at q
        split at q
        · exact List.mem_of_mem_tail q
        · exact q
      · rw [List.mem_singleton] at q
        rw [q]
        exact hS
    have same : LB n y (cu + 46) (su + 8620) := ih y _ _ c Y hO1 hI hC (hS.mono (by omega)) (fun u hu => (hSs u hu).mono (by omega)) (by omega) (by omega)
    refine ⟨fun y' hy => ?_, fun T hT hn => ?_, fun k T hk hT hn => ?_, fun K hK hn _ => ?_, ?_⟩
    · rcases hy.cases with e | ⟨u', hu, e⟩ | ⟨hne, e⟩
      · rw [e]; exact same
      · obtain ⟨c', Y', hc, hO2, hI2, hv2⟩ := hset n c Y y.1 u' hO hI hu
        have a2 := hI0 _ _ _ hI2
        have b3 := hV0 n c' hO2
        rw [e]
        exact ih _ _ _ c' Y' hO2 hI2 (hC.save hI hc) ((hu.snt hS).mono (by omega)) (fun u hu => (sav u hu).mono (by omega)) (by omega) (by omega)
      · obtain ⟨c0, Y0, hc, hI2, hC2⟩ := hC.und hne
        have a2 := hI0 _ _ _ hI2
        have m1 := hVm n c0 c hc hO1
        have m2 := hYm c0 c hc
        rw [e]
        refine ih _ _ _ c0 Y0 (hOm n c0 c hc hO1) hI2 hC2 ?_ ?_ (by omega) (by omega)
        · have e3 : (undY y).1 = y.2.getLast hne := by
            unfold undY
            rw [List.getLast?_eq_some_getLast hne]
            rfl
          rw [e3]
          exact (hSs _ (List.getLast_mem hne)).mono (by omega)
        · intro u hu
          have hu : u ∈ y.2.dropLast := hu
          exact (hSs u ((List.dropLast_sublist _).subset hu)).mono (by omega)
    · obtain ⟨hr, hsn, c', Y', hc, hO2, hI2, hv2⟩ := hrun n c Y y.1 T hO hI hT hn (by omega)
      have a2 := hI0 _ _ _ hI2
      have b3 := hV0 n c' hO2
      refine ⟨rOK_of h4 hr (fun j hj => ?_), ih (runY y T) _ _ c' Y' hO2 hI2 (hC.save hI hc) ?_ (fun u hu => (sav u hu).mono (by omega)) (by omega) (by omega)⟩
      · have := hsn j hj
        have := hS j hj
        omega
      · intro j hj
        have x1 := hsn j hj
        have x2 := hS j hj
        show (ms (tkN y.1.1 y.1.2.1 T y.1.2.2) j).1 6 ≤ _
        omega
    · obtain ⟨hr, hsn, hv2⟩ := htri n c Y y.1 k T hO hI hk hT hn (by omega)
      refine ⟨rOK_of h4 hr (fun j hj => ?_), ih y _ _ c Y hO1 hI hC (hS.mono (by omega)) (fun u hu => (hSs u hu).mono (by omega)) (by omega) (by omega)⟩
      have x1 := hsn j hj
      have x2 := hS j hj
      rw [off_6] at x1
      omega
    · obtain ⟨hr, hsn, hc⟩ := hdr c Y y.1 K hI hK hn
      refine ⟨rOK_of h4 hr (fun j hj => ?_), hc⟩
      have x1 := hsn j hj
      have x2 := hS j hj
      rw [offK_6] at x1
      omega
    · exact ih y _ _ c Y hO1 hI hC (hS.mono (by omega)) (fun u hu => (hSs u hu).mono (by omega)) (by omega) (by omega)
end SKEL3
