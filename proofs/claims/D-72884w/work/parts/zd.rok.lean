/-! Bounds, the account: the packets' numbers from the cells used; the skeleton without them -/
def nOK (nS nC T : Nat) (m : MS) : Prop := (mnt m).length ≤ 4096 ∧ ∀ k, k < T → (mnt (tkN nS nC (k + 1) m)).length ≤ 4096
section NOKS
variable {nS nC : Nat} {m : MS}
theorem tick_ms : ms (tickM nS nC m) = ms (actsM nS (handM (nowM m))) := by
  have e1 : ms (tickM nS nC m) = ms (finiM (beginM (midM nS nC m))) := rfl
  rw [e1, (fini_keep (m := beginM (midM nS nC m))).1, (begin_keep (m := midM nS nC m)).1]
  exact (burs_keep (m := actsM nS (handM (nowM m))) nC).1
theorem rOK_of (h4 : nS ≤ 4) {T : Nat} (h : nOK nS nC T m) (hs : ∀ j, j < nS → (ms (tkN nS nC T m) j).1 6 ≤ 4194304) : rOK nS nC T m := by
  refine ⟨h.1, fun k hk => ⟨h.2 k hk, fun j hj => ?_⟩⟩
  obtain ⟨d, hd⟩ : ∃ d, T = (k + 1) + d := ⟨T - (k + 1), by omega⟩
  have a := hs j hj
  rw [hd, tkN_add] at a
  have b := sent_mono (nC := nC) (m := tkN nS nC (k + 1) m) hj h4 d
  have e : ms (tkN nS nC (k + 1) m) = ms (actsM nS (handM (nowM (tkN nS nC k m)))) := tick_ms
  rw [← e]
  omega
theorem sumN_one {g : Nat → Int} : ∀ n : Nat, (∀ k, k < n → 0 ≤ g k) → ∀ j, j < n → 0 ≤ sumN g n ∧ g j ≤ sumN g n := by
  intro n
  induction n with
  | zero => intro _ j hj; omega
  | succ n ih =>
    intro h j hj
    have e : sumN g (n + 1) = sumN g n + g n := rfl
    have hn := h n (Nat.lt_succ_self n)
    have s0 : 0 ≤ sumN g n := by
      have b := sumN_le n (f := fun _ => 0) (g := g) (fun k hk => h k (by omega))
      rw [sumN_c] at b
      omega
    by_cases q : j = n
    · subst q
      omega
    · have := ih (fun k hk => h k (by omega)) j (by omega)
      omega
/-- a sender's packets over a run against the notices made -/
theorem sent_crN (h4 : nS ≤ 4) {T : Nat} (h : ∀ i, i ≤ T → (∀ n ∈ mnt (tkN nS nC i m), n.2.1 < nS) ∧ ∀ k, k < nS → FI (vwK k (tkN nS nC i m))) (hq : (mq m).length ≤ 60) (hq2 : (mq (tkN nS nC T m)).length ≤ 60) : ∀ j, j < nS → (ms (tkN nS nC T m) j).1 6 ≤ (ms m j).1 6 + crN nS nC T m + 61 := by
  intro j hj
  have e := crN_eq (nC := nC) h4 T h
  have q0 := (qsM_le h4 hq).1
  have q2 := (qsM_le h4 hq2).2
  have s := (sumN_one (g := fun k => (ms (tkN nS nC T m) k).1 6 - (ms m k).1 6) nS (fun k hk => by
    have := sent_mono (nC := nC) (m := m) hk h4 T
    omega) j hj).2
  have e2 : sumN (fun k => (ms (tkN nS nC T m) k).1 6 - (ms m k).1 6) nS + sntM nS m = sntM nS (tkN nS nC T m) := by
    unfold sntM
    rw [← sumN_add]
    exact sumN_congr nS (fun k _ => by omega)
  omega
end NOKS
/-- numbers of packets sent so far -/
def Snt (u : CuM) (cu : Nat) : Prop := ∀ j, j < u.1 → (ms u.2.2 j).1 6 ≤ cu
theorem Snt.mono {u : CuM} {a b : Nat} (h : Snt u a) (hab : a ≤ b) : Snt u b := fun j hj => by have := h j hj; omega
theorem fld_6 {m : MS} {i w j : Nat} {a : Int} (hw : w ≠ 6) : (ms (fldM m i w a) j).1 6 = (ms m j).1 6 := by
  by_cases q : j = i
  · have e : ms (fldM m i w a) j = fldS (ms m i) w a := by
      show fup (ms m) i (fldS (ms m i) w a) j = _
      unfold fup
      rw [if_pos q]
    rw [e, q]
    exact if_neg (fun z => hw z.symm)
  · have e : ms (fldM m i w a) j = ms m j := by
      show fup (ms m) i (fldS (ms m i) w a) j = _
      unfold fup
      rw [if_neg q]
    rw [e]
theorem StS.snt {u u' : CuM} {cu : Nat} (h : StS u u') (hs : Snt u cu) : Snt u' cu := by
  rcases h with ⟨a, b, -, -, -, -, e⟩ | ⟨a, b, -, -, -, -, e⟩ | ⟨a, -, -, e⟩ | ⟨a, b, d, -, -, -, -, -, -, -, e⟩ | ⟨i, a, b, -, -, -, -, -, e⟩ | ⟨i, a, -, -, -, e⟩ | ⟨i, a, -, -, e⟩ | ⟨a, b, d, f, -, -, -, -, -, -, -, -, -, e⟩ | ⟨i, -, e⟩
  · rw [e]; exact hs
  · rw [e]; exact hs
  · rw [e]; exact hs
  · rw [e]
    intro j hj
    have hj : j < u.1 + 1 := hj
    show (fup (ms u.2.2) u.1 (newS a b d (mg u.2.2 5)) j).1 6 ≤ cu
    unfold fup
    split
    · have : (newS a b d (mg u.2.2 5)).1 6 = 0 := rfl
      rw [this]
      omega
    · exact hs j (by omega)
  · rw [e]
    intro j hj
    show (ms (fldM (fldM u.2.2 i 0 a) i 1 b) j).1 6 ≤ cu
    rw [fld_6 (by decide), fld_6 (by decide)]
    exact hs j hj
  · rw [e]
    intro j hj
    show (ms (fldM u.2.2 i 2 a) j).1 6 ≤ cu
    rw [fld_6 (by decide)]
    exact hs j hj
  · rw [e]
    intro j hj
    show (ms (fldM u.2.2 i 3 a) j).1 6 ≤ cu
    rw [fld_6 (by decide)]
    exact hs j hj
  · rw [e]; exact hs
  · rw [e]; exact hs
theorem off_6 {m : MS} {i j : Nat} : (ms (offSM m i) j).1 6 = (ms m j).1 6 := by
  by_cases q : j = i
  · have e : ms (offSM m i) j = offS (ms m i) := by
      show fup (ms m) i (offS (ms m i)) j = _
      unfold fup
      rw [if_pos q]
    rw [e, q]
    show (if (6 : Nat) = 3 then (0 : Int) else (ms m i).1 6) = _
    exact if_neg (by decide)
  · have e : ms (offSM m i) j = ms m j := by
      show fup (ms m) i (offS (ms m i)) j = _
      unfold fup
      rw [if_neg q]
    rw [e]
theorem offK_6 {m : MS} {j : Nat} : ∀ k : Nat, (ms (offK k m) j).1 6 = (ms m j).1 6 := by
  intro k
  induction k with
  | zero => rfl
  | succ k ih =>
    show (ms (offSM (offK k m) k) j).1 6 = _
    rw [off_6, ih]
section SKEL2
variable {Inv : Nat → Int → CuM → Prop} {V : Nat → Nat → Int} {Yf : Nat → Int}
/-- the same with the numbers of packets sent taken from the cells used -/
theorem LB_skel2 (hVm : ∀ n c c', c ≤ c' → V n c ≤ V n c') (hV0 : ∀ n c, 0 ≤ V n c) (hVs : ∀ n c, V n c + Yf c + 212 ≤ V (n + 1) c) (hYm : ∀ c c', c ≤ c' → Yf c ≤ Yf c')
    (hI0 : ∀ c Y u, Inv c Y u → 0 ≤ Y ∧ Y ≤ Yf c) (hI4 : ∀ c Y u, Inv c Y u → u.1 ≤ 4)
    (hset : ∀ n c Y u u', Inv c Y u → StS u u' → ∃ c' Y', c ≤ c' ∧ Inv c' Y' u' ∧ V n c' + Y' + 46 ≤ V (n + 1) c + Y)
    (hrun : ∀ (n c : Nat) (Y : Int) (u : CuM) (T : Nat), Inv c Y u → T ≤ 1000 → mg u.2.2 5 + T ≤ 100000 → V (n + 1) c + Y ≤ 603072 → nOK u.1 u.2.1 T u.2.2 ∧ (∀ j, j < u.1 → (ms (tkN u.1 u.2.1 T u.2.2) j).1 6 ≤ (ms u.2.2 j).1 6 + crN u.1 u.2.1 T u.2.2 + 61) ∧ ∃ c' Y', c ≤ c' ∧ Inv c' Y' (u.1, u.2.1, tkN u.1 u.2.1 T u.2.2) ∧ V n c' + Y' + (72 + (crN u.1 u.2.1 T u.2.2 : Int)) ≤ V (n + 1) c + Y)
    (htri : ∀ (n c : Nat) (Y : Int) (u : CuM) (k T : Nat), Inv c Y u → k < u.1 → T ≤ 500 → mg u.2.2 5 + T ≤ 100000 → V (n + 1) c + Y ≤ 603072 → nOK u.1 u.2.1 T (offSM u.2.2 k) ∧ (∀ j, j < u.1 → (ms (tkN u.1 u.2.1 T (offSM u.2.2 k)) j).1 6 ≤ (ms (offSM u.2.2 k) j).1 6 + crN u.1 u.2.1 T (offSM u.2.2 k) + 61) ∧ V n c + (72 + (crN u.1 u.2.1 T (offSM u.2.2 k) : Int)) ≤ V (n + 1) c)
    (hdr : ∀ (c : Nat) (Y : Int) (u : CuM) (K : Nat), Inv c Y u → K ≤ 500 → mg u.2.2 5 + K ≤ 100000 → nOK u.1 u.2.1 K (offK u.1 u.2.2) ∧ (∀ j, j < u.1 → (ms (tkN u.1 u.2.1 K (offK u.1 u.2.2)) j).1 6 ≤ (ms (offK u.1 u.2.2) j).1 6 + crN u.1 u.2.1 K (offK u.1 u.2.2) + 61) ∧ crN u.1 u.2.1 K (offK u.1 u.2.2) ≤ 100) :
    ∀ (n : Nat) (y : SY) (cu su c : Nat) (Y : Int), Inv c Y y.1 → Ch Inv y.2.reverse c → Snt y.1 cu → (∀ u ∈ y.2, Snt u cu) → V n c + Y + cu ≤ 603072 → su + n * 33800 + 4 * (603072 - cu) ≤ 7178346 → LB n y cu su := by
  intro n
  induction n with
  | zero =>
    intro y cu su c Y hI hC _ _ hv hs
    have a := hI0 _ _ _ hI
    have b := hV0 0 c
    exact ⟨by omega, by omega⟩
  | succ n ih =>
    intro y cu su c Y hI hC hS hSs hv hs
    have a := hI0 _ _ _ hI
    have h4 := hI4 _ _ _ hI
    have b := hV0 n c
    have b2 := hVs n c
    have sav : ∀ u ∈ saveY y, Snt u cu := by
      intro u hu
      unfold saveY at hu
      rcases List.mem_append.mp hu with q | q
      · refine hSs u ?_
        unfold tl3 at q
        split at q
        · exact List.mem_of_mem_tail q
        · exact q
      · rw [List.mem_singleton] at q
        rw [q]
        exact hS
    have same : LB n y (cu + 46) (su + 8620) := ih y _ _ c Y hI hC (hS.mono (by omega)) (fun u hu => (hSs u hu).mono (by omega)) (by omega) (by omega)
    refine ⟨fun y' hy => ?_, fun T hT hn => ?_, fun k T hk hT hn => ?_, fun K hK hn _ => ?_, ?_⟩
    · rcases hy.cases with e | ⟨u', hu, e⟩ | ⟨hne, e⟩
      · rw [e]; exact same
      · obtain ⟨c', Y', hc, hI2, hv2⟩ := hset n c Y y.1 u' hI hu
        have a2 := hI0 _ _ _ hI2
        have b3 := hV0 n c'
        rw [e]
        exact ih _ _ _ c' Y' hI2 (hC.save hI hc) ((hu.snt hS).mono (by omega)) (fun u hu => (sav u hu).mono (by omega)) (by omega) (by omega)
      · obtain ⟨c0, Y0, hc, hI2, hC2⟩ := hC.und hne
        have a2 := hI0 _ _ _ hI2
        have m1 := hVm n c0 c hc
        have m2 := hYm c0 c hc
        rw [e]
        refine ih _ _ _ c0 Y0 hI2 hC2 ?_ ?_ (by omega) (by omega)
        · have e3 : (undY y).1 = y.2.getLast hne := by
            unfold undY
            rw [List.getLast?_eq_some_getLast hne]
            rfl
          rw [e3]
          exact (hSs _ (List.getLast_mem hne)).mono (by omega)
        · intro u hu
          have hu : u ∈ y.2.dropLast := hu
          exact (hSs u ((List.dropLast_sublist _).subset hu)).mono (by omega)
    · obtain ⟨hr, hsn, c', Y', hc, hI2, hv2⟩ := hrun n c Y y.1 T hI hT hn (by omega)
      have a2 := hI0 _ _ _ hI2
      have b3 := hV0 n c'
      refine ⟨rOK_of h4 hr (fun j hj => ?_), ih (runY y T) _ _ c' Y' hI2 (hC.save hI hc) ?_ (fun u hu => (sav u hu).mono (by omega)) (by omega) (by omega)⟩
      · have := hsn j hj
        have := hS j hj
        omega
      · intro j hj
        have x1 := hsn j hj
        have x2 := hS j hj
        show (ms (tkN y.1.1 y.1.2.1 T y.1.2.2) j).1 6 ≤ _
        omega
    · obtain ⟨hr, hsn, hv2⟩ := htri n c Y y.1 k T hI hk hT hn (by omega)
      refine ⟨rOK_of h4 hr (fun j hj => ?_), ih y _ _ c Y hI hC (hS.mono (by omega)) (fun u hu => (hSs u hu).mono (by omega)) (by omega) (by omega)⟩
      have x1 := hsn j hj
      have x2 := hS j hj
      rw [off_6] at x1
      omega
    · obtain ⟨hr, hsn, hc⟩ := hdr c Y y.1 K hI hK hn
      refine ⟨rOK_of h4 hr (fun j hj => ?_), hc⟩
      have x1 := hsn j hj
      have x2 := hS j hj
      rw [offK_6] at x1
      omega
    · exact ih y _ _ c Y hI hC (hS.mono (by omega)) (fun u hu => (hSs u hu).mono (by omega)) (by omega) (by omega)
end SKEL2
