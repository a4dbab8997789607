/-! Bounds, mode H with a price of what is to come: the start -/
theorem PB_upU (W f U : Nat) (hU : U ≤ f) : PB W f U 0 + U ≤ 2 * max W f + 14 := by
  have q := phB_c W
  have key : PB W f U 0 ≤ 2 * max W f + 14 - U := by
    refine PB_le ?_ (by omega) (fun u => ?_)
    · rw [mB_0]
      omega
    · have := uuB_0 W f
      omega
  omega
theorem PS_upU {s : SdM} (hk : sW s) (U : Nat) (hU : U ≤ (s.1 5).toNat) : PS s U 0 + U ≤ 2 * lvl s + 18 := by
  unfold lvl
  by_cases q : s.1 11 = -1
  · rw [PS_n q, mW_n q]
    have := PB_upU (wP (s.1 4)) (s.1 5).toNat U hU
    omega
  · rw [PS_s q, mW_s q]
    have h2 := (hk q).1
    have a := PB_upU (wP (s.1 12)) (s.1 5).toNat U hU
    have b := PB_upU (max (wP (s.1 4)) (wP (s.1 12))) (s.1 5).toNat U hU
    have w4 : wP (s.1 4) ≤ 2 := by unfold wP; omega
    unfold PL
    omega
section QST
variable {AW : Int → Int → Prop} {now c dl R lo hi n0 : Int} {q : Int → Int} {v : SV} {g : Gh} {pf : PFt}
theorem PVo_start (hF : FI v) (hk : sW v.1) : PVo (v.1.1 6) v + vU v ≤ 2 * lvl v.1 + 18 := by
  have b := (hF.o (n0 := v.1.1 6))
  have f := lvl_f (s := v.1)
  have v0 : vFo (v.1.1 6) v = 0 := by
    show lFl (max (v.1.1 9) (v.1.1 6)) v.2.2 = 0
    exact lFl_0 (fun n hn hz => by
      have := FI.old hF n hn hz
      omega)
  have n0 : nLo (v.1.1 6) v.2.2 = 0 := lFl_0 (fun n hn hz => by
    have := FI.old hF n hn hz
    omega)
  have hU : vU v ≤ (v.1.1 5).toNat := by omega
  have a := PS_upU hk (vU v) hU
  unfold PVo
  rw [v0]
  omega
theorem HBbq.start (h : GNb now c dl R lo lo hi v g) (hA : AWq AW g.2.1 v.2.2) : HBbq AW now c dl R lo lo hi q (v.1.1 6) v g (0, 0, now, 0) := by
  obtain ⟨h1, h2, h3, h4⟩ := HBbo.start (q := q) h
  exact ⟨⟨h1, hA⟩, h2, h3, h4⟩
theorem hPq_start {pB : Int} (hF : FI v) (hk : sW v.1) (hb : pf 0 now g.2.1 (lvS v.1) (aNl v.2.2) ≤ pB + (vU v : Int)) : hPq pf (v.1.1 6) now 0 v g.2.1 ≤ 2 * (lvl v.1 : Int) + 31 + pB := by
  have p := PVo_start hF hk
  have o : obN (v.1.1 6) v.1 ≤ 13 := by
    unfold obN
    split <;> omega
  unfold hPq
  omega
end QST
section MHQT
variable {nS : Nat} {m : MS} {AW : Nat → Int → Int → Prop} {lo hi : Nat → Int} {q : Int → Int} {pf : Nat → PFt} {pB : Nat → Int}
theorem MHq.start {p : Nat → Nat} (h : GNS nS m lo lo hi) (hAL : ∀ k, k < nS → ∀ x ∈ (ms m k).2.2, ∀ t, t ≤ mg m 5 → AW k t x) (hAl : ∀ k, k < nS → ∀ n ∈ (vwK k m).2.2, isA n → AW k n.1 n.2.2.2) (hb : ∀ k, k < nS → ∀ (ka tq T0 : Int) (L : List EnF) (fa : Int → Int), SF (mg m 5) ka tq T0 L fa (ms m k).2.1 (ms m k).2.2 → pf k 0 (mg m 5) L (lvS (ms m k)) (aNl (vwK k m).2.2) ≤ pB k + (vU (vwK k m) : Int)) (hR1 : 1 ≤ mg m 2 + mg m 3) (hp : ∀ k, k < nS → lvl (ms m k) ≤ p k) : MHq nS m AW lo lo hi (fun k => (ms m k).1 6) q pf (fun k => 61 * ((mg m 2 + mg m 3) * (2 * (p k : Int) + 31 + pB k)) + 61 * ((mg m 2 + mg m 3) - 1) + 60 * (mg m 2 + mg m 3)) := by
  intro k hk
  obtain ⟨g, hG, hsk⟩ := h k hk
  have hpk := hp k hk
  have hV := hG.1.1.1
  have hp1 := hG.1.2.1
  have hS := hV.2.2.1
  have hA : AWq (AW k) g.2.1 (vwK k m).2.2 := by
    refine ⟨fun e he => ?_, hAl k hk⟩
    have e1 := hS.2.2.1 e he
    refine hAL k hk e.2.2 ?_ e.1 e1.1
    have e2 : (ms m k).2.2 = g.2.1.map (fun e => e.2.2) := hS.1
    rw [e2]
    exact List.mem_map.mpr ⟨e, he, rfl⟩
  have st := HBbq.start (q := q) hG hA
  have d0 := hPq_start (pf := pf k) (g := g) (pB := pB k) hV.1 hV.2.2.2.1 (hb k hk _ _ _ _ _ hS)
  generalize mg m 2 + mg m 3 = R at *
  refine ⟨g, _, mg m 5 + 1 - R, mg m 5 - 60, ⟨st, fun n hn _ _ => by have := hp1 n hn; omega, by omega, by omega, fun z => ?_, fun _ => Or.inr (by omega)⟩, ?_⟩
  · have z : (ms m k).1 11 ≠ -1 := z
    have b := hsk z
    show mg m 5 - 60 + 60 ≤ (ms m k).1 11
    omega
  · have d : hPq (pf k) ((ms m k).1 6) (mg m 5) 0 (vwK k m) g.2.1 ≤ 2 * (p k : Int) + 31 + pB k := by
      have d0 : hPq (pf k) ((ms m k).1 6) (mg m 5) 0 (vwK k m) g.2.1 ≤ 2 * (lvl (ms m k) : Int) + 31 + pB k := d0
      omega
    have e := Int.mul_le_mul_of_nonneg_left d (show 0 ≤ R by omega)
    unfold hYq
    have e1 : mg m 5 - (mg m 5 + 1 - R) = R - 1 := by omega
    have e2 : mg m 5 - (mg m 5 - 60) = 60 := by omega
    rw [e1, e2]
    dsimp only
    omega
end MHQT
