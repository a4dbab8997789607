/-! Bounds, mode H with a price of what is to come, depths by pairs: the start (turned from ur by gen/mk_vd.py) -/
section DST
variable {AW : Int → Int → Prop} {now c dl R lo hi n0 : Int} {q : Int → Int} {v : SV} {g : Gh}
theorem HBbd.start (h : GNb now c dl R lo lo hi v g) (hA : AWq AW g.2.1 v.2.2) : HBbd AW now c dl R lo lo hi q (v.1.1 6) v g (0, 0, now, 0) := by
  obtain ⟨h1, h2, h3, h4⟩ := HBbo.start (q := q) h
  exact ⟨⟨h1, hA⟩, h2, h3, h4⟩
end DST
section MHDT
variable {nS : Nat} {m : MS} {AW : Nat → Int → Int → Prop} {lo hi : Nat → Int} {q : Int → Int} {pg : Nat → PFt} {pB : Nat → Int}
theorem MHd.start {p : Nat → Nat} (h : GNS nS m lo lo hi) (hAL : ∀ k, k < nS → ∀ x ∈ (ms m k).2.2, ∀ t, t ≤ mg m 5 → AW k t x) (hAl : ∀ k, k < nS → ∀ n ∈ (vwK k m).2.2, isA n → AW k n.1 n.2.2.2) (hb : ∀ k, k < nS → ∀ (ka tq T0 : Int) (L : List EnF) (fa : Int → Int), SF (mg m 5) ka tq T0 L fa (ms m k).2.1 (ms m k).2.2 → pg k 0 (mg m 5) L (lvS (ms m k)) (aNl (vwK k m).2.2) ≤ pB k + (vU (vwK k m) : Int)) (hR1 : 1 ≤ mg m 2 + mg m 3) (hp : ∀ k, k < nS → lvl (ms m k) ≤ p k) : MHd nS m AW lo lo hi (fun k => (ms m k).1 6) q pg (fun k => 61 * ((mg m 2 + mg m 3) * (2 * (p k : Int) + 31 + pB k)) + 61 * ((mg m 2 + mg m 3) - 1) + 60 * (mg m 2 + mg m 3)) := by
  intro k hk
  obtain ⟨g, hG, hsk⟩ := h k hk
  have hpk := hp k hk
  have hV := hG.1.1.1
  have hp1 := hG.1.2.1
  have hS := hV.2.2.1
  have hA : AWq (AW k) g.2.1 (vwK k m).2.2 := by
    refine ⟨fun e he => ?_, hAl k hk⟩
    have e1 := hS.2.2.1 e he
    refine hAL k hk e.2.2 ?_ e.1 e1.1
    have e2 : (ms m k).2.2 = g.2.1.map (fun e => e.2.2) := hS.1
    rw [e2]
    exact List.mem_map.mpr ⟨e, he, rfl⟩
  have st := HBbd.start (q := q) hG hA
  have d0 := hPq_start (pf := pg k) (g := g) (pB := pB k) hV.1 hV.2.2.2.1 (hb k hk _ _ _ _ _ hS)
  generalize mg m 2 + mg m 3 = R at *
  refine ⟨g, _, mg m 5 + 1 - R, mg m 5 - 60, ⟨st, fun n hn _ _ => by have := hp1 n hn; omega, by omega, by omega, fun z => ?_, fun _ => Or.inr (by omega)⟩, ?_⟩
  · have z : (ms m k).1 11 ≠ -1 := z
    have b := hsk z
    show mg m 5 - 60 + 60 ≤ (ms m k).1 11
    omega
  · have d : hPq (pg k) ((ms m k).1 6) (mg m 5) 0 (vwK k m) g.2.1 ≤ 2 * (p k : Int) + 31 + pB k := by
      have d0 : hPq (pg k) ((ms m k).1 6) (mg m 5) 0 (vwK k m) g.2.1 ≤ 2 * (lvl (ms m k) : Int) + 31 + pB k := d0
      omega
    have e := Int.mul_le_mul_of_nonneg_left d (show 0 ≤ R by omega)
    unfold hYd
    have e1 : mg m 5 - (mg m 5 + 1 - R) = R - 1 := by omega
    have e2 : mg m 5 - (mg m 5 - 60) = 60 := by omega
    rw [e1, e2]
    dsimp only
    omega
end MHDT
