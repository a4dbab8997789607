/-! Bounds, mode H from any state on: the start -/
theorem lvl_f {s : SdM} : (s.1 5).toNat ≤ lvl s := by
  unfold lvl
  omega
section HOS
variable {now c dl R lo hi n0 : Int} {q : Int → Int} {v : SV} {g : Gh} {pw : Int → List EnF → Int}
/-- every loss on the way is an old one -/
theorem FI.old (h : FI v) : ∀ n ∈ v.2.2, ¬ isA n → ¬ v.1.1 6 ≤ n.2.2.2 := by
  intro n hn hA hz
  have := h.2.2 n hn hA
  omega
theorem HBbo.start (h : GNb now c dl R lo lo hi v g) : HBbo now c dl R lo lo hi q (v.1.1 6) v g (0, 0, now, 0) := by
  obtain ⟨⟨hG, hp, hg⟩, hND⟩ := h
  have ho := FI.old hG.1.1
  refine ⟨⟨hG, fun _ => Or.inl ⟨rfl, Or.inl (fwN_none ho)⟩, fun _ => Or.inl (fwN_none ho), hND, fun _ z => absurd z (by dsimp only; omega), Int.le_refl _, ⟨hG.2.1, hG.2.2.2.1⟩, Int.le_refl _⟩, hp, fun n hn hA hz => absurd hz (ho n hn hA), hg⟩
theorem hPHo_start {pB : Int} (hF : FI v) (hk : sW v.1) (hb : pw now g.2.1 ≤ pB) : hPHvo pw (v.1.1 6) now v g ≤ 2 * (lvl v.1 : Int) + 31 + pB + 5 * (aNl v.2.2 : Int) := by
  have a := PS_up hk (vU v) (vFo (v.1.1 6) v)
  have b := (hF.o (n0 := v.1.1 6)).1
  have f := lvl_f (s := v.1)
  have o : obN (v.1.1 6) v.1 ≤ 13 := by
    unfold obN
    split <;> omega
  have p : PVo (v.1.1 6) v ≤ 2 * lvl v.1 + 18 := by
    unfold PVo
    omega
  show (PVo (v.1.1 6) v : Int) + obN (v.1.1 6) v.1 + pw now g.2.1 + 5 * (aNl v.2.2 : Int) ≤ _
  omega
end HOS
section MHOT
variable {nS : Nat} {m : MS} {lo hi : Nat → Int} {q : Int → Int} {pB : Int} {pw : Int → List EnF → Int}
theorem MHo.start {p a : Nat → Nat} (h : GNS nS m lo lo hi) (hb : ∀ (now ka tq T0 : Int) (L : List EnF) (fa : Int → Int) (f : Int → Option Int) (la : List Int), SF now ka tq T0 L fa f la → pw now L ≤ pB) (hR1 : 1 ≤ mg m 2 + mg m 3) (hp : ∀ k, k < nS → lvl (ms m k) ≤ p k) (ha : ∀ k, k < nS → aNl (vwK k m).2.2 ≤ a k) : MHo nS m lo lo hi (fun k => (ms m k).1 6) q pw (fun k => 61 * ((mg m 2 + mg m 3) * (2 * (p k : Int) + 31 + pB + 5 * (a k : Int))) + 61 * ((mg m 2 + mg m 3) - 1) + 60 * (mg m 2 + mg m 3)) := by
  intro k hk
  obtain ⟨g, hG, hsk⟩ := h k hk
  have hpk := hp k hk
  have hak := ha k hk
  have hV := hG.1.1.1
  have hp1 := hG.1.2.1
  have st := HBbo.start (q := q) hG
  have d0 := hPHo_start (pw := pw) (g := g) (pB := pB) hV.1 hV.2.2.2.1 (hb _ _ _ _ _ _ _ _ hV.2.2.1)
  generalize mg m 2 + mg m 3 = R at *
  refine ⟨g, _, mg m 5 + 1 - R, mg m 5 - 60, ⟨st, fun n hn _ _ => by have := hp1 n hn; omega, by omega, by omega, fun z => ?_, fun _ => Or.inr (by omega)⟩, ?_⟩
  · have z : (ms m k).1 11 ≠ -1 := z
    have b := hsk z
    show mg m 5 - 60 + 60 ≤ (ms m k).1 11
    omega
  · have d : hPHvo pw ((ms m k).1 6) (mg m 5) (vwK k m) g ≤ 2 * (p k : Int) + 31 + pB + 5 * (a k : Int) := by
      have d0 : hPHvo pw ((ms m k).1 6) (mg m 5) (vwK k m) g ≤ 2 * (lvl (ms m k) : Int) + 31 + pB + 5 * (aNl (vwK k m).2.2 : Int) := d0
      omega
    have e := Int.mul_le_mul_of_nonneg_left d (show 0 ≤ R by omega)
    unfold hYo
    have e1 : mg m 5 - (mg m 5 + 1 - R) = R - 1 := by omega
    have e2 : mg m 5 - (mg m 5 - 60) = 60 := by omega
    rw [e1, e2]
    dsimp only
    omega
end MHOT
