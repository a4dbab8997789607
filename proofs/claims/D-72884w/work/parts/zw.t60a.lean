/-! Bounds, trials with R <= 60: one depth a sender -/
section T60A
variable {nS nC : Nat} {m : MS} {lo hi e : Nat → Int}
def awA (lo hi : Nat → Int) (k : Nat) (_t d : Int) : Prop := lo k ≤ d ∧ d ≤ hi k
/-- one depth a sender: K k (1321 where the offset never changed, 3321 else), price w k -/
theorem BAs.t60a {p : Nat → Nat} {K w wh wf : Nat → Int} {q qh : Int} (h : BAs nS m lo hi) (hU : ∀ k, k < nS → UL (hi k) (ms m k) (vwK k m).2.2) (hlh : ∀ k, k < nS → hi k - lo k + 1 ≤ K k) (hq0 : 0 ≤ q) (hqh : q ≤ 2 * qh) (hlq : ∀ k, k < nS → hi k - lo k ≤ q) (hN : ∀ k, k < nS → NQ (K k) q qh (w k) (wh k) (wf k)) (hw : ∀ k, 0 ≤ w k ∧ 100 * wh k ≤ 148 * w k ∧ 100 * wf k ≤ 203 * w k) (hR : mg m 2 + mg m 3 ≤ 60) (hp : ∀ k, k < nS → lvl (ms m k) ≤ p k) (he : ∀ k, k < nS → e k = 0 ∨ e k = 1) (hof : ∀ k, k < nS → e k = 0 → (ms m k).1 3 = 0) (T : Nat) (hT5 : T ≤ 500) (hT : mg m 5 + T ≤ tqB) :
    61 * (mg m 1 * ((mg m 2 + mg m 3) * (sntM nS (tkN nS nC T m) - sntM nS m))) ≤ mg m 1 * smE e (fun k => 61 * ((mg m 2 + mg m 3) * (2 * (p k : Int) + 31 + (4 * (aNl (vwK k m).2.2 : Int) + 9 * w k))) + 61 * ((mg m 2 + mg m 3) - 1) + 60 * (mg m 2 + mg m 3)) nS + 305 * ((mg m 2 + mg m 3) * (T + 38)) + mg m 1 * (sumN e nS * (T * (61 + (mg m 2 + mg m 3)))) := by
  have hG := h.2.2.2.2.2.2.2.1
  have h0 := h.2.2.2.2.2.2.2.2.2.2.2.2.2
  have hty : ∀ t d, (fun _ _ => (0 : Nat) : Int → Int → Nat) t d < 2 := fun _ _ => by show 0 < 2; omega
  have rg : ∀ k, k < nS → ∀ t1 d1 t2 d2, awA lo hi k t1 d1 → awA lo hi k t2 d2 → d1 - d2 + 1 ≤ K k := by
    intro k hk t1 d1 t2 d2 a b
    have := hlh k hk
    have a1 := a.2
    have b1 := b.1
    omega
  have pd : ∀ k, k < nS → PFd (pf3 (w k) 0 0 gT gX gX (mg m 5 / 200 + 3) (fun _ _ => 0)) (pf3 (w k) 0 0 gT gX gX (mg m 5 / 200 + 3) (fun _ _ => 0)) (awA lo hi k) (fun _ => K k) (fun _ => w k) (fun _ => wh k) (fun _ => wf k) 2 0 (fun _ => 5) (200 * (mg m 5 / 200 + 3 - 3)) (200 * (mg m 5 / 200 + 3) + 199) := by
    intro k hk
    have hwk := hw k
    refine PFd.two hty gX_ok gX_zer hwk.1 (Int.le_refl 0) ?_ hwk.1 hwk.2.1 hwk.2.2 ?_ (rg k hk) (fun t1 d1 t2 d2 a b _ => rg k hk t1 d1 t2 d2 a b) (fun _ _ _ => rfl)
    · show w k ≤ w k + 0
      omega
    · show w k ≤ w k
      omega
  refine BAs.trialE (AW := awA lo hi) (Ks := fun k _ => K k) (ws := fun k _ => w k) (whs := fun k _ => wh k) (wfs := fun k _ => wf k) (N := 2) (q := q) (qh := qh) (pf := fun k => pf3 (w k) 0 0 gT gX gX (mg m 5 / 200 + 3) (fun _ _ => 0)) h (fun k hk _ _ => hN k hk) (by omega) hq0 hqh pd (fun k => pf3_nn (hw k).1 (Int.le_refl 0) (Int.le_refl 0)) hlq hR hp ?_ ?_ ?_ he hof T (by omega) (by omega) hT ?_
  · intro k hk x hx t ht
    obtain ⟨g, hg, -⟩ := hG k hk
    exact ⟨hg.1.1.2.1 x hx, (hU k hk).1 x hx⟩
  · intro k hk n hn z
    obtain ⟨g, hg, -⟩ := hG k hk
    exact hg.1.1.2.2.2.1 n hn z
  · intro k hk ka tq T0 L fa hS
    have a := P3_sup2 (H := mg m 5 / 200 + 3) (w0 := w k) (w1 := 0) (B := 5) (now := mg m 5) (L := L) (tb := gX) hty gX_sup (hw k).1 (Int.le_refl 0)
    show 5 * (aNl (vwK k m).2.2 : Int) + P3 (w k) 0 0 gT gX gX (mg m 5 / 200 + 3) (fun _ _ => 0) 0 (mg m 5) L ≤ _
    have : (vU (vwK k m) : Int) = ((vwK k m).2.1.length : Int) + (aNl (vwK k m).2.2 : Int) := by
      unfold vU
      push_cast
      rfl
    omega
  · intro i hi2 k hk hz x t hx
    exact h.frs (nC := nC) hT i hi2 k hk hz x t hx
end T60A
