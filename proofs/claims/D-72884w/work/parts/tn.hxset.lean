/-! Bounds, mode H with unsent ones: kept by setters that keep the way there and back -/
section HXSET
variable {now c dl R c2 dl2 lo hi q lo2 hi2 q2 w w2 t0 Y : Int} {s s2 : SdM} {o : List Int} {l : List NtM} {Λ : Nat}
theorem HX.set (h : HX now c dl R lo hi q t0 w Λ (s, o, l) Y) (h4 : SF4 s s2) (h01 : (1 ≤ s2.1 0 ∧ s2.1 0 ≤ 200) ∧ 1 ≤ s2.1 1 ∧ s2.1 1 ≤ 8) (ho : ∀ x ∈ o, 0 ≤ x) (hl : ∀ n ∈ l, n.1 ≤ tqB) (h0 : 0 ≤ now) (hc : -1000 ≤ c2) (hd : -1000 ≤ dl2) (h1 : lo2 ≤ lo) (h2 : hi ≤ hi2) (h3 : q ≤ q2) (hR : 0 ≤ R) (hw : w ≤ w2) : HX now c2 dl2 R lo2 hi2 q2 t0 w2 Λ (s2, o, l) (Y + 61 * (R * (8 * (w2 - w)))) := by
  rcases h with ⟨g, j, th, be, hI, hY1⟩ | ⟨g, ⟨⟨⟨⟨hV, hRg⟩, hND⟩, hls⟩, hp, hlR, hg⟩, hY1⟩
  · obtain ⟨a, b⟩ := HBc.set (w := w) (w2 := w2) (c2 := c2) (dl2 := dl2) (s2 := s2) hI h4 h01 ho hl h0 hc hd h1 h2 h3 hR hw
    exact Or.inl ⟨g, j, th, be, a, by omega⟩
  · refine Or.inr ⟨g, ⟨⟨⟨⟨hV.set hg h4 h01 ho hl h0 hc hd, ?_⟩, ?_⟩, hls⟩, hp, hlR, hg⟩, ?_⟩
    · obtain ⟨r1, r2, r3, r4⟩ := hRg.same (s2 := s2) h4.1
      exact ⟨fun x hx => by have := r1 x hx; omega, fun i v hi hv => by have := r2 i v hi hv; omega, fun n hn hA => by have := r3 n hn hA; omega, Int.le_refl _⟩
    · show ND g.2.1 s2.2.1
      rw [h4.1]
      exact hND
    · unfold hUY at hY1 ⊢
      have e : 2 * (Λ : Int) + 18 + w2 * 8 + 5 * (aNl l : Int) = (2 * (Λ : Int) + 18 + w * 8 + 5 * (aNl l : Int)) + 8 * (w2 - w) := by omega
      dsimp only at hY1 ⊢
      rw [e, Int.mul_add]
      omega
end HXSET
theorem MHX.set {nS : Nat} {m m' : MS} {lo hi lo2 hi2 : Nat → Int} {q q2 w w2 t0 : Int} {Λ : Nat → Nat} {y : Nat → Int} (h : MHX nS m lo hi q w t0 Λ y) (e1 : mq m' = mq m) (e2 : mv m' = mv m) (e3 : mnt m' = mnt m) (e5 : mg m' 5 = mg m 5) (eR : mg m' 2 + mg m' 3 = mg m 2 + mg m 3) (hf : 0 ≤ mg m' 2) (hb : 0 ≤ mg m' 3) (h0 : 0 ≤ mg m 5) (ho : ∀ k, k < nS → ∀ x ∈ own k m, 0 ≤ x) (hl : ∀ k, k < nS → ∀ n ∈ (vwK k m).2.2, n.1 ≤ tqB)
    (hS : ∀ k, k < nS → SF4 (ms m k) (ms m' k) ∧ ((1 ≤ (ms m' k).1 0 ∧ (ms m' k).1 0 ≤ 200) ∧ 1 ≤ (ms m' k).1 1 ∧ (ms m' k).1 1 ≤ 8) ∧ -1000 ≤ (ms m' k).1 2 ∧ (ms m' k).1 2 ≤ 1000) (hl2 : ∀ k, k < nS → lo2 k ≤ lo k ∧ hi k ≤ hi2 k) (h3 : q ≤ q2) (hw : w ≤ w2) : MHX nS m' lo2 hi2 q2 w2 t0 Λ (fun k => y k + 61 * ((mg m 2 + mg m 3) * (8 * (w2 - w)))) := by
  intro k hk
  obtain ⟨s4, h01, o1, o2⟩ := hS k hk
  have eo : own k m' = own k m := by
    unfold own
    rw [e1, e2]
  have ev : vwK k m' = (ms m' k, own k m, (mnt m).filter (fun n => decide (n.2.1 = k))) := by
    unfold vwK
    rw [eo, e3]
  have a := HX.set (w2 := w2) (q2 := q2) (c2 := mg m' 3 - (ms m' k).1 2) (dl2 := mg m' 2 + (ms m' k).1 2) (s2 := ms m' k) (h k hk) s4 h01 (ho k hk) (hl k hk) h0 (by omega) (by omega) (hl2 k hk).1 (hl2 k hk).2 h3 (by omega) hw
  rw [ev, e5, eR]
  exact a
