/-! Bounds, mode H: kept by setters that keep the way there and back; wider ranges; a dearer permission -/
section HBS
variable {now c dl R c2 dl2 lo hi q lo2 hi2 q2 w w2 th be : Int} {s s2 : SdM} {o : List Int} {l : List NtM} {g : Gh} {j : GJh}
theorem HB.set (h : HB now c dl R lo hi q s o l g j) (hG : GR g) (h4 : SF4 s s2) (h01 : (1 ≤ s2.1 0 ∧ s2.1 0 ≤ 200) ∧ 1 ≤ s2.1 1 ∧ s2.1 1 ≤ 8) (ho : ∀ x ∈ o, 0 ≤ x) (hl : ∀ n ∈ l, n.1 ≤ tqB) (h0 : 0 ≤ now) (hc : -1000 ≤ c2) (hd : -1000 ≤ dl2) (h1 : lo2 ≤ lo) (h2 : hi ≤ hi2) (h3 : q ≤ q2) : HB now c2 dl2 R lo2 hi2 q2 s2 o l g j := by
  obtain ⟨⟨hV, hR⟩, hJ, hSL, hND, hcc⟩ := h
  have e11 := h4.2 11 (by omega)
  have et : tE s2 (vF (s2, o, l)) = tE s (vF (s, o, l)) := by
    unfold tE
    rw [vF_set h4, mW_set h4, h4.2 5 (by omega)]
  refine ⟨⟨hV.set hG h4 h01 ho hl h0 hc hd, ?_⟩, ?_, ?_, by rw [h4.1]; exact hND, by rw [e11, h4.1]; exact hcc⟩
  · obtain ⟨r1, r2, r3, r4⟩ := hR.same (s2 := s2) h4.1
    exact ⟨fun x hx => by have := r1 x hx; omega, fun i v hi hv => by have := r2 i v hi hv; omega, fun n hn hA => by have := r3 n hn hA; omega, Int.le_refl _⟩
  · intro hs
    have hs : s2.1 11 = -1 := hs
    rw [e11] at hs
    rcases hJ hs with ⟨a1, a2⟩ | ⟨a1, a2, a3⟩
    · refine Or.inl ⟨a1, ?_⟩
      rcases a2 with z | z
      · exact Or.inl z
      · right
        show tE s2 (vF (s2, o, l)) = 0
        rw [et]
        exact z
    · refine Or.inr ⟨a1, a2, ?_⟩
      rcases a3 with z | z
      · exact Or.inl z
      · right
        show tE s2 (vF (s2, o, l)) ≤ j.1 * (4194304 * q2)
        rw [et]
        have z : tE s (vF (s, o, l)) ≤ j.1 * (4194304 * q) := z
        have m : (j.1 : Int) * (4194304 * q) ≤ j.1 * (4194304 * q2) := Int.mul_le_mul_of_nonneg_left (by omega) (by omega)
        omega
  · intro hs
    have hs : s2.1 11 ≠ -1 := hs
    rw [e11] at hs
    show s2.1 5 ≤ 2 ∨ lsB l (s2.1 11)
    rw [h4.2 5 (by omega), e11]
    exact hSL hs
theorem PV_set (h4 : SF4 s s2) : PV (s2, o, l) = PV (s, o, l) := by
  unfold PV
  rw [vF_set h4]
  show PS s2 (vU (s, o, l)) _ = PS s (vU (s, o, l)) _
  unfold PS
  rw [h4.2 11 (by omega), h4.2 4 (by omega), h4.2 5 (by omega), h4.2 12 (by omega)]
theorem HBc.set (h : HBc now c dl R lo hi q (s, o, l) g j th be) (h4 : SF4 s s2) (h01 : (1 ≤ s2.1 0 ∧ s2.1 0 ≤ 200) ∧ 1 ≤ s2.1 1 ∧ s2.1 1 ≤ 8) (ho : ∀ x ∈ o, 0 ≤ x) (hl : ∀ n ∈ l, n.1 ≤ tqB) (h0 : 0 ≤ now) (hc : -1000 ≤ c2) (hd : -1000 ≤ dl2) (h1 : lo2 ≤ lo) (h2 : hi ≤ hi2) (h3 : q ≤ q2) (hR : 0 ≤ R) (hw : w ≤ w2) : HBc now c2 dl2 R lo2 hi2 q2 (s2, o, l) g j th be ∧ hY w2 now R (s2, o, l) g th be ≤ hY w now R (s, o, l) g th be + 61 * (R * (8 * (w2 - w))) := by
  obtain ⟨⟨hI, hp, hls, hg⟩, hT, hth, hB⟩ := h
  have hV := hI.1.1
  refine ⟨⟨⟨hI.set hg h4 h01 ho hl h0 hc hd h1 h2 h3, hp, hls, hg⟩, ?_, hth, ?_⟩, ?_⟩
  · intro n hn hA hx
    have hx : s2.1 9 ≤ n.2.2.2 := hx
    rw [h4.2 9 (by omega)] at hx
    exact hT n hn hA hx
  · exact hB.same (h4.2 11 (by omega)) (h4.2 10 (by omega))
  · have nu := nuB_le hV.2.2.1
    have a1 : hPHv w2 now (s2, o, l) g = (PV (s2, o, l) : Int) + w2 * (nuB now g.2.1 : Int) + 5 * (aNl l : Int) := rfl
    have a2 : hPHv w now (s, o, l) g = (PV (s, o, l) : Int) + w * (nuB now g.2.1 : Int) + 5 * (aNl l : Int) := rfl
    have a3 : (nuB now g.2.1 : Int) * (w2 - w) ≤ 8 * (w2 - w) := Int.mul_le_mul_of_nonneg_right (by omega) (by omega)
    rw [Int.mul_sub, Int.mul_comm _ w2, Int.mul_comm _ w] at a3
    rw [PV_set h4] at a1
    have d : hPHv w2 now (s2, o, l) g ≤ hPHv w now (s, o, l) g + 8 * (w2 - w) := by omega
    have e := Int.mul_le_mul_of_nonneg_left d hR
    rw [Int.mul_add] at e
    unfold hY
    omega
end HBS
/-- a setter that keeps the way there and back -/
theorem MHn.set {nS : Nat} {m m' : MS} {lo hi lo2 hi2 : Nat → Int} {q q2 w w2 : Int} {y : Nat → Int} (h : MHn nS m lo hi q w y) (e1 : mq m' = mq m) (e2 : mv m' = mv m) (e3 : mnt m' = mnt m) (e5 : mg m' 5 = mg m 5) (eR : mg m' 2 + mg m' 3 = mg m 2 + mg m 3) (hf : 0 ≤ mg m' 2) (hb : 0 ≤ mg m' 3) (h0 : 0 ≤ mg m 5) (ho : ∀ k, k < nS → ∀ x ∈ own k m, 0 ≤ x) (hl : ∀ k, k < nS → ∀ n ∈ (vwK k m).2.2, n.1 ≤ tqB)
    (hS : ∀ k, k < nS → SF4 (ms m k) (ms m' k) ∧ ((1 ≤ (ms m' k).1 0 ∧ (ms m' k).1 0 ≤ 200) ∧ 1 ≤ (ms m' k).1 1 ∧ (ms m' k).1 1 ≤ 8) ∧ -1000 ≤ (ms m' k).1 2 ∧ (ms m' k).1 2 ≤ 1000) (hl2 : ∀ k, k < nS → lo2 k ≤ lo k ∧ hi k ≤ hi2 k) (h3 : q ≤ q2) (hw : w ≤ w2) : MHn nS m' lo2 hi2 q2 w2 (fun k => y k + 61 * ((mg m 2 + mg m 3) * (8 * (w2 - w)))) := by
  intro k hk
  obtain ⟨g, j, th, be, hI, hYk⟩ := h k hk
  obtain ⟨s4, h01, o1, o2⟩ := hS k hk
  have eo : own k m' = own k m := by
    unfold own
    rw [e1, e2]
  have ev : vwK k m' = (ms m' k, own k m, (mnt m).filter (fun n => decide (n.2.1 = k))) := by
    unfold vwK
    rw [eo, e3]
  obtain ⟨r1, r2⟩ := HBc.set (w := w) (w2 := w2) (c2 := mg m' 3 - (ms m' k).1 2) (dl2 := mg m' 2 + (ms m' k).1 2) (s2 := ms m' k) hI s4 h01 (ho k hk) (hl k hk) h0 (by omega) (by omega) (hl2 k hk).1 (hl2 k hk).2 h3 (by have := hI.1.1.1.1.2.1; omega) hw
  refine ⟨g, j, th, be, ?_, ?_⟩
  · rw [ev, e5, eR]
    exact r1
  · rw [ev, e5, eR]
    have hYk : hY w (mg m 5) (mg m 2 + mg m 3) (ms m k, own k m, (mnt m).filter (fun n => decide (n.2.1 = k))) g th be ≤ y k := hYk
    dsimp only
    omega
