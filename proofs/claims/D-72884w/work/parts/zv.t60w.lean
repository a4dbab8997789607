/-! Bounds, trials with R <= 60: the senders that count; offsets unchanged, service 1 or 2: waits of before are wide -/
section TRE
variable {nS nC : Nat} {m : MS} {lo hi e : Nat → Int} {AW : Nat → Int → Int → Prop} {Ks ws whs wfs : Nat → Nat → Int} {N : Nat} {pf : Nat → PFt}
theorem sntE_all (h4 : nS ≤ 4) (he : ∀ k, k < nS → e k = 0 ∨ e k = 1) (ho : ∀ k, k < nS → e k = 0 → (ms m k).1 3 = 0) (T : Nat) : sntE e nS (tkN nS nC T m) - sntE e nS m = sntM nS (tkN nS nC T m) - sntM nS m := by
  have a : sumN (fun k => e k * (ms (tkN nS nC T m) k).1 6 + (ms m k).1 6) nS = sumN (fun k => (ms (tkN nS nC T m) k).1 6 + e k * (ms m k).1 6) nS := by
    refine sumN_congr nS (fun k hk => ?_)
    rcases he k hk with q | q
    · have := (off_runs (nC := nC) hk h4 (ho k hk q) T).1
      rw [q, this]
      omega
    · rw [q]
      omega
  rw [sumN_add, sumN_add] at a
  unfold sntE sntM
  omega
theorem BAs.trialE {q qh ts tz : Int} {p : Nat → Nat} {pB : Nat → Int} (h : BAs nS m lo hi) (hN : ∀ k, k < nS → ∀ i, i < N → NQ (Ks k i) q qh (ws k i) (whs k i) (wfs k i)) (hN0 : 0 < N) (hq0 : 0 ≤ q) (hqh : q ≤ 2 * qh) (hpf : ∀ k, k < nS → PFd (pf k) (pf k) (AW k) (Ks k) (ws k) (whs k) (wfs k) N 0 (fun _ => 5) ts tz) (h0p : ∀ k c now L z a, 0 ≤ pf k c now L z a) (hq : ∀ k, k < nS → hi k - lo k ≤ q) (hR : mg m 2 + mg m 3 ≤ 60) (hp : ∀ k, k < nS → lvl (ms m k) ≤ p k) (hAL : ∀ k, k < nS → ∀ x ∈ (ms m k).2.2, ∀ t, t ≤ mg m 5 → AW k t x) (hAl : ∀ k, k < nS → ∀ n ∈ (vwK k m).2.2, isA n → AW k n.1 n.2.2.2) (hb : ∀ k, k < nS → ∀ (ka tq T0 : Int) (L : List EnF) (fa : Int → Int), SF (mg m 5) ka tq T0 L fa (ms m k).2.1 (ms m k).2.2 → pf k 0 (mg m 5) L (lvS (ms m k)) (aNl (vwK k m).2.2) ≤ pB k + (vU (vwK k m) : Int)) (he : ∀ k, k < nS → e k = 0 ∨ e k = 1) (hof : ∀ k, k < nS → e k = 0 → (ms m k).1 3 = 0) (T : Nat) (hts : ts ≤ mg m 5) (htz : mg m 5 + T ≤ tz) (hT : mg m 5 + T ≤ tqB) (hA : ∀ i, i < T → frAW AW nS nC (tkN nS nC i m)) :
    61 * (mg m 1 * ((mg m 2 + mg m 3) * (sntM nS (tkN nS nC T m) - sntM nS m))) ≤ mg m 1 * smE e (fun k => 61 * ((mg m 2 + mg m 3) * (2 * (p k : Int) + 31 + pB k)) + 61 * ((mg m 2 + mg m 3) - 1) + 60 * (mg m 2 + mg m 3)) nS + 305 * ((mg m 2 + mg m 3) * (T + 38)) + mg m 1 * (sumN e nS * (T * (61 + (mg m 2 + mg m 3)))) := by
  have h1 := h.2.2.2.2.1
  have h2 := h.2.2.2.2.2.1
  have h3 := h.2.2.2.2.2.2.1
  have h0 := h.2.2.2.2.2.2.2.2.2.2.2.2.2
  have hR1 : 1 ≤ mg m 2 + mg m 3 := by omega
  have st := MHd.start (q := fun _ => q) (pg := pf) (pB := pB) h.2.2.2.2.2.2.2.1 hAL hAl hb hR1 hp
  have fr := h.frs (nC := nC) hT
  obtain ⟨y2, b, c⟩ := st.runE (nC := nC) he hN hN0 hqh hpf hq h.1 hts (by omega) hR hR1 (fun _ => by omega) T hT htz (fun i _ _ => ⟨hq0, Int.le_refl _, fun _ _ => Int.le_refl _, fun _ _ _ => Int.le_refl _⟩) (fun i hi => ⟨fr i hi, hA i hi⟩)
  have g2 := tkN_g (nS := nS) (nC := nC) (m := m) (i := 2) (by decide) (by decide) (by decide) (by decide) (by decide) (by decide) T
  have g3 := tkN_g (nS := nS) (nC := nC) (m := m) (i := 3) (by decide) (by decide) (by decide) (by decide) (by decide) (by decide) T
  have g5 := tkN_5 (nS := nS) (nC := nC) (m := m) T
  have p0 := h.ph
  have pT := (h.run (nC := nC) T hT).ph
  rw [g5] at pT
  have nn := b.nn h0p (by rw [g2, g3]; omega)
  have y0 : 0 ≤ smE e y2 nS := sumN_nn nS (fun k hk => by
    have := nn k hk
    rcases he k hk with q | q
    · rw [q]; omega
    · rw [q]; omega)
  rw [omT_5, sntE_all h.1 he hof] at c
  have hfs := fnT_s (nS := nS) (nC := nC) (m := m) h1.1 T
  have c2 : (mg m 2 + mg m 3) * (mg m 1 * fnT nS nC T m) ≤ (mg m 2 + mg m 3) * (T + 38) := Int.mul_le_mul_of_nonneg_left (by omega) (by omega)
  rw [Int.zero_mul, Int.mul_zero, Int.mul_zero, Int.add_zero] at c
  generalize smE e (fun k => 61 * ((mg m 2 + mg m 3) * (2 * (p k : Int) + 31 + pB k)) + 61 * ((mg m 2 + mg m 3) - 1) + 60 * (mg m 2 + mg m 3)) nS = Y1 at *
  generalize smE e y2 nS = Y2 at *
  generalize sntM nS (tkN nS nC T m) - sntM nS m = S at *
  generalize fnT nS nC T m = F at *
  have cs := Int.mul_le_mul_of_nonneg_left c (show 0 ≤ mg m 1 by omega)
  rw [Int.mul_add, Int.mul_add, Int.mul_add] at cs
  have k1 : mg m 1 * (61 * ((mg m 2 + mg m 3) * S)) = 61 * (mg m 1 * ((mg m 2 + mg m 3) * S)) := Int.mul_left_comm _ _ _
  have k2 : mg m 1 * (61 * ((mg m 2 + mg m 3) * (5 * F))) = 305 * ((mg m 2 + mg m 3) * (mg m 1 * F)) := by
    rw [Int.mul_left_comm (mg m 1) 61, Int.mul_left_comm (mg m 1) (mg m 2 + mg m 3), Int.mul_left_comm (mg m 1) 5, Int.mul_left_comm (mg m 2 + mg m 3) 5]
    omega
  have k3 : 0 ≤ mg m 1 * Y2 := Int.mul_nonneg (by omega) y0
  rw [k1, k2] at cs
  omega
end TRE
section T60W
variable {nS nC : Nat} {m : MS} {lo hi e : Nat → Int}
/-- what may come in: wide delays up to 200 ticks from now, then small ones -/
def awW (m : MS) (lo hi : Nat → Int) (k : Nat) (t d : Int) : Prop := (lo k ≤ d ∧ d ≤ hi k) ∧ (t ≤ mg m 5 + 200 ∨ d ≤ (ms m k).1 2 + mg m 2 + (60 * mg m 1 + 19))
def tyW (t0 t d : Int) : Nat := if t ≤ t0 + 200 then 1 else 0
theorem BAs.t60w {p : Nat → Nat} {w0 w1 K1 wh1 wf1 : Int} (h : BAs nS m lo hi) (hlh : ∀ k, k < nS → hi k - lo k ≤ 1320) (hU : ∀ k, k < nS → UL (hi k) (ms m k) (vwK k m).2.2) (hR : mg m 2 + mg m 3 ≤ 60) (hs2 : mg m 1 ≤ 2) (hK1 : 79 + 60 * mg m 1 ≤ K1) (hN1 : NQ K1 1320 660 w0 wh1 wf1) (hw0 : 0 ≤ w0) (hw1 : 0 ≤ w1) (hw : 216 ≤ w0 + w1) (hp : ∀ k, k < nS → lvl (ms m k) ≤ p k) (he : ∀ k, k < nS → e k = 0 ∨ e k = 1) (hof : ∀ k, k < nS → e k = 0 → (ms m k).1 3 = 0) (T : Nat) (hT5 : T ≤ 500) (hT : mg m 5 + T ≤ tqB) :
    61 * (mg m 1 * ((mg m 2 + mg m 3) * (sntM nS (tkN nS nC T m) - sntM nS m))) ≤ mg m 1 * smE e (fun k => 61 * ((mg m 2 + mg m 3) * (2 * (p k : Int) + 31 + (4 * (aNl (vwK k m).2.2 : Int) + (9 * w0 + (5 : Nat) * w1)))) + 61 * ((mg m 2 + mg m 3) - 1) + 60 * (mg m 2 + mg m 3)) nS + 305 * ((mg m 2 + mg m 3) * (T + 38)) + mg m 1 * (sumN e nS * (T * (61 + (mg m 2 + mg m 3)))) := by
  have h4 := h.1
  have hWQ := h.2.1
  have hQL := h.2.2.1
  have hc := h.2.2.2.1
  have h1 := h.2.2.2.2.1
  have h2 := h.2.2.2.2.2.1
  have h3 := h.2.2.2.2.2.2.1
  have hG := h.2.2.2.2.2.2.2.1
  have hn2 := h.2.2.2.2.2.2.2.2.1
  have hlo := h.2.2.2.2.2.2.2.2.2.1
  have h0 := h.2.2.2.2.2.2.2.2.2.2.2.2.2
  have hty : ∀ t d, tyW (mg m 5) t d < 2 := by
    intro t d
    unfold tyW
    split <;> omega
  have rg : ∀ k, k < nS → ∀ t1 d1 t2 d2, awW m lo hi k t1 d1 → awW m lo hi k t2 d2 → d1 - d2 + 1 ≤ 1321 := by
    intro k hk t1 d1 t2 d2 a b
    have := hlh k hk
    have a := a.1
    have b := b.1
    omega
  have rg1 : ∀ k, k < nS → ∀ t1 d1 t2 d2, awW m lo hi k t1 d1 → awW m lo hi k t2 d2 → prWd (tyW (mg m 5) t1 d1) (tyW (mg m 5) t2 d2) = false → d1 - d2 + 1 ≤ K1 := by
    intro k hk t1 d1 t2 d2 a b q
    have hl := hlh k hk
    have hk2 := hlo k hk
    have b := b.1
    have q2 : tyW (mg m 5) t1 d1 ≠ 1 := by
      unfold prWd at q
      exact of_decide_eq_false q
    have q3 : ¬ t1 ≤ mg m 5 + 200 := by
      intro z
      apply q2
      unfold tyW
      rw [if_pos z]
    have a2 := a.2
    omega
  have al : ∀ k now d, awW m lo hi k now d → alw2 (hgL (mg m 5 / 200 + 3) now) (tyW (mg m 5) now d) = true := by
    intro k now d _
    unfold alw2 tyW
    split
    · have : 2 ≤ hgL (mg m 5 / 200 + 3) now := by
        unfold hgL
        omega
      simp [this]
    · simp
  have pd : ∀ k, k < nS → PFd (pf3 w0 w1 0 gT gX gX (mg m 5 / 200 + 3) (tyW (mg m 5))) (pf3 w0 w1 0 gT gX gX (mg m 5 / 200 + 3) (tyW (mg m 5))) (awW m lo hi k) (fun i => if i = 0 then 1321 else K1) (fun i => if i = 0 then 216 else w0) (fun i => if i = 0 then 319 else wh1) (fun i => if i = 0 then 424 else wf1) 2 0 (fun _ => 5) (200 * (mg m 5 / 200 + 3 - 3)) (200 * (mg m 5 / 200 + 3) + 199) := by
    intro k hk
    refine PFd.two hty gX_ok gX_zer hw0 hw1 ?_ ?_ ?_ ?_ ?_ (rg k hk) (rg1 k hk) (al k)
    · show (216 : Int) ≤ w0 + w1
      omega
    · show (0 : Int) ≤ 216
      omega
    · show (100 : Int) * 319 ≤ 148 * 216
      omega
    · show (100 : Int) * 424 ≤ 203 * 216
      omega
    · show w0 ≤ w0
      omega
  refine BAs.trialE (AW := awW m lo hi) (Ks := fun _ i => if i = 0 then 1321 else K1) (ws := fun _ i => if i = 0 then 216 else w0) (whs := fun _ i => if i = 0 then 319 else wh1) (wfs := fun _ i => if i = 0 then 424 else wf1) (N := 2) (q := 1320) (qh := 660) (pf := fun _ => pf3 w0 w1 0 gT gX gX (mg m 5 / 200 + 3) (tyW (mg m 5))) h ?_ (by omega) (by omega) (by omega) pd (fun k => pf3_nn hw0 hw1 (Int.le_refl 0)) (fun k hk => by have := hlh k hk; omega) hR hp ?_ ?_ ?_ he hof T (by omega) (by omega) hT ?_
  · intro k hk i hi2
    by_cases q : i = 0
    · subst q
      exact nq_1320_1321
    · show NQ (if i = 0 then 1321 else K1) 1320 660 (if i = 0 then 216 else w0) (if i = 0 then 319 else wh1) (if i = 0 then 424 else wf1)
      rw [if_neg q, if_neg q, if_neg q, if_neg q]
      exact hN1
  · intro k hk x hx t ht
    obtain ⟨g, hg, -⟩ := hG k hk
    exact ⟨⟨hg.1.1.2.1 x hx, (hU k hk).1 x hx⟩, Or.inl (by omega)⟩
  · intro k hk n hn z
    obtain ⟨g, hg, -⟩ := hG k hk
    have := hn2 k hk n hn
    exact ⟨hg.1.1.2.2.2.1 n hn z, Or.inl this⟩
  · intro k hk ka tq T0 L fa hS
    have a := P3_sup2 (H := mg m 5 / 200 + 3) (w0 := w0) (w1 := w1) (B := 5) (now := mg m 5) (L := L) (tb := gX) hty gX_sup hw0 hw1
    show 5 * (aNl (vwK k m).2.2 : Int) + P3 w0 w1 0 gT gX gX (mg m 5 / 200 + 3) (tyW (mg m 5)) 0 (mg m 5) L ≤ _
    have : (vU (vwK k m) : Int) = ((vwK k m).2.1.length : Int) + (aNl (vwK k m).2.2 : Int) := by
      unfold vU
      push_cast
      rfl
    omega
  · intro i hi2 k hk hz x t hx
    have fr := h.frs (nC := nC) hT i hi2 k hk hz x t hx
    have g0 := tkN_g (nS := nS) (nC := nC) (m := m) (i := 0) (by decide) (by decide) (by decide) (by decide) (by decide) (by decide) i
    have g1 := tkN_g (nS := nS) (nC := nC) (m := m) (i := 1) (by decide) (by decide) (by decide) (by decide) (by decide) (by decide) i
    have g2 := tkN_g (nS := nS) (nC := nC) (m := m) (i := 2) (by decide) (by decide) (by decide) (by decide) (by decide) (by decide) i
    have g3 := tkN_g (nS := nS) (nC := nC) (m := m) (i := 3) (by decide) (by decide) (by decide) (by decide) (by decide) (by decide) i
    have g5 := tkN_5 (nS := nS) (nC := nC) (m := m) i
    refine ⟨fr, ?_⟩
    by_cases q : mg (tkN nS nC i m) 5 + 1 + mg (tkN nS nC i m) 2 + mg (tkN nS nC i m) 3 ≤ mg m 5 + 200
    · exact Or.inl q
    · right
      have hx2 := h.run (nC := nC) i (by omega)
      have wd := (WD.start (bb := 60 * mg m 1 + 19) hWQ hQL (by omega) (by omega)).run (nS := nS) (nC := nC) hc h1 (by omega) i
      have tf := tame_fr (nC := nC) h4 wd (by rw [g0]; exact hc) (by rw [g1]; exact h1) (by rw [g1]; omega) (fun k hk => (hx2.2.2.2.2.2.2.2.1.gs).own k hk) (by rw [g2]; omega) (by rw [g2, g3] at q; omega) k hk hz x t hx
      have e2 := off_run (nC := nC) h4 i k hk (m := m)
      have := tf.2
      dsimp only at this
      rw [e2] at this ⊢
      rw [g2] at this ⊢
      exact this
end T60W
