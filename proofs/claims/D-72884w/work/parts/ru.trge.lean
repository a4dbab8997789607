/-! Bounds, trials: way to the server and back 100 or more: by flights alone -/
section RGE
variable {nS nC k : Nat} {m : MS} {Λ : Int}
theorem BS.fi (h : BS nS m) (T : Nat) (hT : mg m 5 + T ≤ tqB) (hk : k < nS) : FI (vwK k (tkN nS nC T m)) := by
  obtain ⟨g, hG, -⟩ := h.gs (nC := nC) T hT k hk
  exact hG.1.1.1
theorem tr_n (h : BS nS m) (hk : k < nS) {t : Nat} (ht : (t : Int) ≤ mg m 2 + mg m 3) : ∀ n : Nat, mg m 5 + n * t ≤ tqB → (∀ i, i ≤ n * t → lvS (ms (tkN nS nC i m) k) ≤ Λ) → 256 * ((ms (tkN nS nC (n * t) m) k).1 6 - (ms m k).1 6) ≤ n * Λ + 256 * fkT nS nC k (n * t) m := by
  intro n
  induction n with
  | zero =>
    intro _ _
    rw [Nat.zero_mul]
    show 256 * ((ms m k).1 6 - (ms m k).1 6) ≤ ((0 : Nat) : Int) * Λ + 256 * 0
    rw [Int.sub_self]
    simp
  | succ n ih =>
    intro hT hl
    have es : (n + 1) * t = n * t + t := Nat.succ_mul n t
    have ec : ((n + 1 : Nat) : Int) * (t : Int) = (n : Int) * t + t := by
      have := congrArg (fun x : Nat => (x : Int)) es
      simpa using this
    have en : ((n * t : Nat) : Int) = (n : Int) * t := Int.natCast_mul n t
    rw [ec] at hT
    have i1 := ih (by omega) (fun i hi => hl i (by omega))
    have g2 := tkN_g (nS := nS) (nC := nC) (m := m) (i := 2) (by decide) (by decide) (by decide) (by decide) (by decide) (by decide) (n * t)
    have g3 := tkN_g (nS := nS) (nC := nC) (m := m) (i := 3) (by decide) (by decide) (by decide) (by decide) (by decide) (by decide) (n * t)
    have gk := gen_k (nS := nS) (nC := nC) (m := tkN nS nC (n * t) m) hk h.1 (T := t) (by rw [g2, g3]; exact ht) (h.fi (n * t) (by omega) hk)
    have ea : tkN nS nC (n * t + t) m = tkN nS nC t (tkN nS nC (n * t) m) := tkN_add t
    have ef := fkT_add (nS := nS) (nC := nC) (k := k) (m := m) (a := n * t) t
    have l := hl (n * t + t) (by omega)
    rw [es, ef]
    rw [← ea] at gk
    have hv : 256 * (ms (tkN nS nC (n * t + t) m) k).1 5 ≤ lvS (ms (tkN nS nC (n * t + t) m) k) := by
      unfold lvS
      omega
    have e1 : ((n + 1 : Nat) : Int) * Λ = n * Λ + Λ := by
      push_cast
      rw [Int.add_mul, Int.one_mul]
    rw [e1]
    omega
theorem tr_ge (h : BS nS m) (hk : k < nS) (hR : 100 ≤ mg m 2 + mg m 3) (hT : mg m 5 + 501 ≤ tqB) (hf : ∀ i, i ≤ 500 → lvS (ms (tkN nS nC i m) k) ≤ Λ) : 256 * ((ms (tkN nS nC 500 m) k).1 6 - (ms m k).1 6) ≤ 5 * Λ + 256 * fkT nS nC k 500 m := by
  have := tr_n (nC := nC) h hk (t := 100) (by omega) 5 (by omega) (fun i hi => hf i hi)
  exact this
/-- a sender that is off sends nothing -/
theorem off_tick (hk : k < nS) (h4 : nS ≤ 4) (h : (ms m k).1 3 = 0) : (ms (tickM nS nC m) k).1 6 = (ms m k).1 6 ∧ (ms (tickM nS nC m) k).1 3 = 0 := by
  obtain ⟨bs, z, h1, h2, h3, h5, h6, h7⟩ := tick_vo (nC := nC) hk h4 (m := m)
  have e6 : (ms (tickM nS nC m) k).1 6 = (ms m k).1 6 + bs.length := by
    have : (vwK k (tickM nS nC m)).1.1 6 = (ms m k).1 6 + bs.length := by
      rw [h2, fin_s, snd_6]
      congr 1
      show (slowM (hndV (mg m 5 + 1) (vwK k m)).1 (mg m 5 + 1) (mg m 4)).1 6 = _
      unfold slowM
      rw [begins_o (by decide) (by decide) (by decide), ends_o (by decide) (by decide) (by decide)]
      exact hnd_6 _ _
    exact this
  refine ⟨?_, (tick_s3 (nC := nC) hk h4).trans h⟩
  cases hb : bs with
  | nil =>
    rw [e6, hb]
    simp
  | cons b bs' =>
    exfalso
    rw [hb] at h1
    have hw : wantsM (slowM (hndV (mg m 5 + 1) (vwK k m)).1 (mg m 5 + 1) (mg m 4)) := h1.1
    have e3 : (slowM (hndV (mg m 5 + 1) (vwK k m)).1 (mg m 5 + 1) (mg m 4)).1 3 = (ms m k).1 3 := by
      unfold slowM
      rw [begins_o (by decide) (by decide) (by decide), ends_o (by decide) (by decide) (by decide)]
      exact hnd_3 _ _
    exact hw.1 (e3.trans h)
theorem off_runs (hk : k < nS) (h4 : nS ≤ 4) (h : (ms m k).1 3 = 0) : ∀ T : Nat, (ms (tkN nS nC T m) k).1 6 = (ms m k).1 6 ∧ (ms (tkN nS nC T m) k).1 3 = 0 := by
  intro T
  induction T with
  | zero => exact ⟨rfl, h⟩
  | succ T ih =>
    have a := off_tick (nC := nC) hk h4 ih.2
    exact ⟨a.1.trans ih.1, a.2⟩
/-- sent numbers do not fall -/
theorem sent_mono (hk : k < nS) (h4 : nS ≤ 4) : ∀ T : Nat, (ms m k).1 6 ≤ (ms (tkN nS nC T m) k).1 6 := by
  intro T
  induction T with
  | zero => exact Int.le_refl _
  | succ T ih =>
    obtain ⟨bs, z, h1, h2, h3, h5, h6, h7⟩ := tick_vo (nC := nC) hk h4 (m := tkN nS nC T m)
    have e6 : (ms (tickM nS nC (tkN nS nC T m)) k).1 6 = (ms (tkN nS nC T m) k).1 6 + bs.length := by
      have : (vwK k (tickM nS nC (tkN nS nC T m))).1.1 6 = (ms (tkN nS nC T m) k).1 6 + bs.length := by
        rw [h2, fin_s, snd_6]
        congr 1
        show (slowM (hndV (mg (tkN nS nC T m) 5 + 1) (vwK k (tkN nS nC T m))).1 (mg (tkN nS nC T m) 5 + 1) (mg (tkN nS nC T m) 4)).1 6 = _
        unfold slowM
        rw [begins_o (by decide) (by decide) (by decide), ends_o (by decide) (by decide) (by decide)]
        exact hnd_6 _ _
      exact this
    have et : tkN nS nC (T + 1) m = tickM nS nC (tkN nS nC T m) := rfl
    rw [et, e6]
    omega
end RGE
