/-! Bounds, ledger by ages: a tick in which a sender sends leaves its E at 0; else no new loss is on its way -/
theorem sW_sent {s : SdM} : sW (sentM s) ↔ sW s := by
  unfold sW
  rw [sent_o (by decide) (by decide), sent_o (by decide) (by decide), sent_o (by decide) (by decide)]
theorem tE_sent2 {s : SdM} {Lf : Nat} (hk : sW s) (hw : wantsM s) : tE (sentM s) Lf = 0 := by
  by_cases q : 0 ≤ s.1 5
  · exact tE_sent hk hw q
  · have e5 : (sentM s).1 5 = s.1 5 + 1 := sent_5
    unfold tE
    rw [e5]
    exact eE_s (by omega)
theorem snd_E0 {now ar : Int} {k Lf : Nat} : ∀ (bs : List Bool) (v : SV), bs ≠ [] → sndOK now ar k bs v → sW v.1 → tE (sndV now ar k bs v).1 Lf = 0 := by
  intro bs
  induction bs with
  | nil => intro v h _ _; exact absurd rfl h
  | cons b bs ih =>
    intro v _ h hs
    have h1 := h.1
    have h2 := h.2
    cases bs with
    | nil => exact tE_sent2 hs h1
    | cons b2 t => exact ih _ (by simp) h2 (sW_sent.2 hs)
theorem snd_sW {now ar : Int} {k : Nat} : ∀ (bs : List Bool) (v : SV), sW (sndV now ar k bs v).1 ↔ sW v.1 := by
  intro bs
  induction bs with
  | nil => intro v; exact Iff.rfl
  | cons b bs ih =>
    intro v
    exact (ih _).trans sW_sent
theorem fin_1 {du ar : Int} {k : Nat} {z : Bool} {v : SV} : (finV du ar k z v).1 = v.1 := by
  unfold finV
  split <;> rfl
theorem tick_E0 {nS nC k : Nat} {m : MS} (hk : k < nS) (h4 : nS ≤ 4) (hs : sW (ms (tickM nS nC m) k)) : (∀ Lf, tE (ms (tickM nS nC m) k) Lf = 0) ∨ ∀ n ∈ (vwK k (tickM nS nC m)).2.2, ¬ isA n → n ∈ (vwK k m).2.2 := by
  obtain ⟨bs, z, h1, h2, h3, h5, h6, h7⟩ := tick_vo (nC := nC) hk h4 (m := m)
  have e1 := congrArg (fun v : SV => v.1) h2
  have e1 : ms (tickM nS nC m) k = _ := e1
  rw [fin_1] at e1
  cases bs with
  | nil =>
    right
    intro n hn ha
    rw [h2] at hn
    unfold finV at hn
    split at hn
    · have hn : n ∈ (hndV (mg m 5 + 1) (vwK k m)).2.2 ++ _ := hn
      rcases List.mem_append.1 hn with x | x
      · exact (List.mem_filter.1 x).1
      · have en := List.mem_singleton.1 x
        exact absurd (by rw [en]) ha
    · have hn : n ∈ (hndV (mg m 5 + 1) (vwK k m)).2.2 := hn
      exact (List.mem_filter.1 hn).1
  | cons b bs =>
    left
    intro Lf
    rw [e1] at hs ⊢
    exact snd_E0 (b :: bs) _ (by simp) h1 ((snd_sW _ _).1 hs)
/-- over ticks -/
theorem run_E0 {nS nC k : Nat} {m : MS} (hk : k < nS) (h4 : nS ≤ 4) : ∀ T : Nat, (∀ i, i < T → sW (ms (tkN nS nC (i + 1) m) k)) → (∃ i, i < T ∧ ∀ Lf, tE (ms (tkN nS nC (i + 1) m) k) Lf = 0) ∨ ∀ n ∈ (vwK k (tkN nS nC T m)).2.2, ¬ isA n → n ∈ (vwK k m).2.2 := by
  intro T
  induction T with
  | zero => intro _; exact Or.inr (fun n hn _ => hn)
  | succ T ih =>
    intro hs
    rcases ih (fun i hi => hs i (by omega)) with ⟨i, hi, he⟩ | h
    · exact Or.inl ⟨i, by omega, he⟩
    · rcases tick_E0 (nC := nC) (m := tkN nS nC T m) hk h4 (hs T (by omega)) with y | y
      · exact Or.inl ⟨T, by omega, y⟩
      · exact Or.inr (fun n hn ha => h n (y n hn ha) ha)
