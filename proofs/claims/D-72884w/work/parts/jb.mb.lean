/-! Bounds: all senders of M in regime B over a tick -/
theorem snd_6 {now ar : Int} {k : Nat} : ∀ (bs : List Bool) (v : SV), (sndV now ar k bs v).1.1 6 = v.1.1 6 + bs.length := by
  intro bs
  induction bs with
  | nil => intro v; show v.1.1 6 = v.1.1 6 + ((0 : Nat) : Int); omega
  | cons b bs ih =>
    intro v
    have h := ih (snd1 now ar k b v)
    have e : (sentM v.1).1 6 = v.1.1 6 + 1 := sent_6
    show (sndV now ar k bs (snd1 now ar k b v)).1.1 6 = v.1.1 6 + ((bs.length + 1 : Nat) : Int)
    rw [h]
    show (sentM v.1).1 6 + _ = _
    rw [e]
    omega
theorem hnd_6 {now : Int} : ∀ (t : List NtM) (s : SdM), (t.foldl (hndS now) s).1 6 = s.1 6 := by
  intro t
  induction t with
  | nil => intro s; rfl
  | cons n t ih =>
    intro s
    rw [List.foldl_cons, ih]
    unfold hndS
    by_cases e : n.1 = now
    · rw [if_pos e]
      unfold reachM
      by_cases z : n.2.2.1 = 0
      · rw [if_pos z]
        exact ack_o (by decide) (by decide) (by decide)
      · rw [if_neg z]
        exact lost_6
    · rw [if_neg e]
theorem tick_g {nS nC : Nat} {m : MS} {i : Nat} (h5 : i ≠ 5) (h14 : i ≠ 14) (h15 : i ≠ 15) (h16 : i ≠ 16) (h17 : i ≠ 17) (h18 : i ≠ 18) : mg (tickM nS nC m) i = mg m i := by
  have e0 : mg (tickM nS nC m) i = mg (finiM (beginM (midM nS nC m))) i := by
    show iup (iup (iup _ 15 _) 16 _) 17 _ i = _
    unfold iup
    rw [if_neg h17, if_neg h16, if_neg h15]
  rw [e0, fini_keep.2.2 i h18, begin_keep.2.2 i h14, mid_g]
  show iup (mg m) 5 _ i = _
  unfold iup
  rw [if_neg h5]
theorem tick_g5 {nS nC : Nat} {m : MS} : mg (tickM nS nC m) 5 = mg m 5 + 1 := by
  have e0 : mg (tickM nS nC m) 5 = mg (finiM (beginM (midM nS nC m))) 5 := rfl
  rw [e0, fini_keep.2.2 5 (by decide), begin_keep.2.2 5 (by decide), mid_g]
  rfl
/-- all senders, y k bounds the potential of the k-th -/
def MB (nS : Nat) (m : MS) (tq T0 : Int) (y : Nat → Int) : Prop := ∀ k, k < nS → ∃ g j th be, IBc (mg m 5) (mg m 3 - (ms m k).1 2) (mg m 2 + (ms m k).1 2) tq T0 (mg m 2 + mg m 3) (vwK k m) g j th be ∧ YB (mg m 5) (mg m 2 + mg m 3) (vwK k m) g j th be ≤ y k
def yTk (nS nC : Nat) (m : MS) (y : Nat → Int) : Nat → Int := fun k => y k + 61 * ((mg m 2 + mg m 3) * (25 * (if fnB k (beginM (midM nS nC m)) = true then 1 else 0) + 2 + 400 * ((mg m 5 + 1) / 200 - mg m 5 / 200))) + 305 + 5 * (mg m 2 + mg m 3) - 305 * ((mg m 2 + mg m 3) * ((ms (tickM nS nC m) k).1 6 - (ms m k).1 6))
theorem MB.tick {nS nC : Nat} {m : MS} {tq T0 : Int} {y : Nat → Int} (h4 : nS ≤ 4) (h : MB nS m tq T0 y) (hq : tq < mg m 5 + 1) (h0 : 0 ≤ mg m 5 + 1) (hR : mg m 2 + mg m 3 ≤ 60) (hR1 : 1 ≤ mg m 2 + mg m 3) : MB nS (tickM nS nC m) tq T0 (yTk nS nC m y) := by
  intro k hk
  obtain ⟨g, j, th, be, hI, hY⟩ := h k hk
  obtain ⟨bs, z, h1, h2, h3, h5, h6⟩ := tick_v (nC := nC) hk h4 (m := m)
  obtain ⟨g2, j2, th2, be2, hI2, hY2⟩ := IBc.tick (iv := mg m 4) hI hq h0 hR hR1 rfl rfl rfl h1 h6
  rw [← h2] at hI2 hY2
  have e2 : (ms (tickM nS nC m) k).1 2 = (ms m k).1 2 := by
    have : (vwK k (tickM nS nC m)).1.1 2 = (ms m k).1 2 := by
      rw [h2, fin_s, snd_2]
      show (slowM (hndV (mg m 5 + 1) (vwK k m)).1 (mg m 5 + 1) (mg m 4)).1 2 = _
      unfold slowM
      rw [begins_o (by decide) (by decide) (by decide), ends_o (by decide) (by decide) (by decide)]
      exact hnd_2 _ _
    exact this
  have e6 : (ms (tickM nS nC m) k).1 6 = (ms m k).1 6 + bs.length := by
    have : (vwK k (tickM nS nC m)).1.1 6 = (ms m k).1 6 + bs.length := by
      rw [h2, fin_s, snd_6]
      show (slowM (hndV (mg m 5 + 1) (vwK k m)).1 (mg m 5 + 1) (mg m 4)).1 6 + _ = _
      unfold slowM
      rw [begins_o (by decide) (by decide) (by decide), ends_o (by decide) (by decide) (by decide)]
      have : (hndV (mg m 5 + 1) (vwK k m)).1.1 6 = (ms m k).1 6 := hnd_6 _ _
      rw [this]
    exact this
  refine ⟨g2, j2, th2, be2, ?_, ?_⟩
  · rw [tick_g5, tick_g (by decide) (by decide) (by decide) (by decide) (by decide) (by decide), tick_g (by decide) (by decide) (by decide) (by decide) (by decide) (by decide), e2]
    exact hI2
  · rw [tick_g5, tick_g (by decide) (by decide) (by decide) (by decide) (by decide) (by decide), tick_g (by decide) (by decide) (by decide) (by decide) (by decide) (by decide)]
    unfold yTk
    rw [e6, ← h5]
    have e7 : (ms m k).1 6 + (bs.length : Int) - (ms m k).1 6 = bs.length := by omega
    have hvk : (vwK k m).1.1 2 = (ms m k).1 2 := rfl
    rw [e7]
    omega
