/-! Bounds: a tick of a sender in regime B with its halvings and slow-downs counted -/
def IBc (now c dl tq T0 R : Int) (v : SV) (g : Gh) (j : GJ) (th be : Int) : Prop := IBb now c dl tq T0 R v g j ∧ HT R th v.1 v.2.2 ∧ th ≤ now ∧ BG now be v.1
/-- 61 R times the potential, and what halvings and slow-downs still may cost -/
def YB (now R : Int) (v : SV) (g : Gh) (j : GJ) (th be : Int) : Int := 61 * (R * PHv now v g j) + 305 * (now - th) + 5 * (R * (now - be))
theorem BG.same {now be : Int} {s s2 : SdM} (h : BG now be s) (e1 : s2.1 11 = s.1 11) (e2 : s2.1 10 = s.1 10) : BG now be s2 := by
  unfold BG
  rw [e1, e2]
  exact h
theorem snd_o {now ar : Int} {k i : Nat} (h5 : i ≠ 5) (h6 : i ≠ 6) : ∀ (bs : List Bool) (v : SV), (sndV now ar k bs v).1.1 i = v.1.1 i := by
  intro bs
  induction bs with
  | nil => intro v; rfl
  | cons b bs ih =>
    intro v
    show (sndV now ar k bs (snd1 now ar k b v)).1.1 i = _
    rw [ih]
    exact sent_o h5 h6
theorem fin_s {du ar : Int} {k : Nat} {z : Bool} {v : SV} : (finV du ar k z v).1 = v.1 := by
  cases z with
  | false => rfl
  | true =>
    cases hv : v.2.1 with
    | nil =>
      unfold finV
      rw [hv]
    | cons x t =>
      rw [fin_t hv]
theorem IBc.tick {now c dl tq T0 R fw bk iv : Int} {v : SV} {g : Gh} {j : GJ} {th be : Int} {k : Nat} {bs : List Bool} {z : Bool} (h : IBc now c dl tq T0 R v g j th be) (hq : tq < now + 1) (h0 : 0 ≤ now + 1) (hR : R ≤ 60) (hR1 : 1 ≤ R) (hc : c = bk - v.1.1 2) (hd : dl = fw + v.1.1 2) (hRR : R = fw + bk)
    (hs : sndOK (now + 1) (now + 1 + fw + bk) k bs (slowM (hndV (now + 1) v).1 (now + 1) iv, (hndV (now + 1) v).2)) (hz : z = true → (sndV (now + 1) (now + 1 + fw + bk) k bs (slowM (hndV (now + 1) v).1 (now + 1) iv, (hndV (now + 1) v).2)).2.1 ≠ []) :
    ∃ g2 j2 th2 be2, IBc (now + 1) c dl tq T0 R (finV (now + 1 + fw) (now + 1 + fw + bk) k z (sndV (now + 1) (now + 1 + fw + bk) k bs (slowM (hndV (now + 1) v).1 (now + 1) iv, (hndV (now + 1) v).2))) g2 j2 th2 be2 ∧ YB (now + 1) R (finV (now + 1 + fw) (now + 1 + fw + bk) k z (sndV (now + 1) (now + 1 + fw + bk) k bs (slowM (hndV (now + 1) v).1 (now + 1) iv, (hndV (now + 1) v).2))) g2 j2 th2 be2 + 305 * (R * (bs.length : Int)) ≤ YB now R v g j th be + 61 * (R * (25 * (if z = true then 1 else 0) + 2 + 400 * ((now + 1) / 200 - now / 200))) + 305 + 5 * R := by
  obtain ⟨hI, hH, hth, hB⟩ := h
  obtain ⟨g2, j2, h2, p2⟩ := IBb.tick hI hq h0 hR hR1 hc hd hRR hs hz
  -- halvings
  have hI1 := hI.1.nxt.1
  have hpt : ∀ a ∈ v.2.2, now + 1 ≤ a.1 := fun a ha => by have := hI.2.1 a ha; omega
  have hl1 : lsB ([] ++ v.2.2) (now + 1 + R) := fun a ha hA => by have := hI.2.2 a ha hA; omega
  obtain ⟨th2, t1, t2, t3⟩ := HT.hnd hq hR hR1 v.2.2 [] v.1 g j th hI1 (fun a ha => by cases ha) hpt hl1 hH (by omega)
  -- slow-downs
  have hB1 : BG now be (v.2.2.foldl (hndS (now + 1)) v.1) := BG.hnd v.2.2 v.1 hB
  obtain ⟨be2, b1, b2⟩ := hB1.slow (iv := iv) h0
  have e2 : hndV (now + 1) v = (v.2.2.foldl (hndS (now + 1)) v.1, v.2.1, v.2.2.filter (fun n => decide (n.1 ≠ now + 1))) := rfl
  refine ⟨g2, j2, th2, be2, ⟨h2, ?_, t1, ?_⟩, ?_⟩
  · refine HT.fin ?_
    refine HT.snds (by omega) bs _ ?_
    rw [e2]
    exact t2.slow
  · rw [fin_s]
    refine BG.same ?_ (snd_o (by decide) (by decide) bs _) (snd_o (by decide) (by decide) bs _)
    rw [e2]
    exact b1
  · unfold YB
    have e3 : (hndV (now + 1) v).1 = v.2.2.foldl (hndS (now + 1)) v.1 := rfl
    generalize hX : PHv (now + 1) (finV (now + 1 + fw) (now + 1 + fw + bk) k z (sndV (now + 1) (now + 1 + fw + bk) k bs (slowM (hndV (now + 1) v).1 (now + 1) iv, (hndV (now + 1) v).2))) g2 j2 = X at p2
    rw [e3] at p2
    generalize PHv now v g j = Y at p2
    generalize (frN (now + 1) v.1 v.2.2 : Int) = fr at p2 t3
    generalize (bgN (endsM (v.2.2.foldl (hndS (now + 1)) v.1) (now + 1)) (now + 1) iv : Int) = bg at p2 b2
    generalize hZ : (25 * (if z = true then 1 else 0) + 2 + 400 * ((now + 1) / 200 - now / 200) : Int) = Z at *
    have q : X + 5 * (bs.length : Int) ≤ Y + 5 * fr + 5 * bg + Z := by omega
    have q2 : R * (X + 5 * (bs.length : Int)) ≤ R * (Y + 5 * fr + 5 * bg + Z) := Int.mul_le_mul_of_nonneg_left q (by omega)
    have q3 : R * (X + 5 * (bs.length : Int)) = R * X + 5 * (R * (bs.length : Int)) := by
      rw [Int.mul_add, Int.mul_left_comm]
    have q4 : R * (Y + 5 * fr + 5 * bg + Z) = R * Y + 5 * (R * fr) + 5 * (R * bg) + R * Z := by
      rw [Int.mul_add, Int.mul_add, Int.mul_add, Int.mul_left_comm R 5 fr, Int.mul_left_comm R 5 bg]
    have q5 : R * (61 * bg) ≤ R * (be2 - be) := Int.mul_le_mul_of_nonneg_left b2 (by omega)
    have q6 : R * (61 * bg) = 61 * (R * bg) := Int.mul_left_comm _ _ _
    have q7 : R * (now + 1 - be2) = R * (now - be) + R - R * (be2 - be) := by
      have : now + 1 - be2 = (now - be) + 1 - (be2 - be) := by omega
      rw [this, Int.mul_sub, Int.mul_add, Int.mul_one]
    rw [q7]
    omega
