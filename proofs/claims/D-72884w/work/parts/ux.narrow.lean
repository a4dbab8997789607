/-! Bounds, ledger by ages: one sender, to a narrower range of delays -/
theorem CA.narrow {now c dl tq R lo hi jg ts D lo2 hi2 D2 : Int} {i : Nat} {s : SdM} {o : List Int} {l : List NtM} {g : Gh} (h : CA now c dl tq R lo hi jg ts D i s o l g) (hr : RG now lo2 hi2 s l) (hE : tE s (lFl (s.1 9) l) ≤ 0) (hD : 0 ≤ D2) : CA now c dl tq R lo2 hi2 jg now D2 i s o l g := by
  obtain ⟨h1, h2, h3, h4, t1, t2, t3⟩ := h
  refine ⟨h1, hr, h3, h4, Int.le_refl _, fun n hn a => ?_, Or.inl ?_⟩
  · have := t2 n hn a
    omega
  · have := Int.mul_nonneg hD (nd_0 (now := now) (ts := now) (L := g.2.1))
    omega
theorem ML1.narrow {k : Nat} {m : MS} {kk cS : Nat → Int} {W kp J1 H0 de gr Rm Q Q2 tq1 lo1 hi1 lo2 hi2 Bk : Int} (h : ML1 kk cS W kp J1 H0 de gr Rm Q m tq1 lo1 hi1 k Bk) (hr : RG (mg m 5) lo2 hi2 (ms m k) (vwK k m).2.2) (hE : tE (ms m k) (vF (vwK k m)) ≤ 0) (hQ : 0 ≤ Q2) : ML1 kk cS W kp J1 H0 de gr Rm Q2 m tq1 lo2 hi2 k Bk := by
  obtain ⟨g, th, ed, jg, ts, i, h1, h2⟩ := h
  have hD : (0 : Int) ≤ 4194304 * Q2 := by omega
  refine ⟨g, th, ed, jg, mg m 5, i, fun q => ?_, fun q => ?_⟩
  · exact ⟨(h1 q).1.narrow hr hE hD, (h1 q).2⟩
  · exact ⟨(h2 q).1.narrow hr hE hD, (h2 q).2⟩
