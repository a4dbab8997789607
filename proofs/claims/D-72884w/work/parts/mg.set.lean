/-! Bounds: what setters keep -/
/-- setters change the fields 0 .. 3 of a sender alone -/
def SF4 (s s2 : SdM) : Prop := s2.2 = s.2 ∧ ∀ i : Nat, 4 ≤ i → s2.1 i = s.1 i
theorem SF4.rfl (s : SdM) : SF4 s s := ⟨Eq.refl _, fun _ _ => Eq.refl _⟩
section SETS
variable {now c dl R c2 dl2 R2 lo hi lo2 hi2 th ed : Int} {s s2 : SdM} {o : List Int} {l : List NtM} {g : Gh} {K kp J1 B w1 w2 Wm F0 z0 H0 gr w3 Q de Bk : Int}
theorem mW_set (h : SF4 s s2) : mW s2 = mW s := by
  unfold mW
  rw [h.2 11 (by omega), h.2 4 (by omega), h.2 12 (by omega)]
theorem vF_set (h : SF4 s s2) : vF (s2, o, l) = vF (s, o, l) := by
  show lFl (s2.1 9) l = lFl (s.1 9) l
  rw [h.2 9 (by omega)]
theorem lvL_set {Lf : Nat} (h : SF4 s s2) : lvL K kp J1 s2 Lf = lvL K kp J1 s Lf := by
  unfold lvL tE
  rw [mW_set h, h.2 5 (by omega)]
theorem VM.set (h : VM now c dl tqB T0B R s o l g) (hG : GR g) (h4 : SF4 s s2) (h01 : (1 ≤ s2.1 0 ∧ s2.1 0 ≤ 200) ∧ 1 ≤ s2.1 1 ∧ s2.1 1 ≤ 8) (ho : ∀ x ∈ o, 0 ≤ x) (hl : ∀ n ∈ l, n.1 ≤ tqB) (h0 : 0 ≤ now) (hc : -1000 ≤ c2) (hd : -1000 ≤ dl2) : VM now c2 dl2 tqB T0B R2 s2 o l g := by
  obtain ⟨k1, k2, k3, k4, k5⟩ := h
  obtain ⟨f1, f2, f3, f4, f5, f6⟩ := k2
  unfold GR at hG
  refine ⟨k1.same (h4.2 5 (by omega)) (h4.2 6 (by omega)) (h4.2 9 (by omega)), ⟨f1, fun x hx => ?_, by omega, ⟨by show (-100000 : Int) ≤ _; omega, f4.2⟩, f5, fun n hn ha => ⟨fun hq => ?_, (f6 n hn ha).2⟩⟩, k3.congr (by rw [h4.1]) (by rw [h4.1]), fun q => ?_, ?_⟩
  · have a := ho x hx
    have b := (f2 x hx).1
    exact ⟨b, by omega⟩
  · have := hl n hn
    omega
  · rw [h4.2 11 (by omega)] at q
    rw [h4.2 4 (by omega), h4.2 12 (by omega)]
    exact k4 q
  · unfold sdB at k5 ⊢
    rw [h4.2 4 (by omega), h4.2 5 (by omega)]
    exact ⟨h01.1, h01.2, k5.2.2⟩
theorem RG.set (h : RG now lo hi s l) (h4 : SF4 s s2) : RG now lo hi s2 l := h.same h4.1
theorem RG.wide (h : RG now lo hi s l) (h1 : lo2 ≤ lo) (h2 : hi ≤ hi2) : RG now lo2 hi2 s l := ⟨fun x hx => by have := h.1 x hx; omega, fun j v hj hv => by have := h.2.1 j v hj hv; omega, fun n hn ha => by have := h.2.2 n hn ha; omega⟩
theorem AgI.set (h : AgI now th ed s l) (h4 : SF4 s s2) : AgI now th ed s2 l := by
  unfold AgI at h ⊢
  rw [h4.2 9 (by omega)]
  exact h
theorem AgI.reset (h : AgI now th ed s l) : AgI now now ed s l := ⟨Int.le_refl _, h.2.1, fun n hn _ _ => h.2.1 n hn, h.2.2.2⟩
theorem OH_set (h4 : SF4 s s2) : OH K kp J1 de gr now th ed (s2, o, l) g.2.1 = OH K kp J1 de gr now th ed (s, o, l) g.2.1 := by
  unfold OH
  rw [vF_set h4]
  dsimp only
  rw [lvL_set h4]
theorem SLc.set (h : SLc now th (s, o, l)) (h4 : SF4 s s2) : SLc now th (s2, o, l) := by
  unfold SLc at h ⊢
  rw [vF_set h4]
  dsimp only at h ⊢
  rw [h4.2 11 (by omega), mW_set h4]
  exact h
/-- on before and behind -/
theorem LGv.set (h : LGv K kp J1 de gr now c dl R lo hi th ed (s, o, l) g Bk) (h4 : SF4 s s2) (h3 : s2.1 3 ≠ 0 → s.1 3 ≠ 0) (h01 : (1 ≤ s2.1 0 ∧ s2.1 0 ≤ 200) ∧ 1 ≤ s2.1 1 ∧ s2.1 1 ≤ 8) (ho : ∀ x ∈ o, 0 ≤ x) (h0 : 0 ≤ now) (hnow : now + 200 ≤ tqB) (hc : -1000 ≤ c2) (hd : -1000 ≤ dl2) (hR : RG now lo2 hi2 s l) : LGv K kp J1 de gr now c2 dl2 R2 lo2 hi2 th ed (s2, o, l) g Bk := by
  obtain ⟨k1, k2, k3, k4, k5, k6, k7, k8⟩ := h
  refine ⟨⟨k1.1.set k8 h4 h01 ho (fun n hn => by have := k3.2.1 n hn; omega) h0 hc hd, hR.set h4⟩, k2, k3.set h4, k4.set h4, ?_, k6, ?_, k8⟩
  · rcases k5 with q | q
    · left
      intro w
      apply q
      unfold wantsM at w ⊢
      dsimp only at w ⊢
      rw [h4.2 4 (by omega), h4.2 5 (by omega)] at w
      exact ⟨h3 w.1, w.2⟩
    · exact Or.inr q
  · rw [OH_set h4]
    exact k7
theorem LGo.set (h : LGo now c dl R lo hi ed (s, o, l) g Bk) (h4 : SF4 s s2) (h01 : (1 ≤ s2.1 0 ∧ s2.1 0 ≤ 200) ∧ 1 ≤ s2.1 1 ∧ s2.1 1 ≤ 8) (ho : ∀ x ∈ o, 0 ≤ x) (h0 : 0 ≤ now) (hnow : now + 200 ≤ tqB) (hc : -1000 ≤ c2) (hd : -1000 ≤ dl2) (hR : RG now lo2 hi2 s l) : LGo now c2 dl2 R2 lo2 hi2 ed (s2, o, l) g Bk := by
  obtain ⟨k1, k2, k3, k4, k5, k6, k7⟩ := h
  refine ⟨⟨k1.1.set k7 h4 h01 ho (fun n hn => by have := k3.2.1 n hn; omega) h0 hc hd, hR.set h4⟩, k2, k3.set h4, ?_, k5, ?_, k7⟩
  · dsimp only at k4 ⊢
    rw [h4.2 11 (by omega)]
    exact k4
  · unfold lvO at k6 ⊢
    dsimp only at k6 ⊢
    rw [mW_set h4, h4.2 5 (by omega)]
    exact k6
/-- switched off -/
theorem LGv.off (hP : LQ K kp J1 B w1 w2 Wm F0 z0 H0 gr w3 Q de) (h : LGv K kp J1 de gr now c dl R lo hi th ed (s, o, l) g Bk) : LGo now c dl R lo hi ed (s, o, l) g (Bk + 12800) := by
  have a := h.lv hP
  have b := lv_0 (s := s) (Lf := vF (s, o, l)) hP.1
  obtain ⟨k1, k2, k3, k4, k5, k6, k7, k8⟩ := h
  refine ⟨k1, k2, k3.reset, fun q => ?_, k6, ?_, k8⟩
  · have := k4 q
    exact ⟨this.1, this.2.1⟩
  · dsimp only at a ⊢
    unfold lvO
    omega
/-- switched on; z2: how much E may count -/
theorem LGo.on {z2 : Int} (hP : LQ K kp J1 B w1 w2 Wm F0 z0 H0 gr w3 Q de) (h : LGo now c dl R lo hi ed (s, o, l) g Bk) (hz : (256 * s.1 5) * (256 * s.1 5) ≤ K * z2) (hg : 0 ≤ gr) : LGv K kp J1 de gr now c dl R lo hi now ed (s, o, l) g (Bk + 25 * (z2 + kp) + 63872 + 462 * de + 5000 * gr) := by
  obtain ⟨k1, k2, k3, k4, k5, k6, k7⟩ := h
  have hI : sdB now s := k1.1.2.2.2.2
  unfold sdB at hI
  have h3 := nuP_3 (now := now) (L := g.2.1)
  have ha := k5.le200 k2
  have r2 := rmN_le (o := o) k3
  have hd := hP.2.2.2.2.2.2.2.2.1
  have e1 := eE_le (w := mW s) (f := s.1 5) (Lf := vF (s, o, l)) (by omega)
  have e2 : tE s (vF (s, o, l)) / K ≤ z2 := dv_le hP.1.1 (by unfold tE; omega)
  have e3 := lA_le (J1 := J1) (w := mW s) (F := 256 * s.1 5) (a := tE s (vF (s, o, l)) / K) (Lf := vF (s, o, l)) hP.1.2.1
  have e4 : lvL K kp J1 s (vF (s, o, l)) ≤ lvO s + z2 + kp := by
    unfold lvL lvO
    omega
  refine ⟨k1, k2, k3, fun q => ?_, Or.inr (Int.le_refl _), k5, ?_, k7⟩
  · have := k4 q
    exact ⟨this.1, this.2, Or.inr (Or.inl (by dsimp only at this ⊢; omega))⟩
  · have := oh_low (lv := lvL K kp J1 s (vF (s, o, l))) (H0 := lvO s + z2 + kp) (m := now % 200) (r := rmN now now ed (vF (s, o, l))) (a := aNl l) e4 h3 (by omega) r2 hd hg ha
    unfold bmN at this
    dsimp only at k6
    unfold OH
    dsimp only
    omega
end SETS
