/-! Bounds, ledger by ages: setters -/
/-- ghost times forgotten -/
def rsG (g : Gh) : Gh := (-1990000, g.2.1.map (fun e => (e.1, min e.1 T0C, e.2.2)), fun _ => T0C)
/-- delays of a sender, as MI has them -/
def DLo (s : SdM) (l : List NtM) : Prop := (∀ j v, s.2.1 j = some v → -2000000 ≤ v) ∧ (∀ x ∈ s.2.2, -2000000 ≤ x) ∧ ∀ n ∈ l, isA n → -2000000 ≤ n.2.2.2
section RST
variable {v0 : SV} {now c dl tq R c2 dl2 tq2 R2 lo hi lo2 hi2 jg ts D th ed Bk : Int} {i : Nat} {s s2 : SdM} {o : List Int} {l : List NtM} {g : Gh} {L : List EnF}
theorem rs_mn : mn0 now (L.map (fun e => (e.1, min e.1 T0C, e.2.2))) = mn0 now L ∧ mn1 now (L.map (fun e => (e.1, min e.1 T0C, e.2.2))) = mn1 now L ∧ mn2 now (L.map (fun e => (e.1, min e.1 T0C, e.2.2))) = mn2 now L := by
  match L with
  | [] => exact ⟨rfl, rfl, rfl⟩
  | [e] => exact ⟨rfl, rfl, rfl⟩
  | [e, e1] => exact ⟨rfl, rfl, rfl⟩
  | e :: e1 :: e2 :: M => exact ⟨rfl, rfl, rfl⟩
theorem rs_tm : tm0 now (L.map (fun e => (e.1, min e.1 T0C, e.2.2))) = tm0 now L ∧ tm1 now (L.map (fun e => (e.1, min e.1 T0C, e.2.2))) = tm1 now L ∧ tm2 now (L.map (fun e => (e.1, min e.1 T0C, e.2.2))) = tm2 now L := by
  match L with
  | [] => exact ⟨rfl, rfl, rfl⟩
  | [e] => exact ⟨rfl, rfl, rfl⟩
  | [e, e1] => exact ⟨rfl, rfl, rfl⟩
  | e :: e1 :: e2 :: M => exact ⟨rfl, rfl, rfl⟩
theorem VM.reset {T0 : Int} (h : VM now c dl tq T0 R s o l g) (hd0 : DLo s l) (h4 : SF4 s s2) (h01 : (1 ≤ s2.1 0 ∧ s2.1 0 ≤ 200) ∧ 1 ≤ s2.1 1 ∧ s2.1 1 ≤ 8) (ho : ∀ x ∈ o, 0 ≤ x) (hl : ∀ n ∈ l, n.1 ≤ tq2) (h0 : 0 ≤ now) (hn : now ≤ tq2) (hc : -1000 ≤ c2) (hd : -1000 ≤ dl2) : VM now c2 dl2 tq2 T0C R2 s2 o l (rsG g) := by
  obtain ⟨k1, k2, k3, k4, k5⟩ := h
  obtain ⟨f1, f2, f3, f4, f5, f6⟩ := k2
  obtain ⟨h1, h2, h3, h4s, h5, h6, h7⟩ := k3
  obtain ⟨d1, d2, d3⟩ := hd0
  refine ⟨k1.same (h4.2 5 (by omega)) (h4.2 6 (by omega)) (h4.2 9 (by omega)), ⟨f1, fun x hx => ?_, ?_, ⟨?_, ?_, ?_⟩, ?_, fun n hn ha => ⟨fun hq => ?_, fun _ => ?_⟩⟩, ⟨?_, ?_, fun e he => ?_, fun e he v hv => ?_, fun e M hL => ?_, fun hL j => ?_, fun j v hj => ?_⟩, fun q => ?_, ?_⟩
  · have a := ho x hx
    have b := (f2 x hx).1
    exact ⟨b, by show (-1990000 : Int) ≤ _; omega⟩
  · show (-1990000 : Int) ≤ _
    omega
  · show (-4000000 : Int) ≤ -1990000 + dl2
    omega
  · show (-4000000 : Int) ≤ now
    omega
  · show (-4000000 : Int) ≤ tq2
    omega
  · refine List.Pairwise.imp_of_mem ?_ f5
    intro a b ha hb _ _ _ q
    have := hl a ha
    omega
  · have := hl n hn
    omega
  · have := d3 n hn ha
    show (-4000000 : Int) ≤ -1990000 + n.2.2.2
    omega
  · show s2.2.2 = (g.2.1.map (fun e => (e.1, min e.1 T0C, e.2.2))).map (fun e => e.2.2)
    rw [h4.1, h1, List.map_map]
    rfl
  · show (g.2.1.map (fun e => (e.1, min e.1 T0C, e.2.2))).Pairwise _
    rw [List.pairwise_map]
    refine h2.imp (fun {a b} q => ⟨q.1, fun z => ?_⟩)
    have z : tq2 < min a.1 T0C := z
    have e2 : T0C = -4000000 := rfl
    omega
  · obtain ⟨e0, he0, rfl⟩ := List.mem_map.mp he
    have a := h3 e0 he0
    have b : -2000000 ≤ e0.2.2 := d2 _ (by rw [h1]; exact List.mem_map.mpr ⟨e0, he0, rfl⟩)
    have e2 : T0C = -4000000 := rfl
    refine ⟨a.1, ?_, ?_⟩
    · show min e0.1 T0C ≤ e0.1
      omega
    · show min e0.1 T0C - e0.2.2 ≤ -1990000
      omega
  · obtain ⟨e0, he0, rfl⟩ := List.mem_map.mp he
    rw [h4.1] at hv
    exact h4s e0 he0 v hv
  · have hL : g.2.1.map (fun e => (e.1, min e.1 T0C, e.2.2)) = e :: M := hL
    cases hg : g.2.1 with
    | nil => rw [hg] at hL; simp at hL
    | cons x N =>
      rw [hg, List.map_cons] at hL
      have := (List.cons.inj hL).1
      rw [← this, h4.1]
      exact h5 x N hg
  · have hL : g.2.1.map (fun e => (e.1, min e.1 T0C, e.2.2)) = [] := hL
    rw [List.map_eq_nil_iff] at hL
    rw [h4.1]
    exact h6 hL j
  · rw [h4.1] at hj
    have := d1 j v hj
    refine ⟨?_, ?_, fun _ => Int.le_refl _⟩
    · show (-4000000 : Int) - v ≤ -1990000
      omega
    · show (-4000000 : Int) ≤ now
      omega
  · rw [h4.2 11 (by omega)] at q
    rw [h4.2 4 (by omega), h4.2 12 (by omega)]
    exact k4 q
  · unfold sdB at k5 ⊢
    rw [h4.2 4 (by omega), h4.2 5 (by omega)]
    exact ⟨h01.1, h01.2, k5.2.2⟩
/-- setters at a sender that stays on or off -/
theorem CA.reset (h : CA now c dl tq R lo hi jg ts D i s o l g) (hd0 : DLo s l) (h4 : SF4 s s2) (h01 : (1 ≤ s2.1 0 ∧ s2.1 0 ≤ 200) ∧ 1 ≤ s2.1 1 ∧ s2.1 1 ≤ 8) (ho : ∀ x ∈ o, 0 ≤ x) (hl : ∀ n ∈ l, n.1 ≤ now + 200) (h0 : 0 ≤ now) (hc : -1000 ≤ c2) (hd : -1000 ≤ dl2) (hR : RG now lo2 hi2 s l) : CA now c2 dl2 (now + 200) R2 lo2 hi2 jg ts D i s2 o l (rsG g) := by
  obtain ⟨h1, h2, h3, h4x, t1, t2, t3⟩ := h
  have hS := h1.2.2.1
  obtain ⟨m0, m1, m2⟩ := rs_mn (now := now) (L := g.2.1)
  obtain ⟨u0, u1, u2⟩ := rs_tm (now := now) (L := g.2.1)
  refine ⟨h1.reset hd0 h4 h01 ho hl h0 (by omega) hc hd, hR.same h4.1, ?_, ?_, t1, t2, ?_⟩
  · obtain ⟨a1, a2, a3, a4, a5, a6⟩ := h3
    refine ⟨?_, a2, ?_, fun e he => ?_, fun j v hj => ?_, fun j v hj hq => ?_⟩
    · show (g.2.1.map (fun e => (e.1, min e.1 T0C, e.2.2))).length ≤ 4
      rw [List.length_map]
      exact a1
    · rw [h4.1]
      exact a3
    · obtain ⟨e0, he0, rfl⟩ := List.mem_map.mp he
      rw [h4.1]
      exact a4 e0 he0
    · rw [h4.1] at hj
      rcases a5 j v hj with ⟨e, he, q⟩ | ⟨q1, q2⟩
      · exact Or.inl ⟨_, List.mem_map.mpr ⟨e, he, rfl⟩, q⟩
      · right
        refine ⟨?_, fun e he => ?_⟩
        · show (g.2.1.map (fun e => (e.1, min e.1 T0C, e.2.2))).length = 4
          rw [List.length_map]
          exact q1
        · obtain ⟨e0, he0, rfl⟩ := List.mem_map.mp he
          exact q2 e0 he0
    · exfalso
      rw [h4.1] at hj
      cases hg : g.2.1 with
      | nil => rw [hS.2.2.2.2.2.1 hg j] at hj; cases hj
      | cons x N =>
        have a := (hS.2.2.2.2.1 x N hg).2 j v hj
        have b := (hS.2.2.1 x (by rw [hg]; exact List.mem_cons_self)).1
        omega
  · obtain ⟨x1, x2, x3, x4, x5, x6, x7⟩ := h4x
    unfold IX
    show (mn2 now (g.2.1.map (fun e => (e.1, min e.1 T0C, e.2.2))) < jg → i = 0) ∧ _ ∧ _ ∧ _ ∧ (mn0 now (g.2.1.map (fun e => (e.1, min e.1 T0C, e.2.2))) < jxP now jg → jg = now / 200 ∧ mn0 now (g.2.1.map (fun e => (e.1, min e.1 T0C, e.2.2))) < now / 200 - 4) ∧ _ ∧ _
    rw [m0, m2]
    refine ⟨x1, x2, x3, fun _ => ?_, x5, by omega, x7⟩
    have := jx_rng x7
    unfold wcP
    omega
  · have en : ndP now ts (rsG g).2.1 = ndP now ts g.2.1 := by
      show ndP now ts (g.2.1.map (fun e => (e.1, min e.1 T0C, e.2.2))) = _
      unfold ndP
      rw [u0, u1, u2]
    have e2 : tm2 now (rsG g).2.1 = tm2 now g.2.1 := u2
    rw [en, e2]
    have et : tE s2 (lFl (s2.1 9) l) = tE s (lFl (s.1 9) l) := by
      unfold tE
      rw [mW_set h4, h4.2 5 (by omega), h4.2 9 (by omega)]
    rw [et]
    exact t3
theorem AgR.set {Rm : Int} (h : AgR Rm now th ed s l) (h4 : SF4 s s2) : AgR Rm now th ed s2 l := by
  unfold AgR at h ⊢
  rw [h4.2 9 (by omega)]
  exact h
theorem AgR.reset {Rm : Int} (h : AgR Rm now th ed s l) : AgR Rm now now ed s l := ⟨Int.le_refl _, h.2.1, fun n hn _ _ => h.2.1 n hn, h.2.2.2⟩
theorem SLr.set {Rm : Int} (h : SLr Rm now th (s, o, l)) (h4 : SF4 s s2) : SLr Rm now th (s2, o, l) := by
  unfold SLr at h ⊢
  rw [vF_set h4]
  dsimp only at h ⊢
  rw [h4.2 11 (by omega), mW_set h4]
  exact h
section RSK
variable {kk cS : Nat → Int} {W kp J1 B w1 w2 Wm F0 z0 H0 e0 gr w3 Q de Fc Rm : Int}
theorem wc_3 {tq : Int} : wcP now tq jg ≤ 3 := by
  unfold wcP
  omega
/-- on before and behind: what is owed while entries have no true time is paid at once -/
theorem LHv.set (hP : LR kk cS W kp J1 B w1 w2 Wm F0 z0 H0 e0 gr w3 Q de Fc Rm) (h : LHv kk cS W kp J1 H0 de gr Rm now c dl tq R lo hi th ed jg ts D i (s, o, l) g Bk) (hd0 : DLo s l) (h4 : SF4 s s2) (h3 : s2.1 3 ≠ 0 → s.1 3 ≠ 0) (h01 : (1 ≤ s2.1 0 ∧ s2.1 0 ≤ 200) ∧ 1 ≤ s2.1 1 ∧ s2.1 1 ≤ 8) (ho : ∀ x ∈ o, 0 ≤ x) (h0 : 0 ≤ now) (hc : -1000 ≤ c2) (hd : -1000 ≤ dl2) (hR : RG now lo2 hi2 s l) : LHv kk cS W kp J1 H0 de gr Rm now c2 dl2 (now + 200) R2 lo2 hi2 th ed jg ts D i (s2, o, l) (rsG g) (Bk + 3 * W) := by
  obtain ⟨k1, k2, k3, k4, k5, k6, k7, k8⟩ := h
  have hR2 : Rm ≤ 200 := hP.2.2.2.2.2.2.2.2.2.2.2.2.2.2.2.2.2.2.2
  have hW := hP.2.2.2.2.2.2.2.2.1
  obtain ⟨m0, m1, m2⟩ := rs_mn (now := now) (L := g.2.1)
  have w0 := wc_0 (now := now) (tq := tq) (jg := jg)
  have w3' := wc_3 (now := now) (jg := jg) (tq := now + 200)
  have wm1 : 0 ≤ W * wcP now tq jg := Int.mul_nonneg hW w0
  have wm3 : W * wcP now (now + 200) jg ≤ W * 3 := Int.mul_le_mul_of_nonneg_left w3' hW
  refine ⟨k1.reset hd0 h4 h01 ho (fun n hn => ?_) h0 hc hd hR, k2, k3.set h4, k4.set h4, ?_, k6, ?_, by omega⟩
  · have := k3.2.1 n hn
    omega
  · rcases k5 with q | q
    · left
      intro w
      apply q
      unfold wantsM at w ⊢
      dsimp only at w ⊢
      rw [h4.2 4 (by omega), h4.2 5 (by omega)] at w
      exact ⟨h3 w.1, w.2⟩
    · exact Or.inr q
  · have ep : nvP now jg (rsG g).2.1 = nvP now jg g.2.1 := by
      show nvP now jg (g.2.1.map (fun e => (e.1, min e.1 T0C, e.2.2))) = _
      unfold nvP
      rw [m0, m1, m2]
    unfold OA PT at k7 ⊢
    rw [vF_set h4, ep]
    dsimp only at k7 ⊢
    rw [lvL_set h4]
    omega
/-- setters that leave times and offsets alone -/
theorem CA.keep (h : CA now c dl tq R lo hi jg ts D i s o l g) (h4 : SF4 s s2) (h01 : (1 ≤ s2.1 0 ∧ s2.1 0 ≤ 200) ∧ 1 ≤ s2.1 1 ∧ s2.1 1 ≤ 8) : CA now c dl tq R lo hi jg ts D i s2 o l g := by
  obtain ⟨h1, h2, h3, h4x, h5⟩ := h
  obtain ⟨k1, k2, k3, k4, k5⟩ := h1
  refine ⟨⟨k1.same (h4.2 5 (by omega)) (h4.2 6 (by omega)) (h4.2 9 (by omega)), k2, k3.congr (by rw [h4.1]) (by rw [h4.1]), fun q => ?_, ?_⟩, h2.same h4.1, by rw [h4.1]; exact h3, h4x, h5.same ?_⟩
  · rw [h4.2 11 (by omega)] at q
    rw [h4.2 4 (by omega), h4.2 12 (by omega)]
    exact k4 q
  · unfold sdB at k5 ⊢
    rw [h4.2 4 (by omega), h4.2 5 (by omega)]
    exact ⟨h01.1, h01.2, k5.2.2⟩
  · unfold tE
    rw [mW_set h4, h4.2 5 (by omega), h4.2 9 (by omega)]
    exact Int.le_refl _
theorem LHv.keep (h : LHv kk cS W kp J1 H0 de gr Rm now c dl tq R lo hi th ed jg ts D i (s, o, l) g Bk) (h4 : SF4 s s2) (h3 : s2.1 3 ≠ 0 → s.1 3 ≠ 0) (h01 : (1 ≤ s2.1 0 ∧ s2.1 0 ≤ 200) ∧ 1 ≤ s2.1 1 ∧ s2.1 1 ≤ 8) : LHv kk cS W kp J1 H0 de gr Rm now c dl tq R lo hi th ed jg ts D i (s2, o, l) g Bk := by
  obtain ⟨k1, k2, k3, k4, k5, k6, k7, k8⟩ := h
  refine ⟨k1.keep h4 h01, k2, k3.set h4, k4.set h4, ?_, k6, ?_, k8⟩
  · rcases k5 with q | q
    · left
      intro w
      apply q
      unfold wantsM at w ⊢
      dsimp only at w ⊢
      rw [h4.2 4 (by omega), h4.2 5 (by omega)] at w
      exact ⟨h3 w.1, w.2⟩
    · exact Or.inr q
  · unfold OA at k7 ⊢
    rw [vF_set h4]
    dsimp only at k7 ⊢
    rw [lvL_set h4]
    exact k7
theorem LHo.keep (h : LHo Rm now c dl tq R lo hi ed jg ts D i (s, o, l) g Bk) (h4 : SF4 s s2) (h01 : (1 ≤ s2.1 0 ∧ s2.1 0 ≤ 200) ∧ 1 ≤ s2.1 1 ∧ s2.1 1 ≤ 8) : LHo Rm now c dl tq R lo hi ed jg ts D i (s2, o, l) g Bk := by
  obtain ⟨k1, k2, k3, k4, k5, k6⟩ := h
  refine ⟨k1.keep h4 h01, k2, k3.set h4, ?_, k5, ?_⟩
  · dsimp only at k4 ⊢
    rw [h4.2 11 (by omega)]
    exact k4
  · unfold lvO at k6 ⊢
    dsimp only at k6 ⊢
    rw [mW_set h4, h4.2 5 (by omega)]
    exact k6
theorem LHo.set (h : LHo Rm now c dl tq R lo hi ed jg ts D i (s, o, l) g Bk) (hRm : Rm ≤ 200) (hd0 : DLo s l) (h4 : SF4 s s2) (h01 : (1 ≤ s2.1 0 ∧ s2.1 0 ≤ 200) ∧ 1 ≤ s2.1 1 ∧ s2.1 1 ≤ 8) (ho : ∀ x ∈ o, 0 ≤ x) (h0 : 0 ≤ now) (hc : -1000 ≤ c2) (hd : -1000 ≤ dl2) (hR : RG now lo2 hi2 s l) : LHo Rm now c2 dl2 (now + 200) R2 lo2 hi2 ed jg ts D i (s2, o, l) (rsG g) Bk := by
  obtain ⟨k1, k2, k3, k4, k5, k6⟩ := h
  refine ⟨k1.reset hd0 h4 h01 ho (fun n hn => ?_) h0 hc hd hR, k2, k3.set h4, ?_, k5, ?_⟩
  · have := k3.2.1 n hn
    omega
  · dsimp only at k4 ⊢
    rw [h4.2 11 (by omega)]
    exact k4
  · unfold lvO at k6 ⊢
    dsimp only at k6 ⊢
    rw [mW_set h4, h4.2 5 (by omega)]
    exact k6
/-- switched off -/
theorem LHv.off (hP : LR kk cS W kp J1 B w1 w2 Wm F0 z0 H0 e0 gr w3 Q de Fc Rm) (h : LHv kk cS W kp J1 H0 de gr Rm now c dl tq R lo hi th ed jg ts D i (s, o, l) g Bk) : LHo Rm now c dl tq R lo hi ed jg ts D i (s, o, l) g (Bk + 12800) := by
  have a := h.fl hP
  obtain ⟨k1, k2, k3, k4, k5, k6, k7, k8⟩ := h
  refine ⟨k1, k2, k3.reset, fun q => ?_, k6, ?_⟩
  · have := k4 q
    exact ⟨this.1, this.2.1⟩
  · dsimp only at a ⊢
    unfold lvO
    omega
/-- switched on; z2: how much E may count -/
theorem LHo.on {z2 : Int} (hP : LR kk cS W kp J1 B w1 w2 Wm F0 z0 H0 e0 gr w3 Q de Fc Rm) (h : LHo Rm now c dl tq R lo hi ed jg ts D i (s, o, l) g Bk) (hz : (256 * s.1 5) * (256 * s.1 5) ≤ kk 0 * z2) (hB : bmA cS H0 de gr Rm ≤ Bk) : LHv kk cS W kp J1 H0 de gr Rm now c dl tq R lo hi now ed jg ts D i (s, o, l) g (Bk + 25 * (z2 + kp) + 51072 + cS 4 + de * (2 * Rm + 62) + 5000 * gr + 3 * W) := by
  obtain ⟨k1, k2, k3, k4, k5, k6⟩ := h
  have hP' := hP
  obtain ⟨p1, p2, p3, p4, p5, p6, p7, hc, hW, p10, p11, p12, hg, p14, p15, p16, hd, hr, hR1, hR2⟩ := hP
  have hI : sdB now s := k1.1.2.2.2.2
  unfold sdB at hI
  have i5 := k1.2.2.2.1.2.1
  have hT := PT_le (W := W) hc k1.1.2.2.1 k1.2.2.2.1
  have ha : aNl l ≤ 200 := k5.le200 k2
  have r2 : rmR Rm now now ed (vF (s, o, l)) ≤ 2 * Rm + 62 := rmR_le (s := s) (o := o) (l := l) k3 hR1
  have e1 := eE_le (w := mW s) (f := s.1 5) (Lf := vF (s, o, l)) (by omega)
  have z20 : 0 ≤ z2 := by
    apply Decidable.byContradiction
    intro q
    have a : kk 0 * z2 ≤ kk 0 * (-1) := Int.mul_le_mul_of_nonneg_left (by omega) (by have := p1.1; omega)
    have b : 0 ≤ (256 * s.1 5) * (256 * s.1 5) := Int.mul_nonneg (by omega) (by omega)
    have := p1.1
    omega
  have ek : kk 0 * z2 ≤ kk i * z2 := Int.mul_le_mul_of_nonneg_right (p5 0 i (Nat.zero_le _) i5) z20
  have e2 : tE s (vF (s, o, l)) / kk i ≤ z2 := dv_le (hP'.sc i5).1 (by unfold tE; omega)
  have e3 := lA_le (J1 := J1) (w := mW s) (F := 256 * s.1 5) (a := tE s (vF (s, o, l)) / kk i) (Lf := vF (s, o, l)) p1.2.1
  have e4 : lvL (kk i) kp J1 s (vF (s, o, l)) ≤ lvO s + z2 + kp := by
    unfold lvL lvO
    omega
  have w3' := wc_3 (now := now) (jg := jg) (tq := tq)
  have wm3 : W * wcP now tq jg ≤ W * 3 := Int.mul_le_mul_of_nonneg_left w3' hW
  have a1 := Int.mul_le_mul_of_nonneg_left r2 hd
  have a2 : gr * (aNl l : Int) ≤ gr * 200 := Int.mul_le_mul_of_nonneg_left (by omega) hg
  have c4 : 0 ≤ cS 4 := by
    obtain ⟨c0, c1, c2, c3, c4, -, -, -⟩ := hc
    omega
  have d0 : 0 ≤ de * (2 * Rm + 62) := Int.mul_nonneg hd (by omega)
  refine ⟨k1, k2, k3, fun q => ?_, Or.inr (Int.le_refl _), k5, ?_, ?_⟩
  · have := k4 q
    exact ⟨this.1, this.2, Or.inr (Or.inl (by dsimp only at this ⊢; omega))⟩
  · dsimp only at k6
    unfold OA
    dsimp only
    omega
  · have := p1.2.1
    omega
/-- other numbers, the scales and stores kept -/
theorem LHv.step {kp2 B2 w12 w22 Wm2 F02 z02 H02 e02 gr2 w32 de2 Fc2 : Int} (hP : LR kk cS W kp J1 B w1 w2 Wm F0 z0 H0 e0 gr w3 Q de Fc Rm) (hP2 : LR kk cS W kp2 J1 B2 w12 w22 Wm2 F02 z02 H02 e02 gr2 w32 Q de2 Fc2 Rm) (h : LHv kk cS W kp J1 H0 de gr Rm now c dl tq R lo hi th ed jg ts D i v0 g Bk) (hk : kp ≤ kp2) (hg : gr2 ≤ gr) (hd : de ≤ de2) (hB : bmA cS H02 de2 gr2 Rm ≤ Bk + 25 * (kp2 - kp) + (de2 - de) * (2 * Rm + 62)) : LHv kk cS W kp2 J1 H02 de2 gr2 Rm now c dl tq R lo hi th ed jg ts D i v0 g (Bk + 25 * (kp2 - kp) + (de2 - de) * (2 * Rm + 62) + W * wcP now tq jg) := by
  obtain ⟨k1, k2, k3, k4, k5, k6, k7, k8⟩ := h
  have hR1 : 1 ≤ Rm := hP.2.2.2.2.2.2.2.2.2.2.2.2.2.2.2.2.2.2.1
  have hW := hP.2.2.2.2.2.2.2.2.1
  have w0 : 0 ≤ W * wcP now tq jg := Int.mul_nonneg hW wc_0
  have hkp := hP.1.2.1
  have r2 := rmR_le (o := v0.2.1) k3 hR1
  have m1 : (de2 - de) * rmR Rm now th ed (vF v0) ≤ (de2 - de) * (2 * Rm + 62) := Int.mul_le_mul_of_nonneg_left r2 (by omega)
  have m2 : (de2 - de) * rmR Rm now th ed (vF v0) = de2 * rmR Rm now th ed (vF v0) - de * rmR Rm now th ed (vF v0) := Int.sub_mul _ _ _
  have m3 : gr2 * (aNl v0.2.2 : Int) ≤ gr * (aNl v0.2.2 : Int) := Int.mul_le_mul_of_nonneg_right hg (by omega)
  have hl : lvL (kk i) kp2 J1 v0.1 (vF v0) ≤ lvL (kk i) kp J1 v0.1 (vF v0) + (kp2 - kp) := by
    unfold lvL lA nrL
    split <;> omega
  refine ⟨k1, k2, k3, k4, k5, k6, ?_, by omega⟩
  unfold OA at k7 ⊢
  omega
end RSK
end RST
