/-! Bounds, ledger by ages: the early ledger, without halvings -/
def lvE (s : SdM) : Int := max (mW s) (256 * s.1 5)
def cS0 : Nat → Int := fun i => if i = 0 then 0 else 25600
theorem CSP_0 : CSP cS0 := by
  unfold CSP cS0
  decide
def OE (gr now tq jg : Int) (v : SV) (L : List EnF) : Int := 25 * lvE v.1 + PT cS0 0 now tq jg L + 25 * (gr * (aNl v.2.2 : Int))
/-- growth above gr is from windows up to w3 -/
def LEn (gr w3 Q : Int) : Prop := 0 ≤ Q ∧ 0 ≤ gr ∧ 0 ≤ w3 ∧ 524288 < (gr + 1) * (w3 + 1)
def bmE (gr w3 : Int) : Int := 25 * (w3 + 2048) + 76672 + 5000 * gr
theorem lvE_grow {gr w3 Q : Int} {w v F : Int} (hP : LEn gr w3 Q) (hw : 256 ≤ w) (hv : w ≤ v) (h : (v - w) * w ≤ 524288) : max v (F - 256) ≤ max (max w F + gr) (w3 + 2048) := by
  obtain ⟨-, hg, h30, h3⟩ := hP
  have g2 : v - w ≤ 2048 := by
    apply Decidable.byContradiction
    intro y
    have : 2049 * 256 ≤ (v - w) * w := Int.mul_le_mul (by omega) hw (by omega) (by omega)
    omega
  by_cases q : v - w ≤ gr
  · omega
  · have hw3 : w ≤ w3 := by
      apply Decidable.byContradiction
      intro y
      have : (gr + 1) * (w3 + 1) ≤ (v - w) * w := Int.mul_le_mul (by omega) (by omega) (by omega) (by omega)
      omega
    omega
section LES
variable {now c dl tq R lo hi jg ts D th ed : Int} {i : Nat} {s : SdM} {o : List Int} {l l1 l2 : List NtM} {n : NtM} {g : Gh} {gr w3 Q Rm : Int}
theorem lvE_lost {tk num : Int} (hI : sdB tk s) (hk : sW s) : lvE (lostM s num) ≤ lvE s := by
  have em := mW_lost (num := num) hI hk
  have e5 : (lostM s num).1 5 = s.1 5 - 1 := lost_5
  unfold lvE
  rw [e5]
  omega
theorem oe_low {v : SV} {L : List EnF} (hP : LEn gr w3 Q) (hl : lvE v.1 ≤ w3 + 2048) (hT : PT cS0 0 now tq jg L ≤ 51072 + cS0 4 + 0 * wcP now tq jg) (ha : aNl v.2.2 ≤ 200) : OE gr now tq jg v L ≤ bmE gr w3 := by
  have a2 : gr * (aNl v.2.2 : Int) ≤ gr * 200 := Int.mul_le_mul_of_nonneg_left (by omega) hP.2.1
  have e : cS0 4 = 25600 := rfl
  unfold OE bmE
  omega
theorem OE.lost (h : CA now c dl tq R lo hi jg ts D i s o (l1 ++ n :: l2) g) (hn : ¬ isA n) : OE gr now tq jg (lostM s n.2.2.2, o, l1 ++ l2) g.2.1 ≤ OE gr now tq jg (s, o, l1 ++ n :: l2) g.2.1 := by
  have hlv := lvE_lost (num := n.2.2.2) h.1.2.2.2.2 h.1.2.2.2.1
  have ea : aNl (l1 ++ n :: l2) = aNl (l1 ++ l2) := by
    have z : ¬ n.2.2.1 = 0 := hn
    rw [aNl_mid, if_neg z]
    rfl
  unfold OE
  dsimp only
  rw [ea]
  omega
theorem OE.ack (hP : LEn gr w3 Q) (h : CA now c dl tq R lo hi jg ts D i s o (l1 ++ n :: l2) g) (hn : isA n) (ht : n.1 = now) (hQ : hi - lo ≤ Q) (ha : aNl (l1 ++ l2) ≤ 200) : OE gr now tq jg (ackM s n.2.2.2 (now / 200), o, l1 ++ l2) (stepG tq T0C now s.2.1 g n).2.1 ≤ max (OE gr now tq jg (s, o, l1 ++ n :: l2) g.2.1) (bmE gr w3) := by
  obtain ⟨hV, hR, hJ, hX, -⟩ := h
  have hI := hV.2.2.2.2
  have hS := hV.2.2.1
  have hst := (hV.stor hn ht).1
  have rq := hR.q hn
  have hF1 := fl_mid hV.1
  have eg : stepG tq T0C now s.2.1 g n = (kaN tq now g.1 n, ackL tq T0C now n.2.2.2 g.2.1, ackF tq T0C now s.2.1 g.2.2) := if_pos ⟨ht, hn⟩
  have hX2 := hX.ack (tq := tq) (T0 := T0C) (d := n.2.2.2) hS
  rw [eg] at hst ⊢
  dsimp only at hst ⊢
  have hg := hP.2.1
  have hn1 := nv_ack (now := now) (tq := tq) (T0 := T0C) (d := n.2.2.2) (L := g.2.1) hX.2.2.2.2.2.2
  have hT2 := PT_le (W := 0) CSP_0 hst hX2
  have ea : aNl (l1 ++ n :: l2) = aNl (l1 ++ l2) + 1 := by
    have z : n.2.2.1 = 0 := hn
    rw [aNl_mid, if_pos z]
  have ega : gr * (aNl (l1 ++ n :: l2) : Int) = gr * (aNl (l1 ++ l2) : Int) + gr := by
    rw [ea]
    push_cast
    rw [Int.mul_add, Int.mul_one]
  have h5 : 1 ≤ s.1 5 := by omega
  have e5 : (ackM s n.2.2.2 (now / 200)).1 5 = s.1 5 - 1 := ack_5
  have main : ∀ e : Int, lvE (ackM s n.2.2.2 (now / 200)) ≤ max (lvE s + e) (w3 + 2048) → 25 * e ≤ 12800 * (if mn2 now g.2.1 < jxP now jg then 1 else 0) + 25 * gr → OE gr now tq jg (ackM s n.2.2.2 (now / 200), o, l1 ++ l2) (ackL tq T0C now n.2.2.2 g.2.1) ≤ max (OE gr now tq jg (s, o, l1 ++ n :: l2) g.2.1) (bmE gr w3) := by
    intro e k1 k2
    rcases (show lvE (ackM s n.2.2.2 (now / 200)) ≤ w3 + 2048 ∨ lvE (ackM s n.2.2.2 (now / 200)) ≤ lvE s + e by omega) with w | w
    · have := oe_low (now := now) (tq := tq) (jg := jg) (v := (ackM s n.2.2.2 (now / 200), o, l1 ++ l2)) hP w hT2 ha
      omega
    · unfold OE PT
      rw [hn1]
      dsimp only
      rw [ega]
      split at k2
      · rw [if_pos ‹_›]
        omega
      · rw [if_neg ‹_›]
        omega
  have m0 : (0 : Int) ≤ 12800 * (if mn2 now g.2.1 < jxP now jg then 1 else 0) := by
    split <;> omega
  by_cases hs : s.1 11 = -1
  · have hI' := hI
    unfold sdB at hI'
    by_cases hneg : queueM (enterM s n.2.2.2 (now / 200)) (now / 200) < 0
    · have hm := neg_j hJ hS hst hneg
      have st := (ack_4 (d := n.2.2.2) (mi := now / 200) (g := ((- queueM (enterM s n.2.2.2 (now / 200)) (now / 200)).toNat : Int)) hI hs (by omega) (by omega)).2.1
      refine main 512 ?_ (by rw [if_pos hm]; omega)
      unfold lvE
      rw [mW_n hs, mW_ackn hs, e5]
      omega
    · have st := ack_4 (d := n.2.2.2) (mi := now / 200) hI hs (Int.le_refl 0) (by omega)
      refine main gr ?_ (by omega)
      unfold lvE
      rw [mW_n hs, mW_ackn hs, e5]
      by_cases hv : s.1 4 ≤ (ackM s n.2.2.2 (now / 200)).1 4
      · have hgw : ((ackM s n.2.2.2 (now / 200)).1 4 - s.1 4) * s.1 4 ≤ 524288 := by
          rcases st.2.1 with y | y
          · have : (ackM s n.2.2.2 (now / 200)).1 4 - s.1 4 = 0 := by omega
            rw [this, Int.zero_mul]
            omega
          · have := y.2
            omega
        have := lvE_grow (F := 256 * s.1 5) hP hI'.2.2.1.1 hv hgw
        omega
      · omega
  · refine main 0 ?_ (by omega)
    unfold lvE
    rw [mW_acks hs, e5]
    omega
/-- notices of a tick -/
theorem LE.hnd {tz : Int} (hP : LEn gr w3 Q) (hR1 : 1 ≤ Rm) (hQ : hi - lo ≤ Q) (hQ0 : 0 ≤ Q) (hD : D = 4194304 * Q) : ∀ (t ks : List NtM) (s : SdM) (g : Gh) (th : Int) (i : Nat), CA now c dl tq R lo hi jg ts D i s o (ks ++ t) g → AgR Rm now th ed s (ks ++ t) → MIX now th tz Rm (s, o, ks ++ t) → (∀ a ∈ ks, now < a.1) → (∀ a ∈ t, now ≤ a.1) → aNl (ks ++ t) ≤ 200 →
    ∃ g2 th2 i2, CA now c dl tq R lo hi jg ts D i2 (t.foldl (hndS now) s) o (ks ++ t.filter (fun n => decide (n.1 ≠ now))) g2 ∧ AgR Rm now th2 ed (t.foldl (hndS now) s) (ks ++ t.filter (fun n => decide (n.1 ≠ now))) ∧ MIX now th2 tz Rm (t.foldl (hndS now) s, o, ks ++ t.filter (fun n => decide (n.1 ≠ now))) ∧ OE gr now tq jg (t.foldl (hndS now) s, o, ks ++ t.filter (fun n => decide (n.1 ≠ now))) g2.2.1 ≤ max (OE gr now tq jg (s, o, ks ++ t) g.2.1) (bmE gr w3) := by
  intro t
  induction t with
  | nil =>
    intro ks s g th i h hA hM _ _ _
    exact ⟨g, th, i, h, hA, hM, by show OE gr now tq jg (s, o, ks ++ []) g.2.1 ≤ _; omega⟩
  | cons n t ih =>
    intro ks s g th i h hA hM hks ht ha
    rw [List.foldl_cons]
    have ht2 : ∀ a ∈ t, now ≤ a.1 := fun a ha => ht a (List.mem_cons_of_mem _ ha)
    have ha2 : aNl (ks ++ t) ≤ 200 := by
      rw [aNl_mid] at ha
      omega
    have hI := h.1.2.2.2.2
    have hk := h.1.2.2.2.1
    by_cases e : n.1 = now
    · rw [List.filter_cons_of_neg (by simp [e])]
      have eh : hndS now s n = reachM s n.2.2.1 n.2.2.2 (now / 200) := if_pos e
      by_cases z : isA n
      · have er : reachM s n.2.2.1 n.2.2.2 (now / 200) = ackM s n.2.2.2 (now / 200) := if_pos z
        rw [eh, er]
        obtain ⟨g3, th3, i3, h3, a3, m3, p3⟩ := ih ks _ _ th _ (h.ack z e hks ht2 hQ hQ0 hD) (hA.ack z) (hM.ack hI z) hks ht2 ha2
        have := OE.ack (gr := gr) hP h z e hQ ha2
        exact ⟨g3, th3, i3, h3, a3, m3, by omega⟩
      · have er : reachM s n.2.2.1 n.2.2.2 (now / 200) = lostM s n.2.2.2 := if_neg z
        rw [eh, er]
        have := OE.lost (gr := gr) h z
        by_cases y : n.2.2.2 < s.1 9
        · obtain ⟨g3, th3, i3, h3, a3, m3, p3⟩ := ih ks _ _ th _ (h.lost z) (hA.stale z y) (hM.stale hI hk y) hks ht2 ha2
          exact ⟨g3, th3, i3, h3, a3, m3, by omega⟩
        · obtain ⟨g3, th3, i3, h3, a3, m3, p3⟩ := ih ks _ _ now _ (h.lost z) (hA.fresh h.1.1 y) (hM.fresh hI hk hR1) hks ht2 ha2
          exact ⟨g3, th3, i3, h3, a3, m3, by omega⟩
    · rw [List.filter_cons_of_pos (by simp [e])]
      have eh : hndS now s n = s := if_neg e
      rw [eh]
      have el : ks ++ n :: t = (ks ++ [n]) ++ t := by simp
      have el2 : ks ++ n :: t.filter (fun n => decide (n.1 ≠ now)) = (ks ++ [n]) ++ t.filter (fun n => decide (n.1 ≠ now)) := by simp
      rw [el] at h hA hM ha
      rw [el, el2]
      have hn := ht n List.mem_cons_self
      exact ih (ks ++ [n]) s g th i h hA hM (fun a ha => by
        rcases List.mem_append.mp ha with w | w
        · exact hks a w
        · rw [List.mem_singleton] at w
          rw [w]
          omega) ht2 ha
theorem LE.slow {iv : Int} (h : CA now c dl tq R lo hi jg ts D i s o l g) (h0 : 0 ≤ now) : ∃ jg2 i2, CA now c dl tq R lo hi jg2 ts D i2 (slowM s now iv) o l g ∧ OE gr now tq jg2 (slowM s now iv, o, l) g.2.1 ≤ OE gr now tq jg (s, o, l) g.2.1 := by
  obtain ⟨jg2, i2, h2, p2, p3, p4⟩ := h.ends CSP_0 (Int.le_refl 0)
  refine ⟨jg2, i2, h2.begins h0, ?_⟩
  have c0 := cvI_0 (W := 0) CSP_0 (Int.le_refl 0) h.2.2.2.1.2.1
  have e : lvE (slowM s now iv) = lvE s := by
    unfold lvE slowM
    rw [mW_begins h0, mW_ends, begins_o (k := 5) (by decide) (by decide) (by decide), ends_o (k := 5) (by decide) (by decide) (by decide)]
  unfold OE
  dsimp only
  rw [e]
  split at p2 <;> omega
/-- packets sent -/
theorem LE.snds (hP : LEn gr w3 Q) (hR1 : 1 ≤ Rm) (hR2 : Rm ≤ 200) {k : Nat} {ar : Int} (har : now ≤ ar ∧ ar ≤ now + Rm) (hD : 0 ≤ D) : ∀ (bs : List Bool) (v : SV) (ed ts : Int), CA now c dl tq R lo hi jg ts D i v.1 v.2.1 v.2.2 g → AgR Rm now th ed v.1 v.2.2 → SLr Rm now th v → aNl v.2.2 ≤ 200 → sndOK now ar k bs v →
    ∃ ed2 ts2, CA now c dl tq R lo hi jg ts2 D i (sndV now ar k bs v).1 (sndV now ar k bs v).2.1 (sndV now ar k bs v).2.2 g ∧ AgR Rm now th ed2 (sndV now ar k bs v).1 (sndV now ar k bs v).2.2 ∧ SLr Rm now th (sndV now ar k bs v) ∧ OE gr now tq jg (sndV now ar k bs v) g.2.1 ≤ max (OE gr now tq jg v g.2.1) (bmE gr w3) := by
  intro bs
  induction bs with
  | nil =>
    intro v ed ts h hA hS _ _
    exact ⟨ed, ts, h, hA, hS, by show OE gr now tq jg v g.2.1 ≤ _; omega⟩
  | cons b bs ih =>
    intro v ed ts h hA hS ha hok
    have ev : sndV now ar k (b :: bs) v = sndV now ar k bs (snd1 now ar k b v) := rfl
    rw [ev]
    obtain ⟨hw, hok2⟩ := hok
    have hok2 : sndOK now ar k bs (snd1 now ar k b v) := hok2
    have h1 := h.snd (k := k) (b := b) (ar := ar) hw (by omega) hD
    have hF := h.1.1
    have i5 := h.2.2.2.1.2.1
    have hT := PT_le (W := 0) CSP_0 h.1.2.2.1 h.2.2.2.1
    have hk := h.1.2.2.2.1
    have h0 : 0 ≤ v.1.1 5 := by
      have := h.1.2.2.2.2
      unfold sdB at this
      omega
    have e9 : (sentM v.1).1 9 = v.1.1 9 := sent_o (by decide) (by decide)
    have e11 : (sentM v.1).1 11 = v.1.1 11 := sent_o (by decide) (by decide)
    have e4 : (sentM v.1).1 4 = v.1.1 4 := sent_o (by decide) (by decide)
    have e12 : (sentM v.1).1 12 = v.1.1 12 := sent_o (by decide) (by decide)
    have em : mW (sentM v.1) = mW v.1 := by unfold mW; rw [e11, e4, e12]
    have h96 : v.1.1 9 ≤ v.1.1 6 := hF.2.1
    have step : ∃ ed1, AgR Rm now th ed1 (snd1 now ar k b v).1 (snd1 now ar k b v).2.2 ∧ SLr Rm now th (snd1 now ar k b v) ∧ aNl (snd1 now ar k b v).2.2 ≤ 200 ∧ OE gr now tq jg (snd1 now ar k b v) g.2.1 ≤ max (OE gr now tq jg v g.2.1) (bmE gr w3) := by
      have comb : ∀ (v2 : SV), v2.1 = sentM v.1 → aNl v2.2.2 = aNl v.2.2 → OE gr now tq jg v2 g.2.1 ≤ max (OE gr now tq jg v g.2.1) (bmE gr w3) := by
        intro v2 hv2 hn2
        have hw2 := hw.2
        have hlv : lvE v2.1 ≤ max (lvE v.1) 512 := by
          rw [hv2]
          unfold lvE
          rw [em, sent_5]
          by_cases q : v.1.1 11 = -1
          · rw [mW_n q]
            omega
          · have := (hk q).1
            omega
        have h30 := hP.2.2.1
        rcases (show lvE v2.1 ≤ w3 + 2048 ∨ lvE v2.1 ≤ lvE v.1 by omega) with w | w
        · have := oe_low (now := now) (tq := tq) (jg := jg) (v := v2) hP w hT (by omega)
          omega
        · unfold OE
          rw [hn2]
          omega
      cases b with
      | true =>
        have hl : (snd1 now ar k true v).2.2 = v.2.2 := rfl
        have hs : (snd1 now ar k true v).1 = sentM v.1 := rfl
        have ef : vF (snd1 now ar k true v) = vF v := by
          show lFl ((sentM v.1).1 9) v.2.2 = lFl (v.1.1 9) v.2.2
          rw [e9]
        have hA2 : AgR Rm now th ed (snd1 now ar k true v).1 (snd1 now ar k true v).2.2 := by
          rw [hs, hl]
          unfold AgR at hA ⊢
          rw [e9]
          exact hA
        refine ⟨ed, hA2, ?_, by rw [hl]; exact ha, ?_⟩
        · unfold SLr at hS ⊢
          rw [ef, hs, e11, em]
          exact hS
        · exact comb _ hs (by rw [hl])
      | false =>
        have hl : (snd1 now ar k false v).2.2 = v.2.2 ++ [(ar, k, 1, v.1.1 6)] := rfl
        have hs : (snd1 now ar k false v).1 = sentM v.1 := rfl
        have ef : vF (snd1 now ar k false v) = vF v + 1 := by
          show lFl ((sentM v.1).1 9) (v.2.2 ++ [(ar, k, 1, v.1.1 6)]) = lFl (v.1.1 9) v.2.2 + 1
          rw [e9, lFl_app, if_pos ⟨show ¬ (1 : Int) = 0 by decide, h96⟩]
        have hn : aNl (snd1 now ar k false v).2.2 = aNl v.2.2 := by
          rw [hl, aNl_app, if_neg (show ¬ (1 : Int) = 0 by decide)]
          rfl
        obtain ⟨a1, a2, a3, a4⟩ := hA
        -- the clock
        have key : ∀ ed1, ed1 ≤ now + Rm → (∃ n ∈ v.2.2 ++ [(ar, k, 1, v.1.1 6)], ¬ isA n ∧ v.1.1 9 ≤ n.2.2.2 ∧ n.1 ≤ ed1) → AgR Rm now th ed1 (snd1 now ar k false v).1 (snd1 now ar k false v).2.2 := by
          intro ed1 he hx
          rw [hs, hl]
          unfold AgR
          rw [e9]
          refine ⟨a1, fun n hn => ?_, fun n hn hz hy => ?_, fun _ => ⟨he, hx⟩⟩
          · rcases List.mem_append.mp hn with w | w
            · exact a2 n w
            · rw [List.mem_singleton] at w
              rw [w]
              exact har.2
          · rcases List.mem_append.mp hn with w | w
            · exact a3 n w hz hy
            · rw [List.mem_singleton] at w
              rw [w] at hy
              have hy : v.1.1 6 < v.1.1 9 := hy
              omega
        have hS2 : SLr Rm now th (snd1 now ar k false v) := by
          unfold SLr at hS ⊢
          rw [ef, hs, e11, em]
          intro q
          have := hS q
          omega
        by_cases q : 1 ≤ vF v
        · obtain ⟨b1, m, hm, b2, b3, b4⟩ := a4 q
          have hA2 := key ed b1 ⟨m, List.mem_append_left _ hm, b2, b3, b4⟩
          refine ⟨ed, hA2, hS2, by rw [hn]; exact ha, ?_⟩
          exact comb _ hs hn
        · have hA2 := key ar har.2 ⟨(ar, k, 1, v.1.1 6), List.mem_append_right _ (List.mem_singleton.mpr rfl), show ¬ (1 : Int) = 0 by decide, h96, Int.le_refl _⟩
          refine ⟨ar, hA2, hS2, by rw [hn]; exact ha, ?_⟩
          exact comb _ hs hn
    obtain ⟨ed1, hA1, hS1, ha1, p1⟩ := step
    obtain ⟨ed2, ts2, k1, k2, k3, k4⟩ := ih _ ed1 now h1 hA1 hS1 ha1 hok2
    have k4 : OE gr now tq jg (sndV now ar k bs (snd1 now ar k b v)) g.2.1 ≤ max (OE gr now tq jg (snd1 now ar k b v) g.2.1) (bmE gr w3) := k4
    exact ⟨ed2, ts2, k1, k2, k3, by omega⟩
end LES
