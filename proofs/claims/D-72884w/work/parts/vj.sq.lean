/-! Bounds, levels by squares: an acknowledgment adds the same to the square of a level whoever gets it -/
def lvF (F : Int) (s : SdM) : Int := max (lvE s) F
/-- level (6400 a packet) with the permissions left -/
def ZE (F now tq jg : Int) (v : SV) (L : List EnF) : Int := 25 * lvF F v.1 + PT cS0 0 now tq jg L
def SQn (F dm : Int) : Prop := 8192 ≤ F ∧ 0 ≤ dm ∧ 524288 < (dm + 1) * F
def kSq (dm : Int) : Int := 655360000 + 3833600 * dm + 625 * (dm * dm)
theorem sq_le {a b : Int} (h0 : 0 ≤ a) (h : a ≤ b) : a * a ≤ b * b := Int.mul_le_mul h h h0 (by omega)
theorem sq_grow {F dm z z2 P : Int} (hP : SQn F dm) (hz : F ≤ z) (hP0 : 0 ≤ P) (hP1 : P ≤ 76672) (h2 : 0 ≤ z2) (h : z2 ≤ z ∨ (z2 - z) * z ≤ 524288) : (25 * z2 + P) * (25 * z2 + P) ≤ (25 * z + P) * (25 * z + P) + kSq dm := by
  obtain ⟨h8, hd, hF⟩ := hP
  have k0 : 0 ≤ kSq dm := by
    unfold kSq
    have := Int.mul_nonneg hd hd
    omega
  by_cases q : z2 ≤ z
  · have := sq_le (a := 25 * z2 + P) (b := 25 * z + P) (by omega) (by omega)
    omega
  · have h : (z2 - z) * z ≤ 524288 := by
      rcases h with y | y
      · exact absurd y q
      · exact y
    obtain ⟨e, he⟩ : ∃ e, e = z2 - z := ⟨_, rfl⟩
    have e1 : e ≤ dm := by
      apply Decidable.byContradiction
      intro y
      have : (dm + 1) * F ≤ e * z := Int.mul_le_mul (by omega) hz (by omega) (by omega)
      rw [he] at this
      omega
    have ez : z2 = z + e := by omega
    rw [← he] at h
    rw [ez]
    have x1 : (25 * (z + e) + P) * (25 * (z + e) + P) = (25 * z + P) * (25 * z + P) + (1250 * (e * z) + 50 * (e * P) + 625 * (e * e)) := by
      have a : 25 * (z + e) + P = (25 * z + P) + 25 * e := by omega
      have gen : ∀ y : Int, (y + 25 * e) * (y + 25 * e) = y * y + (50 * (e * y) + 625 * (e * e)) := by
        intro y
        rw [Int.add_mul, Int.mul_add, Int.mul_add, Int.mul_left_comm y 25 e, Int.mul_assoc 25 e y, Int.mul_assoc 25 e (25 * e), Int.mul_left_comm e 25 e, Int.mul_comm y e]
        omega
      have b : e * (25 * z + P) = 25 * (e * z) + e * P := by rw [Int.mul_add, Int.mul_left_comm]
      rw [a, gen, b]
      omega
    have x2 : e * P ≤ dm * 76672 := Int.mul_le_mul e1 hP1 hP0 hd
    have x3 : e * e ≤ dm * dm := Int.mul_le_mul e1 e1 (by omega) hd
    rw [x1]
    unfold kSq
    omega
section SQS
variable {now c dl tq R lo hi jg ts D F dm Q : Int} {i : Nat} {s : SdM} {o : List Int} {l l1 l2 : List NtM} {n : NtM} {g : Gh}
theorem PT_rng (h : CA now c dl tq R lo hi jg ts D i s o l g) : 0 ≤ PT cS0 0 now tq jg g.2.1 ∧ PT cS0 0 now tq jg g.2.1 ≤ 76672 := by
  have a := PT_le (W := 0) CSP_0 h.1.2.2.1 h.2.2.2.1
  have b := PT_0 (L := g.2.1) (W := 0) (tq := tq) CSP_0 (Int.le_refl 0) h.2.2.2.1.2.2.2.2.2.2
  have e : cS0 4 = 25600 := rfl
  rw [e] at a
  omega
theorem ZE_0 (hP : SQn F dm) (h : CA now c dl tq R lo hi jg ts D i s o l g) : 0 ≤ ZE F now tq jg (s, o, l) g.2.1 := by
  have := (PT_rng h).1
  have h8 := hP.1
  unfold ZE lvF
  omega
theorem ZE.lost (h : CA now c dl tq R lo hi jg ts D i s o (l1 ++ n :: l2) g) : ZE F now tq jg (lostM s n.2.2.2, o, l1 ++ l2) g.2.1 ≤ ZE F now tq jg (s, o, l1 ++ n :: l2) g.2.1 := by
  have hlv := lvE_lost (num := n.2.2.2) h.1.2.2.2.2 h.1.2.2.2.1
  unfold ZE lvF
  dsimp only
  omega
theorem ZE.ack (hP : SQn F dm) (h : CA now c dl tq R lo hi jg ts D i s o (l1 ++ n :: l2) g) (hn : isA n) (ht : n.1 = now) (hl : ∀ a ∈ l1, now < a.1) (hr : ∀ a ∈ l2, now ≤ a.1) (hQ : hi - lo ≤ Q) (hQ0 : 0 ≤ Q) (hD : D = 4194304 * Q) : ZE F now tq jg (ackM s n.2.2.2 (now / 200), o, l1 ++ l2) (stepG tq T0C now s.2.1 g n).2.1 * ZE F now tq jg (ackM s n.2.2.2 (now / 200), o, l1 ++ l2) (stepG tq T0C now s.2.1 g n).2.1 ≤ ZE F now tq jg (s, o, l1 ++ n :: l2) g.2.1 * ZE F now tq jg (s, o, l1 ++ n :: l2) g.2.1 + kSq dm := by
  have h9 := h.ack hn ht hl hr hQ hQ0 hD
  have r1 := PT_rng h
  have r2 := PT_rng h9
  obtain ⟨hV, hR, hJ, hX, -⟩ := h
  have hI := hV.2.2.2.2
  have hS := hV.2.2.1
  have hst := (hV.stor hn ht).1
  have hF1 := fl_mid hV.1
  have eg : stepG tq T0C now s.2.1 g n = (kaN tq now g.1 n, ackL tq T0C now n.2.2.2 g.2.1, ackF tq T0C now s.2.1 g.2.2) := if_pos ⟨ht, hn⟩
  rw [eg] at hst r2 ⊢
  dsimp only at hst r2 ⊢
  have hn1 := nv_ack (now := now) (tq := tq) (T0 := T0C) (d := n.2.2.2) (L := g.2.1) hX.2.2.2.2.2.2
  have h5 : 1 ≤ s.1 5 := by omega
  have e5 : (ackM s n.2.2.2 (now / 200)).1 5 = s.1 5 - 1 := ack_5
  have h8 := hP.1
  have k0 : 0 ≤ kSq dm := by
    unfold kSq
    have := Int.mul_nonneg hP.2.1 hP.2.1
    have := hP.2.1
    omega
  -- what the permissions give
  have pt : PT cS0 0 now tq jg (ackL tq T0C now n.2.2.2 g.2.1) + 12800 * (if mn2 now g.2.1 < jxP now jg then 1 else 0) = PT cS0 0 now tq jg g.2.1 := by
    unfold PT
    rw [hn1]
    push_cast
    split <;> omega
  have le : lvF F (ackM s n.2.2.2 (now / 200)) * 25 + PT cS0 0 now tq jg (ackL tq T0C now n.2.2.2 g.2.1) ≤ lvF F s * 25 + PT cS0 0 now tq jg g.2.1 → ZE F now tq jg (ackM s n.2.2.2 (now / 200), o, l1 ++ l2) (ackL tq T0C now n.2.2.2 g.2.1) * ZE F now tq jg (ackM s n.2.2.2 (now / 200), o, l1 ++ l2) (ackL tq T0C now n.2.2.2 g.2.1) ≤ ZE F now tq jg (s, o, l1 ++ n :: l2) g.2.1 * ZE F now tq jg (s, o, l1 ++ n :: l2) g.2.1 + kSq dm := by
    intro y
    have f0 : 0 ≤ lvF F (ackM s n.2.2.2 (now / 200)) := by unfold lvF; omega
    have := sq_le (a := ZE F now tq jg (ackM s n.2.2.2 (now / 200), o, l1 ++ l2) (ackL tq T0C now n.2.2.2 g.2.1)) (b := ZE F now tq jg (s, o, l1 ++ n :: l2) g.2.1) (by unfold ZE; dsimp only; omega) (by unfold ZE; dsimp only; omega)
    omega
  by_cases hs : s.1 11 = -1
  · have hI' := hI
    unfold sdB at hI'
    by_cases hneg : queueM (enterM s n.2.2.2 (now / 200)) (now / 200) < 0
    · have hm := neg_j hJ hS hst hneg
      have st := (ack_4 (d := n.2.2.2) (mi := now / 200) (g := ((- queueM (enterM s n.2.2.2 (now / 200)) (now / 200)).toNat : Int)) hI hs (by omega) (by omega)).2.1
      refine le ?_
      rw [if_pos hm] at pt
      have : lvF F (ackM s n.2.2.2 (now / 200)) ≤ lvF F s + 512 := by
        unfold lvF lvE
        rw [mW_n hs, mW_ackn hs, e5]
        omega
      omega
    · have st := ack_4 (d := n.2.2.2) (mi := now / 200) hI hs (Int.le_refl 0) (by omega)
      have hw : 256 ≤ s.1 4 := hI'.2.2.1.1
      have key : lvF F (ackM s n.2.2.2 (now / 200)) ≤ lvF F s ∨ (lvF F (ackM s n.2.2.2 (now / 200)) - lvF F s) * lvF F s ≤ 524288 := by
        unfold lvF lvE
        rw [mW_n hs, mW_ackn hs, e5]
        have st2 := st.2.1
        generalize (ackM s n.2.2.2 (now / 200)).1 4 = v at *
        generalize s.1 4 = w at *
        generalize s.1 5 = f at *
        by_cases q : max (max v (256 * (f - 1))) F ≤ max (max w (256 * f)) F
        · exact Or.inl q
        · right
          have ev : max (max v (256 * (f - 1))) F = v := by omega
          rw [ev]
          generalize hz : max (max w (256 * f)) F = z at *
          have g1 : (v - w) * w ≤ 524288 := by
            rcases st2 with y | y
            · exact absurd y (by omega)
            · exact y.2
          have g2 : v ≤ 2 * w := by
            apply Decidable.byContradiction
            intro y
            have : 4096 * 256 ≤ (v - w) * w := Int.mul_le_mul (by omega) hw (by omega) (by omega)
            omega
          have g3 : 0 ≤ (z - w) * (z + w - v) := Int.mul_nonneg (by omega) (by omega)
          have g4 : (z - w) * (z + w - v) = (v - w) * w - (v - z) * z := by
            rw [Int.sub_mul, Int.sub_mul, Int.sub_mul, Int.mul_sub, Int.mul_sub, Int.mul_add, Int.mul_add, Int.mul_comm w z, Int.mul_comm v z, Int.mul_comm v w]
            omega
          omega
      have f0 : 0 ≤ lvF F (ackM s n.2.2.2 (now / 200)) := by unfold lvF; omega
      have m0 : (0 : Int) ≤ 12800 * (if mn2 now g.2.1 < jxP now jg then 1 else 0) := by
        split <;> omega
      have a := sq_grow hP (show F ≤ lvF F s by unfold lvF; omega) r1.1 r1.2 f0 key
      have b := sq_le (a := 25 * lvF F (ackM s n.2.2.2 (now / 200)) + PT cS0 0 now tq jg (ackL tq T0C now n.2.2.2 g.2.1)) (b := 25 * lvF F (ackM s n.2.2.2 (now / 200)) + PT cS0 0 now tq jg g.2.1) (by omega) (by omega)
      unfold ZE
      dsimp only
      omega
  · refine le ?_
    have m0 : (0 : Int) ≤ 12800 * (if mn2 now g.2.1 < jxP now jg then 1 else 0) := by
      split <;> omega
    have : lvF F (ackM s n.2.2.2 (now / 200)) ≤ lvF F s := by
      unfold lvF lvE
      rw [mW_acks hs, e5]
      omega
    omega
theorem ZE.hnd (hP : SQn F dm) (hQ : hi - lo ≤ Q) (hQ0 : 0 ≤ Q) (hD : D = 4194304 * Q) : ∀ (t ks : List NtM) (s : SdM) (g : Gh) (i : Nat), CA now c dl tq R lo hi jg ts D i s o (ks ++ t) g → (∀ a ∈ ks, now < a.1) → (∀ a ∈ t, now ≤ a.1) →
    ∃ g2 i2, CA now c dl tq R lo hi jg ts D i2 (t.foldl (hndS now) s) o (ks ++ t.filter (fun n => decide (n.1 ≠ now))) g2 ∧ ZE F now tq jg (t.foldl (hndS now) s, o, ks ++ t.filter (fun n => decide (n.1 ≠ now))) g2.2.1 * ZE F now tq jg (t.foldl (hndS now) s, o, ks ++ t.filter (fun n => decide (n.1 ≠ now))) g2.2.1 + kSq dm * (aNl (ks ++ t.filter (fun n => decide (n.1 ≠ now))) : Int) ≤ ZE F now tq jg (s, o, ks ++ t) g.2.1 * ZE F now tq jg (s, o, ks ++ t) g.2.1 + kSq dm * (aNl (ks ++ t) : Int) := by
  intro t
  induction t with
  | nil =>
    intro ks s g i h _ _
    exact ⟨g, i, h, Int.le_refl _⟩
  | cons n t ih =>
    intro ks s g i h hks ht
    rw [List.foldl_cons]
    have ht2 : ∀ a ∈ t, now ≤ a.1 := fun a ha => ht a (List.mem_cons_of_mem _ ha)
    by_cases e : n.1 = now
    · rw [List.filter_cons_of_neg (by simp [e])]
      have eh : hndS now s n = reachM s n.2.2.1 n.2.2.2 (now / 200) := if_pos e
      by_cases z : isA n
      · have er : reachM s n.2.2.1 n.2.2.2 (now / 200) = ackM s n.2.2.2 (now / 200) := if_pos z
        rw [eh, er]
        obtain ⟨g3, i3, h3, p3⟩ := ih ks _ _ _ (h.ack z e hks ht2 hQ hQ0 hD) hks ht2
        have a := ZE.ack hP h z e hks ht2 hQ hQ0 hD
        have ea : (aNl (ks ++ n :: t) : Int) = (aNl (ks ++ t) : Int) + 1 := by
          have z : n.2.2.1 = 0 := z
          rw [aNl_mid, if_pos z]
          push_cast
          rfl
        rw [ea, Int.mul_add, Int.mul_one]
        exact ⟨g3, i3, h3, by omega⟩
      · have er : reachM s n.2.2.1 n.2.2.2 (now / 200) = lostM s n.2.2.2 := if_neg z
        rw [eh, er]
        have a := ZE.lost (F := F) h
        obtain ⟨g3, i3, h3, p3⟩ := ih ks _ _ _ (h.lost z) hks ht2
        have z0 := ZE_0 hP (h.lost z)
        have b := sq_le z0 a
        have ea : (aNl (ks ++ n :: t) : Int) = (aNl (ks ++ t) : Int) := by
          have z : ¬ n.2.2.1 = 0 := z
          rw [aNl_mid, if_neg z]
          rfl
        rw [ea]
        exact ⟨g3, i3, h3, by omega⟩
    · rw [List.filter_cons_of_pos (by simp [e])]
      have eh : hndS now s n = s := if_neg e
      rw [eh]
      have el : ks ++ n :: t = (ks ++ [n]) ++ t := by simp
      have el2 : ks ++ n :: t.filter (fun n => decide (n.1 ≠ now)) = (ks ++ [n]) ++ t.filter (fun n => decide (n.1 ≠ now)) := by simp
      rw [el] at h
      rw [el, el2]
      have hn := ht n List.mem_cons_self
      exact ih (ks ++ [n]) s g i h (fun a ha => by
        rcases List.mem_append.mp ha with w | w
        · exact hks a w
        · rw [List.mem_singleton] at w
          rw [w]
          omega) ht2
theorem ZE.slow {iv : Int} (h : CA now c dl tq R lo hi jg ts D i s o l g) (h0 : 0 ≤ now) : ∃ jg2 i2, CA now c dl tq R lo hi jg2 ts D i2 (slowM s now iv) o l g ∧ ZE F now tq jg2 (slowM s now iv, o, l) g.2.1 ≤ ZE F now tq jg (s, o, l) g.2.1 := by
  obtain ⟨jg2, i2, h2, p2, p3, p4⟩ := h.ends CSP_0 (Int.le_refl 0)
  refine ⟨jg2, i2, h2.begins h0, ?_⟩
  have c0 := cvI_0 (W := 0) CSP_0 (Int.le_refl 0) h.2.2.2.1.2.1
  have e : lvE (slowM s now iv) = lvE s := by
    unfold lvE slowM
    rw [mW_begins h0, mW_ends, begins_o (k := 5) (by decide) (by decide) (by decide), ends_o (k := 5) (by decide) (by decide) (by decide)]
  unfold ZE lvF
  dsimp only
  rw [e]
  split at p2 <;> omega
theorem ZE.snds (hP : SQn F dm) {k : Nat} {ar : Int} (har : ar ≤ now + 200) (hD : 0 ≤ D) : ∀ (bs : List Bool) (v : SV) (ts : Int), CA now c dl tq R lo hi jg ts D i v.1 v.2.1 v.2.2 g → sndOK now ar k bs v →
    ∃ ts2, CA now c dl tq R lo hi jg ts2 D i (sndV now ar k bs v).1 (sndV now ar k bs v).2.1 (sndV now ar k bs v).2.2 g ∧ ZE F now tq jg (sndV now ar k bs v) g.2.1 ≤ ZE F now tq jg v g.2.1 ∧ aNl (sndV now ar k bs v).2.2 = aNl v.2.2 := by
  intro bs
  induction bs with
  | nil =>
    intro v ts h _
    exact ⟨ts, h, Int.le_refl _, rfl⟩
  | cons b bs ih =>
    intro v ts h hok
    have ev : sndV now ar k (b :: bs) v = sndV now ar k bs (snd1 now ar k b v) := rfl
    rw [ev]
    obtain ⟨hw, hok2⟩ := hok
    have hok2 : sndOK now ar k bs (snd1 now ar k b v) := hok2
    have h1 := h.snd (k := k) (b := b) (ar := ar) hw har hD
    have hk := h.1.2.2.2.1
    have e11 : (sentM v.1).1 11 = v.1.1 11 := sent_o (by decide) (by decide)
    have e4 : (sentM v.1).1 4 = v.1.1 4 := sent_o (by decide) (by decide)
    have e12 : (sentM v.1).1 12 = v.1.1 12 := sent_o (by decide) (by decide)
    have em : mW (sentM v.1) = mW v.1 := by unfold mW; rw [e11, e4, e12]
    have hs : (snd1 now ar k b v).1 = sentM v.1 := by
      cases b <;> rfl
    have ea : aNl (snd1 now ar k b v).2.2 = aNl v.2.2 := by
      cases b with
      | true => rfl
      | false =>
        show aNl (v.2.2 ++ [(ar, k, 1, v.1.1 6)]) = aNl v.2.2
        rw [aNl_app, if_neg (show ¬ (1 : Int) = 0 by decide)]
        rfl
    have st : ZE F now tq jg (snd1 now ar k b v) g.2.1 ≤ ZE F now tq jg v g.2.1 := by
      have hw2 := hw.2
      have h8 := hP.1
      have hlv : lvE (sentM v.1) ≤ max (lvE v.1) 512 := by
        unfold lvE
        rw [em, sent_5]
        by_cases q : v.1.1 11 = -1
        · rw [mW_n q]
          omega
        · have := (hk q).1
          omega
      unfold ZE lvF
      rw [hs]
      omega
    obtain ⟨ts2, k1, k2, k3⟩ := ih _ now h1 hok2
    have k2 : ZE F now tq jg (sndV now ar k bs (snd1 now ar k b v)) g.2.1 ≤ ZE F now tq jg (snd1 now ar k b v) g.2.1 := k2
    exact ⟨ts2, k1, by omega, k3.trans ea⟩
end SQS
