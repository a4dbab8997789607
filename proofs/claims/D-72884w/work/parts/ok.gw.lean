/-! Bounds, trials: how far levels grow in a few ticks -/
def gwP (now : Int) (v : SV) (L : List EnF) : Int := max (lvS v.1) 4224 + 512 * (nuP now L : Int) + 128 * (aNl v.2.2 : Int)
section OKS
variable {now c dl R lo1 lo2 hi : Int} {s : SdM} {o : List Int} {l l1 l2 : List NtM} {n : NtM} {g : Gh}
theorem gw_lost (h : GB now c dl R lo1 lo2 hi s o (l1 ++ n :: l2) g) (hn : ¬ isA n) : gwP now (lostM s n.2.2.2, o, l1 ++ l2) g.2.1 ≤ gwP now (s, o, l1 ++ n :: l2) g.2.1 := by
  have hI := h.1.2.2.2.2
  have hk := h.1.2.2.2.1
  have ea : aNl (l1 ++ n :: l2) = aNl (l1 ++ l2) := by
    have hn : ¬ n.2.2.1 = 0 := hn
    rw [aNl_mid, if_neg hn]
    rfl
  have hl : lvS (lostM s n.2.2.2) ≤ lvS s := by
    by_cases z : n.2.2.2 < s.1 9
    · exact (rs_stale (U := 0) (Lf := 0) z).2
    · have hm := mW_256 hI hk
      have hh : halfM (mW s) ≤ mW s := by
        unfold halfM
        split <;> omega
      unfold lvS
      rw [mW_fr z, lost_5]
      omega
  unfold gwP
  rw [ea]
  dsimp only
  omega
theorem gw_ack (h : GB now c dl R lo1 lo2 hi s o (l1 ++ n :: l2) g) (hn : isA n) (ht : n.1 = now) : gwP now (ackM s n.2.2.2 (now / 200), o, l1 ++ l2) (stepG tqB T0B now s.2.1 g n).2.1 ≤ gwP now (s, o, l1 ++ n :: l2) g.2.1 := by
  obtain ⟨hV, hR⟩ := h
  have hF := hV.1
  have hI := hV.2.2.2.2
  have hk := hV.2.2.2.1
  have hS := hV.2.2.1
  have hst := (hV.stor hn ht).1
  have hF1 := fl_mid hF
  have eg : stepG tqB T0B now s.2.1 g n = (kaN tqB now g.1 n, ackL tqB T0B now n.2.2.2 g.2.1, ackF tqB T0B now s.2.1 g.2.2) := if_pos ⟨ht, hn⟩
  rw [eg] at hst ⊢
  dsimp only at hst ⊢
  have hn1 := nuP_ack (d := n.2.2.2) hS
  have ea : aNl (l1 ++ n :: l2) = aNl (l1 ++ l2) + 1 := by
    have z : n.2.2.1 = 0 := hn
    rw [aNl_mid, if_pos z]
  have hI2 := hI
  unfold sdB at hI2
  unfold gwP
  rw [ea]
  dsimp only
  push_cast
  by_cases q : s.1 11 = -1
  · by_cases hneg : queueM (enterM s n.2.2.2 (now / 200)) (now / 200) < 0
    · have hin := neg_in hS hst hneg
      rw [if_pos hin] at hn1
      have st := (ack_4 (d := n.2.2.2) (mi := now / 200) (g := (-(queueM (enterM s n.2.2.2 (now / 200)) (now / 200))).toNat) hI q (by omega) (by omega)).2.1
      have hl : lvS (ackM s n.2.2.2 (now / 200)) ≤ lvS s + 512 := by
        unfold lvS
        rw [mW_n q, mW_ackn q, ack_5]
        rcases st with z | z
        · omega
        · have := z.1
          omega
      omega
    · have st := (ack_4 (d := n.2.2.2) (mi := now / 200) hI q (Int.le_refl 0) (by omega)).2.1
      have hw : 256 ≤ s.1 4 := hI2.2.2.1.1
      have key : max (lvS (ackM s n.2.2.2 (now / 200))) 4224 ≤ max (lvS s) 4224 + 128 := by
        have hv : (ackM s n.2.2.2 (now / 200)).1 4 ≤ max (s.1 4 + 128) 4224 := by
          rcases st with z | z
          · omega
          · have z2 := z.2
            apply Decidable.byContradiction
            intro y
            by_cases q2 : 4096 ≤ s.1 4
            · have e : (129 : Int) * s.1 4 ≤ ((ackM s n.2.2.2 (now / 200)).1 4 - s.1 4) * s.1 4 := Int.mul_le_mul_of_nonneg_right (by omega) (by omega)
              omega
            · have e1 : (4225 - s.1 4) * s.1 4 ≤ ((ackM s n.2.2.2 (now / 200)).1 4 - s.1 4) * s.1 4 := Int.mul_le_mul_of_nonneg_right (by omega) (by omega)
              have e2 : 0 ≤ (s.1 4 - 256) * (4096 - s.1 4) := Int.mul_nonneg (by omega) (by omega)
              have e3 : (s.1 4 - 256) * (4096 - s.1 4) = (4225 - s.1 4) * s.1 4 + 127 * s.1 4 - 1048576 := by
                rw [Int.sub_mul, Int.mul_sub, Int.sub_mul, Int.mul_comm (s.1 4) 4096]
                omega
              omega
        unfold lvS
        rw [mW_n q, mW_ackn q, ack_5]
        omega
      omega
  · have hl : lvS (ackM s n.2.2.2 (now / 200)) ≤ lvS s := by
      unfold lvS
      rw [mW_acks q, ack_5]
      omega
    omega
theorem gw_hnd (hnow : now ≤ tqB) : ∀ (t ks : List NtM) (s : SdM) (g : Gh), GB now c dl R lo1 lo2 hi s o (ks ++ t) g → (∀ a ∈ ks, now < a.1) → (∀ a ∈ t, now ≤ a.1) →
    ∃ g2, GB now c dl R lo1 lo2 hi (t.foldl (hndS now) s) o (ks ++ t.filter (fun n => decide (n.1 ≠ now))) g2 ∧ g2.1 = g.1 ∧ gwP now (t.foldl (hndS now) s, o, ks ++ t.filter (fun n => decide (n.1 ≠ now))) g2.2.1 ≤ gwP now (s, o, ks ++ t) g.2.1 := by
  intro t
  induction t with
  | nil =>
    intro ks s g h _ _
    exact ⟨g, h, rfl, Int.le_refl _⟩
  | cons n t ih =>
    intro ks s g h hks ht
    rw [List.foldl_cons]
    have ht2 : ∀ a ∈ t, now ≤ a.1 := fun a ha => ht a (List.mem_cons_of_mem _ ha)
    by_cases e : n.1 = now
    · rw [List.filter_cons_of_neg (by simp [e])]
      have eh : hndS now s n = reachM s n.2.2.1 n.2.2.2 (now / 200) := if_pos e
      by_cases z : isA n
      · have er : reachM s n.2.2.1 n.2.2.2 (now / 200) = ackM s n.2.2.2 (now / 200) := if_pos z
        rw [eh, er]
        have p2 := gw_ack h z e
        have h2 : GB now c dl R lo1 lo2 hi (ackM s n.2.2.2 (now / 200)) o (ks ++ t) (stepG tqB T0B now s.2.1 g n) := ⟨h.1.ack z e hks ht2, h.2.ack z⟩
        obtain ⟨g3, h3, q3, p3⟩ := ih ks _ _ h2 hks ht2
        exact ⟨g3, h3, q3.trans (stepG_1 hnow), by omega⟩
      · have er : reachM s n.2.2.1 n.2.2.2 (now / 200) = lostM s n.2.2.2 := if_neg z
        rw [eh, er]
        have p2 := gw_lost h z
        have h2 : GB now c dl R lo1 lo2 hi (lostM s n.2.2.2) o (ks ++ t) g := ⟨h.1.lost z, h.2.lost⟩
        obtain ⟨g3, h3, q3, p3⟩ := ih ks _ _ h2 hks ht2
        exact ⟨g3, h3, q3, by omega⟩
    · rw [List.filter_cons_of_pos (by simp [e])]
      have eh : hndS now s n = s := if_neg e
      rw [eh]
      have el : ks ++ n :: t = (ks ++ [n]) ++ t := by simp
      have el2 : ks ++ n :: t.filter (fun n => decide (n.1 ≠ now)) = (ks ++ [n]) ++ t.filter (fun n => decide (n.1 ≠ now)) := by simp
      rw [el] at h
      rw [el, el2]
      have hn := ht n List.mem_cons_self
      exact ih (ks ++ [n]) s g h (fun a ha => by
        rcases List.mem_append.mp ha with w | w
        · exact hks a w
        · rw [List.mem_singleton] at w
          rw [w]
          omega) ht2
theorem lvS_snds {k : Nat} {ar : Int} {g : Gh} : ∀ (bs : List Bool) (v : SV), GB now c dl R lo1 lo2 hi v.1 v.2.1 v.2.2 g → sndOK now ar k bs v → lvS (sndV now ar k bs v).1 ≤ max (lvS v.1) 512 := by
  intro bs
  induction bs with
  | nil =>
    intro v _ _
    show lvS v.1 ≤ _
    omega
  | cons b bs ih =>
    intro v h ho
    obtain ⟨hw, ho⟩ := ho
    have h2 : GB now c dl R lo1 lo2 hi (snd1 now ar k b v).1 (snd1 now ar k b v).2.1 (snd1 now ar k b v).2.2 g := by
      refine ⟨h.1.snd hw, ?_⟩
      cases b with
      | true => exact h.2.same rfl
      | false => exact RG2.app (h.2.same (s2 := sentM v.1) rfl) (fun z => absurd z (show ¬ (1 : Int) = 0 by decide))
    have a := ih (snd1 now ar k b v) h2 ho
    have h0 : 0 ≤ v.1.1 5 := by
      have := h.1.2.2.2.2
      unfold sdB at this
      omega
    have b1 := (rs_send (U := 0) (Lf := 0) h.1.2.2.2.1 hw h0 (by omega)).2.2
    have es : (snd1 now ar k b v).1 = sentM v.1 := rfl
    rw [es] at a
    have ev : sndV now ar k (b :: bs) v = sndV now ar k bs (snd1 now ar k b v) := rfl
    rw [ev]
    omega
end OKS
