/-! Bounds, mode H entered with the first packet: what is unsent has the greatest potential of its level -/
theorem lvl_sent {s : SdM} : lvl s ≤ lvl (sentM s) := by
  have e5 : (sentM s).1 5 = s.1 5 + 1 := sent_5
  unfold lvl mW
  rw [sent_o (by decide) (by decide), sent_o (by decide) (by decide), sent_o (by decide) (by decide), e5]
  omega
theorem lvl_snds {now ar : Int} {k : Nat} : ∀ (bs : List Bool) (v : SV), lvl v.1 ≤ lvl (sndV now ar k bs v).1 := by
  intro bs
  induction bs with
  | nil => intro v; exact Nat.le_refl _
  | cons b bs ih =>
    intro v
    have es : (snd1 now ar k b v).1 = sentM v.1 := by
      cases b <;> rfl
    have a := ih (snd1 now ar k b v)
    rw [es] at a
    exact Nat.le_trans lvl_sent a
def hUY (w R : Int) (Λ : Nat) (l : List NtM) : Int := 61 * (R * (2 * (Λ : Int) + 18 + w * 8 + 5 * (aNl l : Int))) + 61 * (R - 1) + 60 * R
def HX (now c dl R lo hi q t0 w : Int) (Λ : Nat) (v : SV) (Y : Int) : Prop := (∃ g j th be, HBc now c dl R lo hi q v g j th be ∧ hY w now R v g th be ≤ Y) ∨ (∃ g, (HU now c dl R lo hi t0 v.1 v.2.1 v.2.2 g ∧ (∀ n ∈ v.2.2, now < n.1) ∧ lsB v.2.2 (now + R) ∧ GR g) ∧ hUY w R Λ v.2.2 ≤ Y)
section HXS
variable {now c dl R lo hi q K w t0 Y : Int} {X X2 C w1 Λ : Nat}
theorem HX.tick {fw bk iv : Int} {v : SV} {k : Nat} {bs : List Bool} {z : Bool} (hP : PHs K q X X2 C w1 w) (hK : hi - lo + 1 ≤ K) (hq : hi - lo ≤ q) (h : HX now c dl R lo hi q t0 w Λ v Y) (h0 : 0 ≤ now + 1) (hnow : now + 1 ≤ tqB) (hR : R ≤ 60) (hR1 : 1 ≤ R) (hc : c = bk - v.1.1 2) (hd : dl = fw + v.1.1 2) (hRR : R = fw + bk)
    (hs : sndOK (now + 1) (now + 1 + fw + bk) k bs (slowM (hndV (now + 1) v).1 (now + 1) iv, (hndV (now + 1) v).2)) (hz : z = true → (sndV (now + 1) (now + 1 + fw + bk) k bs (slowM (hndV (now + 1) v).1 (now + 1) iv, (hndV (now + 1) v).2)).2.1 ≠ [])
    (hr : z = true → ∀ x t, (sndV (now + 1) (now + 1 + fw + bk) k bs (slowM (hndV (now + 1) v).1 (now + 1) iv, (hndV (now + 1) v).2)).2.1 = x :: t → lo ≤ now + 1 + fw - x + v.1.1 2 ∧ now + 1 + fw - x + v.1.1 2 ≤ hi)
    (hΛ : lvl (sndV (now + 1) (now + 1 + fw + bk) k bs (slowM (hndV (now + 1) v).1 (now + 1) iv, (hndV (now + 1) v).2)).1 ≤ Λ) :
    HX (now + 1) c dl R lo hi q t0 w Λ (finV (now + 1 + fw) (now + 1 + fw + bk) k z (sndV (now + 1) (now + 1 + fw + bk) k bs (slowM (hndV (now + 1) v).1 (now + 1) iv, (hndV (now + 1) v).2))) (Y + 61 * (R * (5 * (if z = true then 1 else 0) + 2 * w * ((now + 1) / 200 - now / 200))) + 61 + R - 61 * (R * (bs.length : Int))) := by
  rcases h with ⟨g, j, th, be, hI, hY1⟩ | ⟨g, ⟨hI, hp, hl, hGR⟩, hY1⟩
  · obtain ⟨g2, j2, th2, be2, a, b⟩ := HBc.tick hP hK hq hI h0 hnow hR hR1 hc hd hRR hs hz hr
    exact Or.inl ⟨g2, j2, th2, be2, a, by omega⟩
  have hw0 : 0 ≤ w := by have := hP.2.2.2.2.2.2.1; omega
  have hD : 0 ≤ 2 * w * ((now + 1) / 200 - now / 200) := Int.mul_nonneg (by omega) (by omega)
  have hpt : ∀ a ∈ v.2.2, now + 1 ≤ a.1 := fun a ha => by have := hp a ha; omega
  have hl1 : lsB v.2.2 (now + 1 + R) := fun a ha hA => by have := hl a ha hA; omega
  obtain ⟨g2, h2, k5⟩ := GN.hnd hnow v.2.2 [] v.1 g hI.1.nxt (fun a ha => by cases ha) hpt
  have e2 : hndV (now + 1) v = (v.2.2.foldl (hndS (now + 1)) v.1, v.2.1, [] ++ v.2.2.filter (fun n => decide (n.1 ≠ now + 1))) := rfl
  rw [e2] at hs hz hr hΛ ⊢
  dsimp only at hs hz hr hΛ ⊢
  have hk2 : ∀ a ∈ [] ++ v.2.2.filter (fun n => decide (n.1 ≠ now + 1)), now + 1 < a.1 ∧ a ∈ v.2.2 := by
    intro a ha
    rw [List.nil_append, List.mem_filter] at ha
    have b1 := hpt a ha.1
    have b2 := of_decide_eq_true ha.2
    exact ⟨by omega, ha.1⟩
  have hna : aNl ([] ++ v.2.2.filter (fun n => decide (n.1 ≠ now + 1))) ≤ aNl v.2.2 := by
    rw [List.nil_append]
    exact (List.filter_sublist).countP_le
  have h4 : GN (now + 1) c dl R lo lo hi (slowM (v.2.2.foldl (hndS (now + 1)) v.1) (now + 1) iv) v.2.1 ([] ++ v.2.2.filter (fun n => decide (n.1 ≠ now + 1))) g2 := h2.ends.begins (iv := iv) h0
  have hls4 : lsB ([] ++ v.2.2.filter (fun n => decide (n.1 ≠ now + 1))) (t0 + R) := fun a ha hA => hI.2 a (hk2 a ha).2 hA
  have hU : HU (now + 1) c dl R lo hi t0 (slowM (v.2.2.foldl (hndS (now + 1)) v.1) (now + 1) iv) v.2.1 ([] ++ v.2.2.filter (fun n => decide (n.1 ≠ now + 1))) g2 := ⟨h4, hls4⟩
  have f2 : (slowM (v.2.2.foldl (hndS (now + 1)) v.1) (now + 1) iv).1 2 = v.1.1 2 := by
    unfold slowM
    rw [begins_o (by decide) (by decide) (by decide), ends_o (by decide) (by decide) (by decide), hnd_2]
  have hsl := slow_now (s := v.2.2.foldl (hndS (now + 1)) v.1) (t := now + 1) (iv := iv)
  have hGR2 : GR g2 := by unfold GR at hGR ⊢; rw [k5]; exact hGR
  generalize slowM (v.2.2.foldl (hndS (now + 1)) v.1) (now + 1) iv = s2 at *
  generalize hl2 : [] ++ v.2.2.filter (fun n => decide (n.1 ≠ now + 1)) = l2 at *
  have hmem : ∀ a ∈ (finV (now + 1 + fw) (now + 1 + fw + bk) k z (sndV (now + 1) (now + 1 + fw + bk) k bs (s2, v.2.1, l2))).2.2, now + 1 < a.1 ∧ (¬ isA a → a.1 ≤ now + 1 + R) := by
    intro a ha
    rcases fin_mem ha with x | x
    · rcases snd_mem _ _ _ x with y | y
      · exact ⟨(hk2 a y).1, fun hA => hl1 a (hk2 a y).2 hA⟩
      · exact ⟨by omega, fun _ => by omega⟩
    · exact ⟨by omega, fun hA => absurd x.2.1 hA⟩
  have an := aNl_fin (du := now + 1 + fw) (ar := now + 1 + fw + bk) (k := k) (z := z) (v := sndV (now + 1) (now + 1 + fw + bk) k bs (s2, v.2.1, l2))
  cases bs with
  | nil =>
    have es : sndV (now + 1) (now + 1 + fw + bk) k [] (s2, v.2.1, l2) = (s2, v.2.1, l2) := rfl
    rw [es] at hz hr hmem an ⊢
    have eu : aNl ((s2, v.2.1, l2) : SV).2.2 = aNl l2 := rfl
    rw [eu] at an
    have h6 := hU.fin (k := k) (z := z) (fw := fw) (bk := bk) hz (by rw [f2]; exact hc) (by rw [f2]; exact hd) hRR (by rw [f2]; exact hr)
    refine Or.inr ⟨g2, ⟨h6, fun a ha => (hmem a ha).1, fun a ha hA => (hmem a ha).2 hA, hGR2⟩, ?_⟩
    unfold hUY at hY1 ⊢
    have e : 2 * (Λ : Int) + 18 + w * 8 + 5 * (aNl (finV (now + 1 + fw) (now + 1 + fw + bk) k z (s2, v.2.1, l2)).2.2 : Int) ≤ (2 * (Λ : Int) + 18 + w * 8 + 5 * (aNl v.2.2 : Int)) + (5 * (if z = true then 1 else 0) + 2 * w * ((now + 1) / 200 - now / 200)) := by
      omega
    have eR := Int.mul_le_mul_of_nonneg_left e (show 0 ≤ R by omega)
    rw [Int.mul_add R (2 * (Λ : Int) + 18 + w * 8 + 5 * (aNl v.2.2 : Int))] at eR
    have e0 : R * ((([] : List Bool).length : Nat) : Int) = 0 := by simp
    rw [e0]
    omega
  | cons b bs =>
    obtain ⟨hw, ho⟩ := hs
    have hB := hU.snd (q := q) (k := k) (b := b) (ar := now + 1 + fw + bk) hw
    have pv := (pV_snd1 (now := now + 1) (ar := now + 1 + fw + bk) (k := k) (b := b) h4.1.1.1 h4.1.1.2.2.2.1 hw).1
    obtain ⟨j3, h3, p3⟩ := HB.snds (w := w) bs _ _ _ g2 _ hB ho
    have es : sndV (now + 1) (now + 1 + fw + bk) k (b :: bs) (s2, v.2.1, l2) = sndV (now + 1) (now + 1 + fw + bk) k bs (snd1 (now + 1) (now + 1 + fw + bk) k b (s2, v.2.1, l2)) := rfl
    have hlv : lvl s2 ≤ Λ := Nat.le_trans (lvl_snds (now := now + 1) (ar := now + 1 + fw + bk) (k := k) (b :: bs) (s2, v.2.1, l2)) hΛ
    have hup := PS_up h4.1.1.2.2.2.1 (vU (s2, v.2.1, l2)) (vF (s2, v.2.1, l2))
    have hPVu : PV (s2, v.2.1, l2) = PS s2 (vU (s2, v.2.1, l2)) (vF (s2, v.2.1, l2)) := rfl
    have ea : aNl (snd1 (now + 1) (now + 1 + fw + bk) k b (s2, v.2.1, l2)).2.2 = aNl l2 := by
      cases b with
      | true => rfl
      | false =>
        show aNl (l2 ++ [(now + 1 + fw + bk, k, 1, s2.1 6)]) = aNl l2
        rw [aNl_app, if_neg (show ¬ (1 : Int) = 0 by decide)]
        rfl
    have nu := nuB_le hB.1.1.2.2.1
    have c8 : w * (nuB (now + 1) g2.2.1 : Int) ≤ w * 8 := Int.mul_le_mul_of_nonneg_left (by omega) hw0
    have q1 : hPH w (now + 1) (snd1 (now + 1) (now + 1 + fw + bk) k b (s2, v.2.1, l2)).1 (snd1 (now + 1) (now + 1 + fw + bk) k b (s2, v.2.1, l2)).2.1 (snd1 (now + 1) (now + 1 + fw + bk) k b (s2, v.2.1, l2)).2.2 g2 = (PV (snd1 (now + 1) (now + 1 + fw + bk) k b (s2, v.2.1, l2)) : Int) + w * (nuB (now + 1) g2.2.1 : Int) + 5 * (aNl (snd1 (now + 1) (now + 1 + fw + bk) k b (s2, v.2.1, l2)).2.2 : Int) := rfl
    rw [ea] at q1
    have e11 : (sndV (now + 1) (now + 1 + fw + bk) k (b :: bs) (s2, v.2.1, l2)).1.1 11 = s2.1 11 := snd_o (by decide) (by decide) _ _
    have f3 : (sndV (now + 1) (now + 1 + fw + bk) k (b :: bs) (s2, v.2.1, l2)).1.1 2 = v.1.1 2 := by
      rw [snd_2]
      exact f2
    rw [← es] at h3 p3
    generalize sndV (now + 1) (now + 1 + fw + bk) k (b :: bs) (s2, v.2.1, l2) = vs at *
    obtain ⟨h6, p6⟩ := h3.fin (k := k) (z := z) (fw := fw) (bk := bk) (w := w) hz (by rw [f3]; exact hc) (by rw [f3]; exact hd) hRR (by rw [f3]; exact hr)
    have evs : (vs.1, vs.2.1, vs.2.2) = vs := rfl
    rw [evs] at h6 p6
    refine Or.inl ⟨g2, j3, now + 1 + 1 - R, now + 1 - 60, ⟨⟨h6, fun a ha => (hmem a ha).1, fun a ha hA => (hmem a ha).2 hA, hGR2⟩, fun n hn _ _ => by have := (hmem n hn).1; omega, by omega, by omega, fun y => ?_, fun _ => Or.inr (by omega)⟩, ?_⟩
    · rw [fin_s, e11] at y ⊢
      have := hsl y
      omega
    · have a5 : hPH w (now + 1) vs.1 vs.2.1 vs.2.2 g2 = hPt w (now + 1) vs g2.2.1 + 5 * (aNl vs.2.2 : Int) := rfl
      have a6 : hPHv w (now + 1) (finV (now + 1 + fw) (now + 1 + fw + bk) k z vs) g2 = hPt w (now + 1) (finV (now + 1 + fw) (now + 1 + fw + bk) k z vs) g2.2.1 + 5 * (aNl (finV (now + 1 + fw) (now + 1 + fw + bk) k z vs).2.2 : Int) := rfl
      have e : hPHv w (now + 1) (finV (now + 1 + fw) (now + 1 + fw + bk) k z vs) g2 + ((b :: bs).length : Int) ≤ (2 * (Λ : Int) + 18 + w * 8 + 5 * (aNl v.2.2 : Int)) + (5 * (if z = true then 1 else 0) + 2 * w * ((now + 1) / 200 - now / 200)) := by
        rw [List.length_cons]
        omega
      have eR := Int.mul_le_mul_of_nonneg_left e (show 0 ≤ R by omega)
      rw [Int.mul_add, Int.mul_add R (2 * (Λ : Int) + 18 + w * 8 + 5 * (aNl v.2.2 : Int))] at eR
      unfold hUY at hY1
      unfold hY
      have e1 : now + 1 - (now + 1 + 1 - R) = R - 1 := by omega
      have e3 : now + 1 - (now + 1 - 60) = 60 := by omega
      rw [e1, e3]
      omega
end HXS
