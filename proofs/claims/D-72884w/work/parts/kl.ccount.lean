/-! Bounds, mode C: halvings r apart (r <= R), slow-downs 61 -/
section CCNT
variable {now c dl R lo hi : Int} {o : List Int} {K M U1 C1 Z Q r : Int} {A X C3 w1 : Nat}
theorem HTc.hnd (hP : PCs K M A X U1 C1 Z C3 w1) (hK : hi - lo + 1 ≤ K) (hQ : hi - lo ≤ Q) (hQ0 : 0 ≤ Q) (hMQ : 4194304 * Q ≤ M * (A + 1)) : ∀ (t ks : List NtM) (s : SdM) (g : Gh) (th : Int), CB now c dl R lo hi s o (ks ++ t) g → (∀ a ∈ ks, now < a.1) → (∀ a ∈ t, now ≤ a.1) → HT r th s (ks ++ t) → th ≤ now →
    ∃ th2, th2 ≤ now ∧ HT r th2 (t.foldl (hndS now) s) (ks ++ t.filter (fun n => decide (n.1 ≠ now))) ∧ r * (frN now s t : Int) ≤ th2 - th := by
  intro t
  induction t with
  | nil =>
    intro ks s g th h _ _ hH hth
    refine ⟨th, hth, hH, ?_⟩
    show r * ((0 : Nat) : Int) ≤ th - th
    simp
  | cons n t ih =>
    intro ks s g th h hks ht hH hth
    rw [List.foldl_cons]
    have ef : frN now s (n :: t) = (if n.1 = now ∧ ¬ isA n ∧ ¬ n.2.2.2 < s.1 9 then 1 else 0) + frN now (hndS now s n) t := rfl
    rw [ef]
    have ht2 : ∀ a ∈ t, now ≤ a.1 := fun a ha => ht a (List.mem_cons_of_mem _ ha)
    by_cases e : n.1 = now
    · rw [List.filter_cons_of_neg (by simp [e])]
      have eh : hndS now s n = reachM s n.2.2.1 n.2.2.2 (now / 200) := if_pos e
      by_cases z : isA n
      · have er : reachM s n.2.2.1 n.2.2.2 (now / 200) = ackM s n.2.2.2 (now / 200) := if_pos z
        rw [eh, er]
        obtain ⟨h2, p2⟩ := h.ack hP z e hks ht2 hK hQ hQ0 hMQ
        have e9 : (ackM s n.2.2.2 (now / 200)).1 9 = s.1 9 := ack_o (by decide) (by decide) (by decide)
        have hH2 : HT r th (ackM s n.2.2.2 (now / 200)) (ks ++ t) := by
          intro a ha hA hn
          rw [e9] at hn
          exact hH a (mid_mem ha) hA hn
        obtain ⟨th3, k1, k2, k3⟩ := ih ks _ _ th h2 hks ht2 hH2 hth
        refine ⟨th3, k1, k2, ?_⟩
        rw [if_neg (fun y => y.2.1 z), Nat.zero_add]
        exact k3
      · have er : reachM s n.2.2.1 n.2.2.2 (now / 200) = lostM s n.2.2.2 := if_neg z
        rw [eh, er]
        obtain ⟨h2, p2⟩ := h.lost hP z
        by_cases y : n.2.2.2 < s.1 9
        · have hH2 : HT r th (lostM s n.2.2.2) (ks ++ t) := by
            intro a ha hA hn
            rw [lost_9s y] at hn
            exact hH a (mid_mem ha) hA hn
          obtain ⟨th3, k1, k2, k3⟩ := ih ks _ _ th h2 hks ht2 hH2 hth
          refine ⟨th3, k1, k2, ?_⟩
          rw [if_neg (fun w => w.2.2 y), Nat.zero_add]
          exact k3
        · have hH2 : HT r now (lostM s n.2.2.2) (ks ++ t) := by
            intro a ha hA hn
            rw [lost_9f y] at hn
            have h3 : a.2.2.2 < s.1 6 := h.1.1.2.2 a (mid_mem ha) hA
            omega
          have hb := hH n (List.mem_append_right _ List.mem_cons_self) z (by omega)
          obtain ⟨th3, k1, k2, k3⟩ := ih ks _ _ now h2 hks ht2 hH2 (Int.le_refl _)
          refine ⟨th3, k1, k2, ?_⟩
          rw [if_pos ⟨e, z, y⟩]
          have : r * ((1 + frN now (lostM s n.2.2.2) t : Nat) : Int) = r + r * (frN now (lostM s n.2.2.2) t : Int) := by
            push_cast
            rw [Int.mul_add, Int.mul_one]
          omega
    · rw [List.filter_cons_of_pos (by simp [e])]
      have eh : hndS now s n = s := if_neg e
      rw [eh, if_neg (fun y => e y.1), Nat.zero_add]
      have el : ks ++ n :: t = (ks ++ [n]) ++ t := by simp
      have el2 : ks ++ n :: t.filter (fun n => decide (n.1 ≠ now)) = (ks ++ [n]) ++ t.filter (fun n => decide (n.1 ≠ now)) := by simp
      rw [el] at h hH
      rw [el2]
      have hn := ht n List.mem_cons_self
      exact ih (ks ++ [n]) s g th h (fun a ha => by
        rcases List.mem_append.mp ha with w | w
        · exact hks a w
        · rw [List.mem_singleton] at w
          rw [w]
          omega) ht2 hH hth
/-- between ticks, with the clocks of halvings and slow-downs -/
def CBc (now c dl R lo hi r : Int) (v : SV) (g : Gh) (th be : Int) : Prop := CBb now c dl R lo hi v g ∧ HT r th v.1 v.2.2 ∧ th ≤ now ∧ BG now be v.1
def cY (M U1 C1 Z : Int) (X A : Nat) (now r : Int) (v : SV) (L : List EnF) (th be : Int) : Int := 61 * (r * cPH M U1 C1 Z X A now v L) + 183 * (M * (now - th)) + 3 * (r * (M * (now - be)))
theorem CBc.tick {fw bk iv : Int} {v : SV} {g : Gh} {th be : Int} {k : Nat} {bs : List Bool} {z : Bool} (hP : PCs K M A X U1 C1 Z C3 w1) (hK : hi - lo + 1 ≤ K) (hQ : hi - lo ≤ Q) (hQ0 : 0 ≤ Q) (hMQ : 4194304 * Q ≤ M * (A + 1)) (h : CBc now c dl R lo hi r v g th be) (h0 : 0 ≤ now + 1) (hr0 : 1 ≤ r) (hrR : r ≤ R) (hc : c = bk - v.1.1 2) (hd : dl = fw + v.1.1 2) (hRR : R = fw + bk)
    (hs : sndOK (now + 1) (now + 1 + fw + bk) k bs (slowM (hndV (now + 1) v).1 (now + 1) iv, (hndV (now + 1) v).2)) (hz : z = true → (sndV (now + 1) (now + 1 + fw + bk) k bs (slowM (hndV (now + 1) v).1 (now + 1) iv, (hndV (now + 1) v).2)).2.1 ≠ [])
    (hr : z = true → ∀ x t, (sndV (now + 1) (now + 1 + fw + bk) k bs (slowM (hndV (now + 1) v).1 (now + 1) iv, (hndV (now + 1) v).2)).2.1 = x :: t → lo ≤ now + 1 + fw - x + v.1.1 2 ∧ now + 1 + fw - x + v.1.1 2 ≤ hi) :
    ∃ g2 th2 be2, CBc (now + 1) c dl R lo hi r (finV (now + 1 + fw) (now + 1 + fw + bk) k z (sndV (now + 1) (now + 1 + fw + bk) k bs (slowM (hndV (now + 1) v).1 (now + 1) iv, (hndV (now + 1) v).2))) g2 th2 be2 ∧ cY M U1 C1 Z X A (now + 1) r (finV (now + 1 + fw) (now + 1 + fw + bk) k z (sndV (now + 1) (now + 1 + fw + bk) k bs (slowM (hndV (now + 1) v).1 (now + 1) iv, (hndV (now + 1) v).2))) g2.2.1 th2 be2 + 183 * (r * (M * (bs.length : Int))) ≤ cY M U1 C1 Z X A now r v g.2.1 th be + 183 * (r * (M * (A : Int))) * (if z = true then 1 else 0) + 61 * (r * (M * Z * ((now + 1) / 200 - now / 200))) + 183 * M + 3 * (r * M) := by
  obtain ⟨hI, hH, hth, hB⟩ := h
  have hM : 0 < M := hP.1
  obtain ⟨g2, h2, p2⟩ := CBb.tick hP hK hQ hQ0 hMQ hI h0 (by omega) hc hd hRR hs hz hr
  have hI1 := (hI.1.nxt hP).1
  have hpt : ∀ a ∈ v.2.2, now + 1 ≤ a.1 := fun a ha => by have := hI.2 a ha; omega
  obtain ⟨th2, t1, t2, t3⟩ := HTc.hnd hP hK hQ hQ0 hMQ v.2.2 [] v.1 g th hI1 (fun a ha => by cases ha) hpt hH (by omega)
  have hB1 : BG now be (v.2.2.foldl (hndS (now + 1)) v.1) := BG.hnd v.2.2 v.1 hB
  obtain ⟨be2, b1, b2⟩ := hB1.slow (iv := iv) h0
  have e2 : hndV (now + 1) v = (v.2.2.foldl (hndS (now + 1)) v.1, v.2.1, v.2.2.filter (fun n => decide (n.1 ≠ now + 1))) := rfl
  refine ⟨g2, th2, be2, ⟨h2, ?_, t1, ?_⟩, ?_⟩
  · refine HT.fin ?_
    refine HT.snds (by omega) bs _ ?_
    rw [e2]
    exact t2.slow
  · rw [fin_s]
    refine BG.same ?_ (snd_o (by decide) (by decide) bs _) (snd_o (by decide) (by decide) bs _)
    rw [e2]
    exact b1
  · unfold cY
    have e3 : (hndV (now + 1) v).1 = v.2.2.foldl (hndS (now + 1)) v.1 := rfl
    generalize hX : cPH M U1 C1 Z X A (now + 1) (finV (now + 1 + fw) (now + 1 + fw + bk) k z (sndV (now + 1) (now + 1 + fw + bk) k bs (slowM (hndV (now + 1) v).1 (now + 1) iv, (hndV (now + 1) v).2))) g2.2.1 = P2 at p2
    rw [e3] at p2
    generalize cPH M U1 C1 Z X A now v g.2.1 = P1 at p2
    generalize (frN (now + 1) v.1 v.2.2 : Int) = fr at p2 t3
    generalize (bgN (endsM (v.2.2.foldl (hndS (now + 1)) v.1) (now + 1)) (now + 1) iv : Int) = bg at p2 b2
    generalize (if z = true then (1 : Int) else 0) = zz at *
    generalize (now + 1) / 200 - now / 200 = D at *
    generalize (bs.length : Int) = n at *
    have q2 := Int.mul_le_mul_of_nonneg_left p2 (show 0 ≤ r by omega)
    have q3 : r * (P2 + 3 * (M * n)) = r * P2 + 3 * (r * (M * n)) := by rw [Int.mul_add, Int.mul_left_comm]
    have q4 : r * (P1 + 3 * (M * fr) + 3 * (M * bg) + 3 * (M * (A : Int)) * zz + M * Z * D) = r * P1 + 3 * (M * (r * fr)) + 3 * (r * (M * bg)) + 3 * (r * (M * (A : Int))) * zz + r * (M * Z * D) := by
      have a1 : r * (3 * (M * (A : Int)) * zz) = 3 * (r * (M * (A : Int))) * zz := by
        rw [← Int.mul_assoc, Int.mul_left_comm]
      rw [Int.mul_add, Int.mul_add, Int.mul_add, Int.mul_add, Int.mul_left_comm r 3 (M * fr), Int.mul_left_comm r 3 (M * bg), Int.mul_left_comm r M fr, a1]
    have m1 := Int.mul_le_mul_of_nonneg_left t3 (show 0 ≤ M by omega)
    have m2 : r * (M * (61 * bg)) ≤ r * (M * (be2 - be)) := Int.mul_le_mul_of_nonneg_left (Int.mul_le_mul_of_nonneg_left b2 (by omega)) (by omega)
    have m3 : r * (M * (61 * bg)) = 61 * (r * (M * bg)) := by rw [Int.mul_left_comm M 61, Int.mul_left_comm r 61]
    have m4 : M * (now + 1 - th2) = M * (now - th) + M - M * (th2 - th) := by
      have : now + 1 - th2 = (now - th) + 1 - (th2 - th) := by omega
      rw [this, Int.mul_sub, Int.mul_add, Int.mul_one]
    have m5 : r * (M * (now + 1 - be2)) = r * (M * (now - be)) + r * M - r * (M * (be2 - be)) := by
      have : now + 1 - be2 = (now - be) + 1 - (be2 - be) := by omega
      rw [this, Int.mul_sub, Int.mul_add, Int.mul_one, Int.mul_sub, Int.mul_add]
    have m6 : 183 * (r * (M * (A : Int))) * zz = 61 * (3 * (r * (M * (A : Int))) * zz) := by
      generalize r * (M * (A : Int)) = w
      have a1 : 61 * (3 * w * zz) = (61 * (3 * w)) * zz := (Int.mul_assoc _ _ _).symm
      rw [a1]
      congr 1
      omega
    rw [m4, m5, m6]
    omega
end CCNT
