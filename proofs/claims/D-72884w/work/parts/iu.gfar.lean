/-! Bounds: a negative acknowledgment behind lower ones is paid too -/
section GFAR
variable {now c dl tq T0 R : Int} {s : SdM} {o : List Int} {l1 l2 : List NtM} {n : NtM} {g : Gh} {b1 b2 : Bool} {yt jm : Int} {ca : Nat}
theorem neg_gapF (h : VM now c dl tq T0 R s o (l1 ++ n :: l2) g) (hn : isA n) (ht : n.1 = now) (hq : tq < now) (hT : TS now g.2.1) (hw : ∀ e ∈ g.2.1, tq < e.2.1 ∧ e.2.1 = e.1) (hneg : queueM (enterM s n.2.2.2 (now / 200)) (now / 200) < 0) (hN : ND g.2.1 s.2.1) (hB : NB g.2.1 s.2.1 jm) (hj : jm ≤ now / 200) (hc : LC g.2.1 ca yt) (hca : 1 ≤ ca) (hy : now ≤ yt + 60) :
    ∃ G : Nat, 700 ≤ G ∧ - (G : Int) ≤ queueM (enterM s n.2.2.2 (now / 200)) (now / 200) ∧ ca ≤ 2 ∧ (ca = 1 → b1 = false → Gf now (ackL tq T0 now n.2.2.2 g.2.1) true b1 + ((G : Int) + 800) ≤ Gf now g.2.1 b1 b2) ∧ (ca = 2 → b2 = false → Gf now (ackL tq T0 now n.2.2.2 g.2.1) true b1 + ((G : Int) + 800) ≤ Gf now g.2.1 b1 b2) ∧ (ca = 2 → b1 = false → b2 = false → Gf now (ackL tq T0 now n.2.2.2 g.2.1) true b1 + ((G : Int) + 1260) ≤ Gf now g.2.1 b1 b2) := by
  obtain ⟨hS, hL, -⟩ := h.stor hn ht
  have hS0 := h.2.2.1
  have htN : tN tq T0 now = now := if_neg (by omega)
  have hgl : (stepG tq T0 now s.2.1 g n).2.1 = ackL tq T0 now n.2.2.2 g.2.1 := by
    unfold stepG
    rw [if_pos ⟨ht, hn⟩]
  have hN2 : ND (stepG tq T0 now s.2.1 g n).2.1 (enterM s n.2.2.2 (now / 200)).2.1 := by
    rw [hgl]
    exact hN.ack hS0
  have hB2 : NB (stepG tq T0 now s.2.1 g n).2.1 (enterM s n.2.2.2 (now / 200)).2.1 jm := by
    rw [hgl]
    exact hB.ack hj
  rw [htN] at hL
  generalize hgL : (stepG tq T0 now s.2.1 g n).2.1 = L' at hS hL hN2 hB2
  obtain ⟨p, a, b, r, e1, e2, e3, e4, e, he, he1, he2, he3⟩ := SF.neg hS hL rfl hneg
  have heL : e ∈ L' := by
    rw [e1]
    exact List.mem_append_right _ (List.mem_cons_of_mem _ he)
  have hfar := neg_far hS hN2 hB2 heL he3
  rw [hL] at e1
  have hco := pts_co hT
  have hall : ∀ y ∈ b :: r, y ∈ g.2.1.take 3 := by
    intro y hy
    cases p with
    | nil =>
      have : g.2.1.take 3 = b :: r := (List.cons.inj e1).2
      rw [this]; exact hy
    | cons p0 p' =>
      have : g.2.1.take 3 = p' ++ a :: b :: r := (List.cons.inj e1).2
      rw [this]
      exact List.mem_append_right _ (List.mem_cons_of_mem _ hy)
  have he3' := hall e he
  have hen : e ∉ g.2.1.take ca := by
    intro z
    have := hc e z
    omega
  rw [Gf_ack hq]
  unfold Gf
  match hLL : g.2.1 with
  | [] => rw [hLL] at he3'; cases he3'
  | n1 :: M =>
    rw [hLL] at e1 he3' hco hw hc hen hall
    have hn1 := hc n1 (by
      obtain ⟨k, hk⟩ : ∃ k, ca = k + 1 := ⟨ca - 1, by omega⟩
      rw [hk, List.take_succ_cons]
      exact List.mem_cons_self)
    have hw1 := hw n1 (by simp)
    have hT1 := hT.1
    rw [hLL] at hT1
    -- a is an old one, so not behind n1
    have haL : a ∈ n1 :: M ∧ a.2.1 ≤ n1.2.1 := by
      cases p with
      | nil =>
        exfalso
        have eb : (n1 :: M).take 3 = b :: r := (List.cons.inj e1).2
        rw [List.take_succ_cons] at eb
        have ebn : n1 = b := (List.cons.inj eb).1
        subst ebn
        rcases e3 with z | z
        · have h5 := (hS0.2.2.2.2.1 n1 M hLL).1
          have z : (if n1.1 / 200 = now / 200 then omin (s.2.1 (now / 200)) (some n.2.2.2) else s.2.1 (n1.1 / 200)) = none := z
          by_cases y : n1.1 / 200 = now / 200
          · rw [if_pos y] at z
            exact omin_ne z
          · rw [if_neg y] at z
            exact h5 z
        · omega
      | cons p0 p' =>
        have : (n1 :: M).take 3 = p' ++ a :: b :: r := (List.cons.inj e1).2
        have ha : a ∈ (n1 :: M).take 3 := by
          rw [this]
          simp
        have ha := List.mem_of_mem_take ha
        refine ⟨ha, ?_⟩
        rcases List.mem_cons.mp ha with q | q
        · rw [q]
          exact Int.le_refl _
        · rw [List.pairwise_cons] at hT1
          exact (hT1.1 a q).2
    have hqe := he2 (hw a haL.1).1
    have hwe := hw e (List.mem_of_mem_take he3')
    refine ⟨(n1.2.1 - e.2.1).toNat, by omega, by omega, ?_, ?_, ?_, ?_⟩
    · apply Decidable.byContradiction
      intro z
      refine hen ?_
      exact List.take_subset_take_left _ (by omega) he3'
    · intro hc1 hb1
      subst hc1
      subst hb1
      rw [List.take_succ_cons] at he3' hen
      rcases List.mem_cons.mp he3' with q | q
      · exact absurd (by rw [q]; exact List.mem_cons_self) hen
      · have hG : (((n1.2.1 - e.2.1).toNat : Nat) : Int) = n1.2.1 - e.2.1 := by omega
        rw [hG]
        match M, q with
        | n2 :: M2, q =>
          rw [List.take_succ_cons] at q
          rcases List.mem_cons.mp q with w | w
          · subst w
            exact gG_f1 hco.1 hco.2.1 hco.2.2 (show 4 ≤ n1.1 / 200 - e.1 / 200 by omega)
          · match M2, w with
            | n3 :: M3, w =>
              have w : e = n3 := by simpa using w
              subst w
              exact gG_f2 hco.1 hco.2.1 hco.2.2 (show 4 ≤ n1.1 / 200 - e.1 / 200 by omega)
    all_goals
      intro hc2
      subst hc2
      match M, he3', hen with
      | [], he3', hen =>
        have : e = n1 := by simpa using he3'
        exact absurd (by rw [this]; simp) hen
      | n2 :: M2, he3', hen =>
        have hn2 := hc n2 (by simp)
        have hw2 := hw n2 (by simp)
        rw [List.take_succ_cons, List.take_succ_cons] at he3' hen
        rcases List.mem_cons.mp he3' with q | q
        · exact absurd (by rw [q]; exact List.mem_cons_self) hen
        · rcases List.mem_cons.mp q with q | q
          · exact absurd (by rw [q]; exact List.mem_cons_of_mem _ List.mem_cons_self) hen
          · match M2, q with
            | n3 :: M3, q =>
              have w : e = n3 := by simpa using q
              subst w
              have hG : (((n1.2.1 - e.2.1).toNat : Nat) : Int) = n1.2.1 - e.2.1 := by omega
              rw [hG]
              have hmin : n2.1 ≤ n1.1 ∧ n1.1 ≤ now := by
                rw [List.pairwise_cons] at hT1
                have a1 := (hT1.1 n2 (by simp)).1
                have a2 := (hT.2 n1 (by rw [hLL]; simp)).1
                exact ⟨a1, a2⟩
              first
                | (intro hb1 hb2
                   subst hb1
                   subst hb2
                   exact gG_f4 hco.1 hco.2.1 hco.2.2 (show 4 ≤ n2.1 / 200 - e.1 / 200 by omega))
                | (intro hb2
                   subst hb2
                   exact gG_f3 hco.1 hco.2.1 hco.2.2 (show 4 ≤ n2.1 / 200 - e.1 / 200 by omega) (show n1.1 / 200 - n2.1 / 200 < 5 by omega))
end GFAR
