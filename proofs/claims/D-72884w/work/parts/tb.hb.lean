/-! Bounds, mode H (R <= 60): no deep ones from a slow-down's end on; an acknowledgment -/
/-- the numbers: K one more than the range of the delays, q the range, X what a negative one costs, X2 a far one, w the price of a permission -/
def PHs (K q : Int) (X X2 C w1 : Nat) (w : Int) : Prop := 40 ≤ X ∧ 32 * K < (X : Int) * X - 7 * X + 6 ∧ 16 * K < ((C : Int) + 2) * (w1 + 1 : Nat) ∧ C ≤ X2 ∧ 8388608 * q + 262144 * (((w1 : Int) + 1) * ((w1 : Int) + 1)) < 65536 * (((X2 : Int) - 5) * ((X2 : Int) - 5)) ∧ (X : Int) ≤ w + 1 ∧ 5 ≤ w ∧ (X2 : Int) ≤ 2 * w + 5 ∧ 0 ≤ q ∧ 10 ≤ X2
/-- ghost: lower ones, all since, first time, minute of the last -/
abbrev GJh : Type := Nat × Nat × Int × Int
def HB (now c dl R lo hi q : Int) (s : SdM) (o : List Int) (l : List NtM) (g : Gh) (j : GJh) : Prop :=
  GB now c dl R lo lo hi s o l g ∧ JE R q (s, o, l) j.1 j.2.2.1 ∧ SL (s, o, l) ∧ ND g.2.1 s.2.1 ∧ (s.1 11 = -1 → 1 ≤ j.1 → NB g.2.1 s.2.1 (j.2.2.2 - 4) ∧ j.2.2.2 ≤ now / 200 ∧ LC g.2.1 j.2.1 j.2.2.1 ∧ j.1 ≤ j.2.1 ∧ j.2.2.1 ≤ now)
def hPt (w now : Int) (v : SV) (L : List EnF) : Int := (PV v : Int) + w * (nuB now L : Int)
/-- a far one: E from two acknowledgments -/
theorem ps_far {s : SdM} {d mi tk K q w : Int} {U g X X2 C w1 : Nat} (hP : PHs K q X X2 C w1 w) (hI : sdB tk s) (hn : s.1 11 = -1) (h5 : 1 ≤ s.1 5) (hx : (U + 1) + 0 ≤ (s.1 5).toNat) (hq : queueM (enterM s d mi) mi < 0) (hg : - (g : Int) ≤ queueM (enterM s d mi) mi) (hgK : 1 + (g : Int) ≤ K) (hE : tE s 0 ≤ 2 * (4194304 * q)) : PS (ackM s d mi) U 0 ≤ PS s (U + 1) 0 + X2 ∨ PS (ackM s d mi) U 0 ≤ PS s (U + 1) 0 + (X + 4) := by
  obtain ⟨c1, c2, c3, c4, c5, c6, c7, c8, c9, c10⟩ := hP
  have t0 := tE_0 s 0
  by_cases hz : tE s 0 = 0
  · right
    obtain ⟨c, q1, q2⟩ := ps_neg0 hI hn h5 hx hq hg hgK c1 c2 hz
    have : c ≤ X + 4 := by omega
    omega
  · left
    have key := ps_negTf (U := U) (C := C) (w1 := w1) hI hn h5 hq hg (by omega) (by omega)
    have hf := ps_f s (U + 1) 0
    rcases key with k | ⟨k, ke⟩
    · omega
    · by_cases hF : (s.1 5).toNat + 4 ≤ X2
      · omega
      · exfalso
        obtain ⟨F, hFF⟩ : ∃ F : Int, s.1 5 = F := ⟨_, rfl⟩
        rw [hFF] at ke hF
        have m := sq_mono (a := (X2 : Int) - 5) (b := F - 2) (by omega) (by omega)
        have x1 : (256 * (F - 2)) * (256 * (F - 2)) = 65536 * ((F - 2) * (F - 2)) := by
          rw [Int.mul_assoc, ← Int.mul_assoc (F - 2) 256, Int.mul_comm (F - 2) 256, Int.mul_assoc 256, ← Int.mul_assoc 256 256]
          rfl
        have x2 : (512 * ((w1 : Int) + 1)) * (512 * ((w1 : Int) + 1)) = 262144 * (((w1 : Int) + 1) * ((w1 : Int) + 1)) := by
          rw [Int.mul_assoc, ← Int.mul_assoc ((w1 : Int) + 1) 512, Int.mul_comm ((w1 : Int) + 1) 512, Int.mul_assoc 512, ← Int.mul_assoc 512 512]
          rfl
        rw [x1, x2] at ke
        omega
section HBA
variable {now c dl R lo hi q K w : Int} {s : SdM} {o : List Int} {l1 l2 : List NtM} {n : NtM} {g : Gh} {j : GJh} {X X2 C w1 : Nat}
theorem HB.ack (hP : PHs K q X X2 C w1 w) (h : HB now c dl R lo hi q s o (l1 ++ n :: l2) g j) (hn : isA n) (ht : n.1 = now) (hl : ∀ a ∈ l1, now < a.1) (hr : ∀ a ∈ l2, now ≤ a.1) (hlp : lsB (l1 ++ l2) (now + R)) (hK : hi - lo + 1 ≤ K) (hq : hi - lo ≤ q) (hR : R ≤ 60) :
    ∃ j2, HB now c dl R lo hi q (ackM s n.2.2.2 (now / 200)) o (l1 ++ l2) (stepG tqB T0B now s.2.1 g n) j2 ∧ hPt w now (ackM s n.2.2.2 (now / 200), o, l1 ++ l2) (stepG tqB T0B now s.2.1 g n).2.1 ≤ hPt w now (s, o, l1 ++ n :: l2) g.2.1 + 5 := by
  obtain ⟨hG, hJ, hSL, hND, hcc⟩ := h
  obtain ⟨cd, ca, yt, ym⟩ := j
  dsimp only at hJ hcc
  obtain ⟨hV, hRg⟩ := hG
  have hF := hV.1
  have hI := hV.2.2.2.2
  have hk := hV.2.2.2.1
  have hS0 := hV.2.2.1
  have hV2 := hV.ack hn ht hl hr
  have hR2 := hRg.ack hn
  have rq := hRg.q hn
  have hst := hV.stor hn ht
  have eg : stepG tqB T0B now s.2.1 g n = (kaN tqB now g.1 n, ackL tqB T0B now n.2.2.2 g.2.1, ackF tqB T0B now s.2.1 g.2.2) := if_pos ⟨ht, hn⟩
  have hgl : (stepG tqB T0B now s.2.1 g n).2.1 = ackL tqB T0B now n.2.2.2 g.2.1 := by rw [eg]
  have e11 : (ackM s n.2.2.2 (now / 200)).1 11 = s.1 11 := ack_o (by decide) (by decide) (by decide)
  have hND2 : ND (stepG tqB T0B now s.2.1 g n).2.1 (ackM s n.2.2.2 (now / 200)).2.1 := by
    rw [hgl]
    exact hND.ack hS0
  have hSL2 : SL (ackM s n.2.2.2 (now / 200), o, l1 ++ l2) := hSL.ack
  have hx := hF.x
  have hF1 := fl_mid hF
  obtain ⟨eu, ef⟩ := ack_uf (s := s) (o := o) (l1 := l1) (l2 := l2) (mi := now / 200) hn
  have nb := nuB_ack (d := n.2.2.2) hS0
  have hw0 : 0 ≤ w := by have := hP.2.2.2.2.2.2.1; omega
  -- the price of what is left
  have nm : ∀ t : Nat, nuB now (ackL tqB T0B now n.2.2.2 g.2.1) + t ≤ nuB now g.2.1 → w * (nuB now (ackL tqB T0B now n.2.2.2 g.2.1) : Int) + w * (t : Int) ≤ w * (nuB now g.2.1 : Int) := by
    intro t ht
    rw [← Int.mul_add]
    exact Int.mul_le_mul_of_nonneg_left (by omega) hw0
  by_cases hs : s.1 11 = -1
  · by_cases hneg : queueM (enterM s n.2.2.2 (now / 200)) (now / 200) < 0
    · have hJ2 : JE R q (ackM s n.2.2.2 (now / 200), o, l1 ++ l2) cd yt := hJ.ackn hI hn hs (by have h5 : s.1 5 = ((o.length + (l1 ++ n :: l2).length : Nat) : Int) := hF.1; omega) hneg
      refine ⟨(cd, ca + 1, yt, ym), ⟨⟨hV2, hR2⟩, hJ2, hSL2, hND2, fun _ h1 => ?_⟩, ?_⟩
      · obtain ⟨c1, c2, c3, c4, c5⟩ := hcc hs h1
        dsimp only at *
        rw [hgl]
        exact ⟨c1.ack (by omega), c2, c3.ack c5, by omega, c5⟩
      · -- the cost
        have hst1 := hst.1
        rw [eg] at hst1
        dsimp only at hst1
        have hin := neg_in hS0 hst1 hneg
        have nb1 := nb.1
        rw [if_pos hin] at nb1
        have w1' := nm 1 nb1
        unfold hPt
        rw [hgl]
        have h5 : 1 ≤ s.1 5 := by
          have h5 : s.1 5 = ((o.length + (l1 ++ n :: l2).length : Nat) : Int) := hF.1
          omega
        have hg : - (((hi - lo).toNat : Nat) : Int) ≤ queueM (enterM s n.2.2.2 (now / 200)) (now / 200) := by omega
        have hPV1 : PV (s, o, l1 ++ n :: l2) = PS s (vU (ackM s n.2.2.2 (now / 200), o, l1 ++ l2) + 1) (vF (ackM s n.2.2.2 (now / 200), o, l1 ++ l2)) := by
          unfold PV
          rw [eu, ef]
        have hPV2 : PV (ackM s n.2.2.2 (now / 200), o, l1 ++ l2) = PS (ackM s n.2.2.2 (now / 200)) (vU (ackM s n.2.2.2 (now / 200), o, l1 ++ l2)) (vF (ackM s n.2.2.2 (now / 200), o, l1 ++ l2)) := rfl
        rw [hPV1, hPV2]
        rw [eu, ef] at hx
        dsimp only at hx
        have hfew : few (l1 ++ n :: l2) → (s.1 5).toNat ≤ vU (ackM s n.2.2.2 (now / 200), o, l1 ++ l2) + 1 + 2 := by
          intro hw
          have h1 : s.1 5 = ((o.length + (l1 ++ n :: l2).length : Nat) : Int) := hF.1
          have h2 : vU (s, o, l1 ++ n :: l2) = o.length + aNl (l1 ++ n :: l2) := rfl
          rw [eu] at h2
          unfold few at hw
          omega
        have ht0 : tE s (vF (s, o, l1 ++ n :: l2)) = tE s (vF (ackM s n.2.2.2 (now / 200), o, l1 ++ l2)) := by rw [ef]
        generalize vU (ackM s n.2.2.2 (now / 200), o, l1 ++ l2) = U at *
        generalize hLf : vF (ackM s n.2.2.2 (now / 200), o, l1 ++ l2) = Lf at *
        have hP2 := hP
        obtain ⟨p1, p2, p3, p4, p5, p6, p7, p8, p9, p10⟩ := hP2
        -- three kinds of cost
        have small : (PS (ackM s n.2.2.2 (now / 200)) U Lf : Int) ≤ (PS s (U + 1) Lf : Int) + (w + 5) → (PS (ackM s n.2.2.2 (now / 200)) U Lf : Int) + w * (nuB now (ackL tqB T0B now n.2.2.2 g.2.1) : Int) ≤ (PS s (U + 1) Lf : Int) + w * (nuB now g.2.1 : Int) + 5 := by
          intro z
          omega
        by_cases hl1 : 1 ≤ Lf
        · have := (ps_negC (U := U) (Lf := Lf) hI hs h5 hx hneg hg).2.2.1 hl1
          exact small (by omega)
        · have hl0 : Lf = 0 := by omega
          subst hl0
          by_cases hw : few (l1 ++ n :: l2)
          · have a := ps_tok (U := U) hI hs h5 hx hneg hg
            have b := hfew hw
            exact small (by omega)
          · by_cases hE : tE s 0 = 0
            · obtain ⟨cc, q1, q2⟩ := ps_neg0 hI hs h5 hx hneg hg (by omega) p1 p2 hE
              exact small (by omega)
            · -- a far one
              rcases hJ hs with ⟨-, z⟩ | ⟨h1, h2, h3⟩
              · rcases z with z | z
                · exact absurd z hw
                · rw [ht0] at z
                  exact absurd z hE
              · have h3 : tE s 0 ≤ cd * (4194304 * q) := by
                  rcases h3 with z | z
                  · exact absurd z hw
                  · rw [← ht0]
                    exact z
                obtain ⟨c1, c2, c3, c4, c5⟩ := hcc hs h1
                have hyt : now ≤ yt + 60 := by
                  apply Decidable.byContradiction
                  intro z
                  refine hw (few_none (fun a ha => ?_))
                  apply Decidable.byContradiction
                  intro y
                  have b : a.1 ≤ yt + R := h2 a ha y
                  rcases List.mem_append.mp ha with x | x
                  · have := hl a x
                    omega
                  · rcases List.mem_cons.mp x with x | x
                    · rw [x] at b
                      omega
                    · have := hr a x
                      omega
                obtain ⟨p, a, b, r, f1, f2, f3, f4, e, he, f5, f6, f7⟩ := SF.neg hst.1 hst.2.1 rfl hneg
                have hNB2 := c1.ack (tq := tqB) (T0 := T0B) (d := n.2.2.2) (now := now) (by omega)
                have heL : e ∈ (stepG tqB T0B now s.2.1 g n).2.1 := by
                  rw [f1]
                  exact List.mem_append_right _ (List.mem_cons_of_mem _ he)
                have fr := neg_far (jm := ym - 4) hst.1 hND2 (by rw [hgl]; exact hNB2) heL f7
                -- among the latest three
                have he3 : e ∈ g.2.1.take 3 := by
                  have q1 := f1
                  rw [hst.2.1] at q1
                  cases p with
                  | nil =>
                    have := (List.cons.inj q1).2
                    rw [this]
                    exact he
                  | cons y p =>
                    have := (List.cons.inj q1).2
                    rw [this]
                    exact List.mem_append_right _ (List.mem_cons_of_mem _ he)
                have hm2 := far_mn2 hS0 he3
                have hca : ca ≤ 2 := by
                  apply Decidable.byContradiction
                  intro z
                  have := c3 e (List.take_subset_take_left g.2.1 (by omega) he3)
                  omega
                have hm0 : now / 200 ≤ mn0 now g.2.1 + 1 := by
                  cases hL : g.2.1 with
                  | nil => rw [hL] at he3; cases he3
                  | cons e0 M =>
                    have e0m : mn0 now (e0 :: M) = e0.1 / 200 := rfl
                    rw [e0m]
                    have := c3 e0 (by
                      rw [hL]
                      obtain ⟨ca', hca'⟩ : ∃ k, ca = k + 1 := ⟨ca - 1, by omega⟩
                      rw [hca', List.take_succ_cons]
                      exact List.mem_cons_self)
                    omega
                have w2' := nm 2 (nb.2 (by omega) hm0)
                have hD : tE s 0 ≤ 2 * (4194304 * q) := by
                  have : (cd : Int) * (4194304 * q) ≤ 2 * (4194304 * q) := Int.mul_le_mul_of_nonneg_right (by omega) (by omega)
                  omega
                rcases ps_far (U := U) hP hI hs h5 hx hneg hg (by omega) hD with z | z <;> omega
    · -- not negative
      have hqq : queueM (enterM s n.2.2.2 (now / 200)) (now / 200) ≤ q + 1 := by omega
      have hJ2 := hJ.ackp (now := now) (mi := now / 200) hI hn hs hP.2.2.2.2.2.2.2.2.1 hqq hlp
      have p5 := (pV_ack (mi := now / 200) hF hI hk hn).2.2.1 (fun _ => by omega)
      refine ⟨(cd + 1, (if cd = 0 then 1 else ca + 1), (if cd = 0 then now else yt), now / 200), ⟨⟨hV2, hR2⟩, hJ2, hSL2, hND2, fun _ h1 => ?_⟩, ?_⟩
      · dsimp only at *
        obtain ⟨jj, vv, n1, n2, n3⟩ := SF.nonneg hst.1 hst.2.1 rfl (by omega)
        refine ⟨fun e he => ⟨jj, vv, n1, n3 e he, by omega⟩, by omega, ?_, ?_, ?_⟩
        · rw [hgl]
          by_cases z : cd = 0
          · rw [if_pos z, if_pos z]
            intro e he
            unfold ackL at he
            rw [List.take_succ_cons, List.take_succ_cons] at he
            simp at he
            rw [he]
            exact Int.le_refl _
          · obtain ⟨c1, c2, c3, c4, c5⟩ := hcc hs (by omega)
            rw [if_neg z, if_neg z]
            exact c3.ack c5
        · by_cases z : cd = 0
          · rw [if_pos z]
            omega
          · obtain ⟨c1, c2, c3, c4, c5⟩ := hcc hs (by omega)
            rw [if_neg z]
            omega
        · by_cases z : cd = 0
          · rw [if_pos z]
            exact Int.le_refl _
          · obtain ⟨c1, c2, c3, c4, c5⟩ := hcc hs (by omega)
            rw [if_neg z]
            exact c5
      · unfold hPt
        rw [hgl]
        have := nm 0 (by have := nb.1; omega)
        omega
  · -- in a slow-down
    have p5 := (pV_ack (mi := now / 200) hF hI hk hn).2.2.1 (fun z => absurd z hs)
    refine ⟨(0, 0, now, 0), ⟨⟨hV2, hR2⟩, ?_, hSL2, hND2, fun z => ?_⟩, ?_⟩
    · intro z
      have z : (ackM s n.2.2.2 (now / 200)).1 11 = -1 := z
      rw [e11] at z
      exact absurd z hs
    · rw [e11] at z
      exact absurd z hs
    · unfold hPt
      rw [hgl]
      have := nm 0 (by have := nb.1; omega)
      omega
end HBA
