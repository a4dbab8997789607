/-! Bounds, ledger by ages: what is kept of a view, event by event -/
abbrev T0C : Int := -4000000
def tm0 (now : Int) : List EnF → Int
  | [] => now
  | e :: _ => e.1
def tm1 (now : Int) : List EnF → Int
  | [] => now
  | [e] => e.1
  | _ :: e :: _ => e.1
def tm2 (now : Int) : List EnF → Int
  | [] => now
  | [e] => e.1
  | [_, e] => e.1
  | _ :: _ :: e :: _ => e.1
theorem tm_ack {now tq T0 d : Int} {L : List EnF} : tm0 now (ackL tq T0 now d L) = now ∧ tm1 now (ackL tq T0 now d L) = tm0 now L ∧ tm2 now (ackL tq T0 now d L) = tm1 now L := by
  unfold ackL
  rw [List.take_succ_cons]
  match L with
  | [] => exact ⟨rfl, rfl, rfl⟩
  | [e] => exact ⟨rfl, rfl, rfl⟩
  | e :: e1 :: M => exact ⟨rfl, rfl, rfl⟩
theorem tm_mn {now : Int} {L : List EnF} : tm2 now L / 200 = mn2 now L := by
  match L with
  | [] => rfl
  | [e] => rfl
  | [_, e] => rfl
  | _ :: _ :: e :: _ => rfl
theorem tm_le {now ka tq T0 : Int} {L : List EnF} {fa : Int → Int} {f : Int → Option Int} {la : List Int} (h : SF now ka tq T0 L fa f la) : tm2 now L ≤ tm1 now L ∧ tm1 now L ≤ tm0 now L ∧ tm0 now L ≤ now := by
  obtain ⟨-, h2, h3, -, -, -, -⟩ := h
  match L, h2, h3 with
  | [], _, _ => exact ⟨Int.le_refl _, Int.le_refl _, Int.le_refl _⟩
  | [e], _, h3 =>
    have := (h3 e List.mem_cons_self).1
    exact ⟨Int.le_refl _, Int.le_refl _, this⟩
  | [e, e1], h2, h3 =>
    have a := (h3 e List.mem_cons_self).1
    rw [List.pairwise_cons] at h2
    have b := (h2.1 e1 List.mem_cons_self).1
    exact ⟨Int.le_refl _, b, a⟩
  | e :: e1 :: e2 :: M, h2, h3 =>
    have a := (h3 e List.mem_cons_self).1
    rw [List.pairwise_cons, List.pairwise_cons] at h2
    have b := (h2.1 e1 List.mem_cons_self).1
    have c := (h2.2.1 e2 List.mem_cons_self).1
    exact ⟨c, b, a⟩
theorem tm_nxt {now : Int} {L : List EnF} : L = [] ∨ (tm0 (now + 1) L = tm0 now L ∧ tm1 (now + 1) L = tm1 now L ∧ tm2 (now + 1) L = tm2 now L) := by
  match L with
  | [] => exact Or.inl rfl
  | [e] => exact Or.inr ⟨rfl, rfl, rfl⟩
  | [e, e1] => exact Or.inr ⟨rfl, rfl, rfl⟩
  | e :: e1 :: e2 :: M => exact Or.inr ⟨rfl, rfl, rfl⟩
/-- acknowledgments among the latest three since ts -/
def ndP (now ts : Int) (L : List EnF) : Int := (if ts ≤ tm0 now L then 1 else 0) + (if ts ≤ tm1 now L then 1 else 0) + (if ts ≤ tm2 now L then 1 else 0)
/-- ts: the last time a packet was sent: E has come from acknowledgments since; D: what each may add -/
def TSI (now ts D : Int) (s : SdM) (l : List NtM) (L : List EnF) : Prop := ts ≤ now ∧ (∀ n ∈ l, ¬ isA n → n.1 ≤ ts + 200) ∧ (tE s (lFl (s.1 9) l) ≤ D * ndP now ts L ∨ ts ≤ tm2 now L)
theorem nd_0 {now ts : Int} {L : List EnF} : 0 ≤ ndP now ts L := by
  unfold ndP
  split <;> split <;> split <;> omega
def CA (now c dl tq R lo hi jg ts D : Int) (i : Nat) (s : SdM) (o : List Int) (l : List NtM) (g : Gh) : Prop := VM now c dl tq T0C R s o l g ∧ RG now lo hi s l ∧ AJ now tq jg g.2.1 g.2.2 s.2.1 ∧ IX now tq jg i g.2.1 ∧ TSI now ts D s l g.2.1
section CAS
variable {now c dl tq R lo hi jg ts D : Int} {i : Nat} {s : SdM} {o : List Int} {l l1 l2 : List NtM} {n : NtM} {g : Gh}
theorem TSI.same {s2 : SdM} {L : List EnF} (h : TSI now ts D s l L) (h2 : tE s2 (lFl (s2.1 9) l) ≤ tE s (lFl (s.1 9) l)) : TSI now ts D s2 l L := by
  obtain ⟨t1, t2, t3⟩ := h
  refine ⟨t1, t2, ?_⟩
  rcases t3 with q | q
  · left; omega
  · exact Or.inr q
theorem CA.lost (h : CA now c dl tq R lo hi jg ts D i s o (l1 ++ n :: l2) g) (hn : ¬ isA n) : CA now c dl tq R lo hi jg ts D i (lostM s n.2.2.2) o (l1 ++ l2) g := by
  obtain ⟨h1, h2, h3, h4, t1, t2, t3⟩ := h
  have hI := h1.2.2.2.2
  have hk := h1.2.2.2.1
  have hm := mW_256 hI hk
  refine ⟨h1.lost hn, h2.lost, h3, h4, t1, fun b hb => t2 b (mid_mem hb), ?_⟩
  rcases t3 with q | q
  · left
    by_cases y : n.2.2.2 < s.1 9
    · have e := vF_stale (o := o) (l1 := l1) (l2 := l2) y
      have e : lFl (s.1 9) (l1 ++ n :: l2) = lFl ((lostM s n.2.2.2).1 9) (l1 ++ l2) := e
      have := tE_stale (Lf := lFl (s.1 9) (l1 ++ n :: l2)) y (show 0 ≤ mW s by omega)
      rw [← e]
      omega
    · have e := vF_fresh (o := o) h1.1 hn y
      have e1 : lFl ((lostM s n.2.2.2).1 9) (l1 ++ l2) = 0 := e.1
      have e2 : lFl (s.1 9) (l1 ++ n :: l2) = lFl (s.1 9) (l1 ++ l2) + 1 := e.2
      have := tE_fresh (Lf := lFl (s.1 9) (l1 ++ l2)) hI hk y
      rw [e1]
      rw [e2] at q
      omega
  · exact Or.inr q
theorem CA.ack {Q : Int} (h : CA now c dl tq R lo hi jg ts D i s o (l1 ++ n :: l2) g) (hn : isA n) (ht : n.1 = now) (hl : ∀ a ∈ l1, now < a.1) (hr : ∀ a ∈ l2, now ≤ a.1) (hQ : hi - lo ≤ Q) (hQ0 : 0 ≤ Q) (hD : D = 4194304 * Q) : CA now c dl tq R lo hi jg ts D (ixP now tq jg i g.2.1) (ackM s n.2.2.2 (now / 200)) o (l1 ++ l2) (stepG tq T0C now s.2.1 g n) := by
  obtain ⟨h1, h2, h3, h4, t1, t2, t3⟩ := h
  have hI := h1.2.2.2.2
  have hk := h1.2.2.2.1
  have hS := h1.2.2.1
  have rq := h2.q hn
  have eg : stepG tq T0C now s.2.1 g n = (kaN tq now g.1 n, ackL tq T0C now n.2.2.2 g.2.1, ackF tq T0C now s.2.1 g.2.2) := if_pos ⟨ht, hn⟩
  refine ⟨h1.ack hn ht hl hr, h2.ack hn, ?_, ?_, t1, fun b hb => t2 b (mid_mem hb), ?_⟩
  · rw [eg]
    exact h3.ack hS
  · rw [eg]
    exact h4.ack hS
  · rw [eg]
    dsimp only
    obtain ⟨a0, a1, a2⟩ := tm_ack (now := now) (tq := tq) (T0 := T0C) (d := n.2.2.2) (L := g.2.1)
    have tl := tm_le hS
    have e9 : lFl ((ackM s n.2.2.2 (now / 200)).1 9) (l1 ++ l2) = lFl (s.1 9) (l1 ++ n :: l2) := ((ack_uf (s := s) (o := o) (l1 := l1) (l2 := l2) (mi := now / 200) hn).2).symm
    rw [e9]
    have te : tE (ackM s n.2.2.2 (now / 200)) (lFl (s.1 9) (l1 ++ n :: l2)) ≤ tE s (lFl (s.1 9) (l1 ++ n :: l2)) + D := by
      by_cases q : s.1 11 = -1
      · have := tE_ackd (d := n.2.2.2) (mi := now / 200) (Lf := lFl (s.1 9) (l1 ++ n :: l2)) hI q hQ0 (by omega)
        omega
      · have := tE_acks (d := n.2.2.2) (mi := now / 200) (Lf := lFl (s.1 9) (l1 ++ n :: l2)) hI hk q
        omega
    rw [a2]
    by_cases q : ts ≤ tm1 now g.2.1
    · exact Or.inr q
    · left
      rcases t3 with z | z
      · unfold ndP at z ⊢
        rw [a0, a1, a2]
        rw [if_neg q, if_neg (show ¬ ts ≤ tm2 now g.2.1 by omega)] at z
        rw [if_pos t1, if_neg q]
        split at z
        · rw [if_pos ‹_›]
          omega
        · rw [if_neg ‹_›]
          omega
      · omega
theorem CA.snd {k : Nat} {b : Bool} {ar : Int} (h : CA now c dl tq R lo hi jg ts D i s o l g) (hw : wantsM s) (har : ar ≤ now + 200) (hD : 0 ≤ D) : CA now c dl tq R lo hi jg now D i (snd1 now ar k b (s, o, l)).1 (snd1 now ar k b (s, o, l)).2.1 (snd1 now ar k b (s, o, l)).2.2 g := by
  obtain ⟨h1, h2, h3, h4, t1, t2, t3⟩ := h
  have hk := h1.2.2.2.1
  have h0 : 0 ≤ s.1 5 := by
    have := h1.2.2.2.2
    unfold sdB at this
    omega
  have t0 : ∀ Lf, tE (snd1 now ar k b (s, o, l)).1 Lf = 0 := fun Lf => tE_sent hk hw h0
  refine ⟨h1.snd hw, ?_, h3, h4, Int.le_refl _, ?_, ?_⟩
  · cases b with
    | true => exact h2.same rfl
    | false => exact RG.app (h2.same (s2 := sentM s) rfl) (fun z => absurd z (show ¬ (1 : Int) = 0 by decide))
  · intro a ha hA
    cases b with
    | true =>
      have := t2 a ha hA
      omega
    | false =>
      rcases List.mem_append.mp ha with w | w
      · have := t2 a w hA
        omega
      · rw [List.mem_singleton] at w
        rw [w]
        exact har
  · left
    rw [t0]
    exact Int.mul_nonneg hD nd_0
theorem CA.fin {k : Nat} {z : Bool} {fw bk : Int} (h : CA now c dl tq R lo hi jg ts D i s o l g) (hz : z = true → o ≠ []) (hc : c = bk - s.1 2) (hd : dl = fw + s.1 2) (hR : R = fw + bk) (hr : z = true → ∀ x t, o = x :: t → lo ≤ now + fw - x + s.1 2 ∧ now + fw - x + s.1 2 ≤ hi) : CA now c dl tq R lo hi jg ts D i (finV (now + fw) (now + fw + bk) k z (s, o, l)).1 (finV (now + fw) (now + fw + bk) k z (s, o, l)).2.1 (finV (now + fw) (now + fw + bk) k z (s, o, l)).2.2 g := by
  obtain ⟨h1, h2, h3, h4, t1, t2, t3⟩ := h
  have hV2 := VM.fin (k := k) (z := z) h1 hz hc hd hR
  cases z with
  | false => exact ⟨h1, h2, h3, h4, t1, t2, t3⟩
  | true =>
    cases ho : o with
    | nil => exact absurd ho (hz rfl)
    | cons x t =>
      rw [ho] at hV2
      rw [fin_t (du := now + fw) (ar := now + fw + bk) (k := k) (x := x) (t := t) (v := (s, x :: t, l)) rfl] at hV2 ⊢
      refine ⟨hV2, RG.app h2 (fun _ => hr rfl x t ho), h3, h4, t1, fun a ha hA => ?_, ?_⟩
      · rcases List.mem_append.mp ha with w | w
        · exact t2 a w hA
        · rw [List.mem_singleton] at w
          rw [w] at hA
          exact absurd rfl hA
      · have e : lFl (s.1 9) (l ++ [(now + fw + bk, k, (0 : Int), now + fw - x + s.1 2)]) = lFl (s.1 9) l := by
          rw [lFl_app, if_neg (fun q => q.1 rfl)]
          rfl
        show tE s (lFl (s.1 9) (l ++ [(now + fw + bk, k, (0 : Int), now + fw - x + s.1 2)])) ≤ _ ∨ _
        rw [e]
        exact t3
theorem RG.endsR (h : RG now lo hi s l) : RG now lo hi (endsM s now) l := by
  refine RG.only h ?_ ?_
  · unfold endsM
    split
    · rfl
    · split <;> rfl
  · intro j v hj
    unfold endsM at hj
    split at hj
    · exact hj
    · split at hj
      · exact hj
      · exact only_sub hj
theorem CA.begins {iv : Int} (h : CA now c dl tq R lo hi jg ts D i s o l g) (h0 : 0 ≤ now) : CA now c dl tq R lo hi jg ts D i (beginsM s now iv) o l g := by
  obtain ⟨h1, h2, h3, h4, h5⟩ := h
  have e2 : (beginsM s now iv).2 = s.2 := by
    unfold beginsM
    split <;> rfl
  refine ⟨h1.begins h0, RG.same h2 e2, ?_, h4, h5.same ?_⟩
  · rw [e2]
    exact h3
  · rw [tE_begins h0, begins_o (by decide) (by decide) (by decide)]
    exact Int.le_refl _
/-- a slow-down's end: minutes may be dropped -/
theorem CA.ends {cS : Nat → Int} {W : Int} (hc : CSP cS) (hW : 0 ≤ W) (h : CA now c dl tq R lo hi jg ts D i s o l g) : ∃ jg2 i2, CA now c dl tq R lo hi jg2 ts D i2 (endsM s now) o l g ∧ PT cS W now tq jg2 g.2.1 + (if i2 = i then 0 else cvI cS W i) ≤ PT cS W now tq jg g.2.1 ∧ (i2 = i ∨ i2 = 0) ∧ jg ≤ jg2 := by
  obtain ⟨h1, h2, h3, h4, h5⟩ := h
  have t5 : TSI now ts D (endsM s now) l g.2.1 := h5.same (by rw [tE_ends, ends_o (by decide) (by decide) (by decide)]; exact Int.le_refl _)
  have stay : (endsM s now).2.1 = s.2.1 → ∃ jg2 i2, CA now c dl tq R lo hi jg2 ts D i2 (endsM s now) o l g ∧ PT cS W now tq jg2 g.2.1 + (if i2 = i then 0 else cvI cS W i) ≤ PT cS W now tq jg g.2.1 ∧ (i2 = i ∨ i2 = 0) ∧ jg ≤ jg2 := by
    intro e
    refine ⟨jg, i, ⟨h1.ends, h2.endsR, by rw [e]; exact h3, h4, t5⟩, ?_, Or.inl rfl, Int.le_refl _⟩
    rw [if_pos rfl]
    omega
  by_cases q : s.1 11 = -1
  · refine stay ?_
    unfold endsM
    rw [if_pos q]
  · by_cases q2 : now < s.1 11
    · refine stay ?_
      unfold endsM
      rw [if_neg q, if_pos q2]
    · have e : (endsM s now).2.1 = onlyM s.2.1 (now / 200) := by
        unfold endsM
        rw [if_neg q, if_neg q2]
      by_cases hf : (s.2.1 (now / 200)).isSome = true
      · have hS := h1.2.2.1
        have h3' := h3.only hS hf
        by_cases y : jg < now / 200
        · obtain ⟨p1, p2⟩ := PT_only hc hW hS hf y h4
          refine ⟨now / 200, 0, ⟨h1.ends, h2.endsR, by rw [e]; exact h3', p2, t5⟩, ?_, Or.inr rfl, by omega⟩
          have := cvI_0 hc hW h4.2.1
          split <;> omega
        · have ej : jg = now / 200 := by
            have := h3.2.1
            omega
          refine ⟨jg, i, ⟨h1.ends, h2.endsR, by rw [e, ej]; exact h3', h4, t5⟩, ?_, Or.inl rfl, Int.le_refl _⟩
          rw [if_pos rfl]
          omega
      · refine stay ?_
        rw [e]
        exact AJ.only0 hf
/-- a tick more -/
theorem CA.nxt {cS : Nat → Int} {W : Int} (hc : CSP cS) (hW : 0 ≤ W) (h : CA now c dl tq R lo hi jg ts D i s o l g) : CA (now + 1) c dl tq R lo hi (jgN now jg g.2.1) ts D (iN now tq jg i g.2.1) s o l g ∧ PT cS W (now + 1) tq (jgN now jg g.2.1) g.2.1 + (if iN now tq jg i g.2.1 = i then 0 else cvI cS W i) ≤ PT cS W now tq jg g.2.1 + 128 := by
  obtain ⟨h1, h2, h3, h4, t1, t2, t3⟩ := h
  have hS := h1.2.2.1
  obtain ⟨p1, p2⟩ := PT_nxt hc hW hS h4
  refine ⟨⟨h1.nxt, h2.nxt, ?_, p2, by omega, t2, ?_⟩, p1⟩
  · unfold jgN
    by_cases q : mn0 (now + 1) g.2.1 < (now + 1) / 200 - 4
    · rw [if_pos q]
      exact h3.nxt.reset hS.nxt q
    · rw [if_neg q]
      exact h3.nxt
  · rcases tm_nxt (now := now) (L := g.2.1) with e | e
    · right
      rw [e]
      show ts ≤ now + 1
      omega
    · unfold ndP at t3 ⊢
      rw [e.1, e.2.1, e.2.2]
      exact t3
end CAS
