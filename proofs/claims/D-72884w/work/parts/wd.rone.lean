/-! Bounds, way there and back one tick: no loss is on its way at an acknowledgment, so a negative one costs 8 packets at most -/
/-- acknowledgments only last -/
def NAL (l : List NtM) : Prop := ∀ l1 n l2, l = l1 ++ n :: l2 → isA n → l2 = []
theorem NAL.none {l : List NtM} (h : ∀ a ∈ l, ¬ isA a) : NAL l := by
  intro l1 n l2 e z
  exact absurd z (h n (by rw [e]; exact List.mem_append_right _ List.mem_cons_self))
theorem NAL.last {l : List NtM} {x : NtM} (h : ∀ a ∈ l, ¬ isA a) : NAL (l ++ [x]) := by
  intro l1 n l2 e z
  rcases List.eq_nil_or_concat l2 with q | ⟨L, b, q⟩
  · exact q
  · exfalso
    rw [q, List.concat_eq_append] at e
    have e2 : l ++ [x] = (l1 ++ n :: L) ++ [b] := by
      rw [e]
      simp
    have e3 := (List.append_inj' e2 rfl).1
    exact h n (by rw [e3]; exact List.mem_append_right _ List.mem_cons_self) z
theorem NAL.tail {n : NtM} {l : List NtM} (h : NAL (n :: l)) : NAL l := fun l1 m l2 e z => h (n :: l1) m l2 (by rw [e]; rfl) z
def P1 (now : Int) (v : SV) (L : List EnF) : Int := (PV v : Int) + 5 * (aNl v.2.2 : Int) + 3 * (nuP now L : Int)
theorem fr_0 {now : Int} : ∀ (t : List NtM) (s : SdM), (∀ a ∈ t, ¬ isA a → a.2.2.2 < s.1 9) → frN now s t = 0 := by
  intro t
  induction t with
  | nil => intro s _; rfl
  | cons n t ih =>
    intro s h
    have ef : frN now s (n :: t) = (if n.1 = now ∧ ¬ isA n ∧ ¬ n.2.2.2 < s.1 9 then 1 else 0) + frN now (hndS now s n) t := rfl
    rw [ef, if_neg (fun y => y.2.2 (h n List.mem_cons_self y.2.1))]
    have e9 : (hndS now s n).1 9 = s.1 9 := by
      by_cases e : n.1 = now
      · have eh : hndS now s n = reachM s n.2.2.1 n.2.2.2 (now / 200) := if_pos e
        rw [eh]
        by_cases z : isA n
        · have er : reachM s n.2.2.1 n.2.2.2 (now / 200) = ackM s n.2.2.2 (now / 200) := if_pos z
          rw [er]
          exact ack_o (by decide) (by decide) (by decide)
        · have er : reachM s n.2.2.1 n.2.2.2 (now / 200) = lostM s n.2.2.2 := if_neg z
          rw [er]
          exact lost_9s (h n List.mem_cons_self z)
      · have eh : hndS now s n = s := if_neg e
        rw [eh]
    rw [ih (hndS now s n) (fun a ha hz => by rw [e9]; exact h a (List.mem_cons_of_mem _ ha) hz)]
theorem fr_1 {now : Int} : ∀ (t : List NtM) (s : SdM), (∀ a ∈ t, ¬ isA a → a.2.2.2 < s.1 6) → frN now s t ≤ 1 := by
  intro t
  induction t with
  | nil => intro s _; exact Nat.zero_le _
  | cons n t ih =>
    intro s h
    have ef : frN now s (n :: t) = (if n.1 = now ∧ ¬ isA n ∧ ¬ n.2.2.2 < s.1 9 then 1 else 0) + frN now (hndS now s n) t := rfl
    rw [ef]
    have e6 : (hndS now s n).1 6 = s.1 6 := hnd_6 (now := now) [n] s
    by_cases y : n.1 = now ∧ ¬ isA n ∧ ¬ n.2.2.2 < s.1 9
    · rw [if_pos y]
      have eh : hndS now s n = reachM s n.2.2.1 n.2.2.2 (now / 200) := if_pos y.1
      have er : reachM s n.2.2.1 n.2.2.2 (now / 200) = lostM s n.2.2.2 := if_neg y.2.1
      have e9 : (hndS now s n).1 9 = s.1 6 := by
        rw [eh, er]
        exact lost_9f y.2.2
      rw [fr_0 t (hndS now s n) (fun a ha hz => by rw [e9]; exact h a (List.mem_cons_of_mem _ ha) hz)]
      exact Nat.le_refl _
    · rw [if_neg y, Nat.zero_add]
      exact ih (hndS now s n) (fun a ha hz => by rw [e6]; exact h a (List.mem_cons_of_mem _ ha) hz)
section RONE
variable {now c dl R F : Int} {o : List Int}
theorem R1.ack {s : SdM} {n : NtM} {g : Gh} (hFF : 16384 ≤ F) (h : VM now c dl tqB T0B R s o [n] g) (hn : isA n) (ht : n.1 = now) : VM now c dl tqB T0B R (ackM s n.2.2.2 (now / 200)) o [] (stepG tqB T0B now s.2.1 g n) ∧ P1 now (ackM s n.2.2.2 (now / 200), o, []) (stepG tqB T0B now s.2.1 g n).2.1 + 2 * (grw F now s n : Int) ≤ P1 now (s, o, [n]) g.2.1 := by
  have h : VM now c dl tqB T0B R s o ([] ++ n :: []) g := h
  have hF := h.1
  have hI := h.2.2.2.2
  have hk := h.2.2.2.1
  have hS := h.2.2.1
  have hst := (h.stor hn ht).1
  have hx := hF.x
  have hF1 := fl_mid hF
  have h2 := h.ack hn ht (fun a ha => by cases ha) (fun a ha => by cases ha)
  obtain ⟨eu, ef⟩ := ack_uf (s := s) (o := o) (l1 := []) (l2 := []) (mi := now / 200) hn
  rw [eu, ef] at hx
  have eg : stepG tqB T0B now s.2.1 g n = (kaN tqB now g.1 n, ackL tqB T0B now n.2.2.2 g.2.1, ackF tqB T0B now s.2.1 g.2.2) := if_pos ⟨ht, hn⟩
  refine ⟨h2, ?_⟩
  rw [eg] at hst ⊢
  dsimp only at hst ⊢
  have hn1 := nuP_ack (d := n.2.2.2) hS
  have hn0 : n.2.2.1 = 0 := hn
  have ea : aNl (([] : List NtM) ++ n :: []) = 1 := by
    rw [aNl_mid, if_pos hn0]
    rfl
  have h5 : 1 ≤ s.1 5 := by omega
  have eF0 : vF (ackM s n.2.2.2 (now / 200), o, ([] : List NtM) ++ []) = 0 := rfl
  have eU0 : vU (ackM s n.2.2.2 (now / 200), o, ([] : List NtM) ++ []) = o.length := rfl
  have f5 : s.1 5 = ((o.length + (([] : List NtM) ++ n :: []).length : Nat) : Int) := hF.1
  have f5 : s.1 5 = (o.length : Int) + 1 := f5
  have p : P1 now (s, o, [n]) g.2.1 = (PV (s, o, ([] : List NtM) ++ n :: []) : Int) + 5 * (aNl (([] : List NtM) ++ n :: []) : Int) + 3 * (nuP now g.2.1 : Int) := rfl
  have p' : P1 now (ackM s n.2.2.2 (now / 200), o, []) (ackL tqB T0B now n.2.2.2 g.2.1) = (PS (ackM s n.2.2.2 (now / 200)) (vU (ackM s n.2.2.2 (now / 200), o, ([] : List NtM) ++ [])) (vF (ackM s n.2.2.2 (now / 200), o, ([] : List NtM) ++ [])) : Int) + 5 * ((0 : Nat) : Int) + 3 * (nuP now (ackL tqB T0B now n.2.2.2 g.2.1) : Int) := rfl
  rw [p, p', ea]
  unfold PV
  rw [eu, ef]
  dsimp only at *
  by_cases hneg : s.1 11 = -1 ∧ queueM (enterM s n.2.2.2 (now / 200)) (now / 200) < 0
  · have hin := neg_in hS hst hneg.2
    rw [if_pos hin] at hn1
    rw [grw_neg hneg.2]
    have tk := ps_tok (U := vU (ackM s n.2.2.2 (now / 200), o, ([] : List NtM) ++ [])) (g := (- queueM (enterM s n.2.2.2 (now / 200)) (now / 200)).toNat) hI hneg.1 h5 (by rw [eU0]; omega) hneg.2 (by omega)
    rw [eF0]
    rw [eU0] at tk ⊢
    omega
  · have hq : s.1 11 = -1 → 0 ≤ queueM (enterM s n.2.2.2 (now / 200)) (now / 200) := by
      intro z
      have : ¬ queueM (enterM s n.2.2.2 (now / 200)) (now / 200) < 0 := fun y => hneg ⟨z, y⟩
      omega
    have hle : nuP now (ackL tqB T0B now n.2.2.2 g.2.1) ≤ nuP now g.2.1 := by omega
    rcases grw_01 (F := F) (now := now) (s := s) (n := n) with gq | gq
    · rw [gq]
      have p5 := ps_ack (d := n.2.2.2) (mi := now / 200) hI hx hk hq
      omega
    · rw [gq]
      obtain ⟨gs, gq0, hgr⟩ := grw_1 gq
      have lv := (lvS_ack (d := n.2.2.2) (mi := now / 200) hI hq).1
      have z : 8192 ≤ lvS s := by
        unfold lvF lvE at hgr
        unfold lvS at lv ⊢
        omega
      have p3 := ps_ack3 (d := n.2.2.2) (mi := now / 200) (U := vU (ackM s n.2.2.2 (now / 200), o, ([] : List NtM) ++ [])) (Lf := vF (ackM s n.2.2.2 (now / 200), o, ([] : List NtM) ++ [])) hI h5 hq z
      omega
theorem R1.hnd (hFF : 16384 ≤ F) (hnow : now ≤ tqB) : ∀ (t : List NtM) (s : SdM) (g : Gh), VM now c dl tqB T0B R s o t g → (∀ a ∈ t, a.1 = now) → NAL t →
    ∃ g2, VM now c dl tqB T0B R (t.foldl (hndS now) s) o [] g2 ∧ P1 now (t.foldl (hndS now) s, o, []) g2.2.1 + 2 * (grN F now s t : Int) ≤ P1 now (s, o, t) g.2.1 + (frN now s t : Int) ∧ g2.1 = g.1 := by
  intro t
  induction t with
  | nil =>
    intro s g h _ _
    refine ⟨g, h, ?_, rfl⟩
    show P1 now (s, o, []) g.2.1 + 2 * ((0 : Nat) : Int) ≤ P1 now (s, o, []) g.2.1 + ((0 : Nat) : Int)
    omega
  | cons n t ih =>
    intro s g h ht hN
    rw [List.foldl_cons]
    have ef : frN now s (n :: t) = (if n.1 = now ∧ ¬ isA n ∧ ¬ n.2.2.2 < s.1 9 then 1 else 0) + frN now (hndS now s n) t := rfl
    have eN : grN F now s (n :: t) = grw F now s n + grN F now (hndS now s n) t := rfl
    rw [ef, eN]
    have e : n.1 = now := ht n List.mem_cons_self
    have eh : hndS now s n = reachM s n.2.2.1 n.2.2.2 (now / 200) := if_pos e
    by_cases z : isA n
    · have er : reachM s n.2.2.1 n.2.2.2 (now / 200) = ackM s n.2.2.2 (now / 200) := if_pos z
      have e0 : t = [] := hN [] n t rfl z
      subst e0
      rw [eh, er]
      obtain ⟨h2, p2⟩ := R1.ack hFF h z e
      refine ⟨_, h2, ?_, stepG_1 hnow⟩
      have e1 : grN F now (ackM s n.2.2.2 (now / 200)) [] = 0 := rfl
      have e2 : frN now (ackM s n.2.2.2 (now / 200)) [] = 0 := rfl
      rw [e1, e2]
      show P1 now (ackM s n.2.2.2 (now / 200), o, []) _ + _ ≤ _
      omega
    · have er : reachM s n.2.2.1 n.2.2.2 (now / 200) = lostM s n.2.2.2 := if_neg z
      rw [eh, er, grw_no (fun y => z y.2)]
      have h : VM now c dl tqB T0B R s o ([] ++ n :: t) g := h
      have h2 : VM now c dl tqB T0B R (lostM s n.2.2.2) o ([] ++ t) g := h.lost z
      have p := (pV_lost h.1 h.2.2.2.2 h.2.2.2.1 z).1
      obtain ⟨g3, h3, p3, q3⟩ := ih (lostM s n.2.2.2) g h2 (fun a ha => ht a (List.mem_cons_of_mem _ ha)) hN.tail
      refine ⟨g3, h3, ?_, q3⟩
      have ea : aNl (([] : List NtM) ++ n :: t) = aNl (([] : List NtM) ++ t) := by
        have z : ¬ n.2.2.1 = 0 := z
        rw [aNl_mid, if_neg z]
        rfl
      have p1 : P1 now (s, o, n :: t) g.2.1 = (PV (s, o, ([] : List NtM) ++ n :: t) : Int) + 5 * (aNl (([] : List NtM) ++ n :: t) : Int) + 3 * (nuP now g.2.1 : Int) := rfl
      have p2 : P1 now (lostM s n.2.2.2, o, t) g.2.1 = (PV (lostM s n.2.2.2, o, ([] : List NtM) ++ t) : Int) + 5 * (aNl (([] : List NtM) ++ t) : Int) + 3 * (nuP now g.2.1 : Int) := rfl
      rw [ea] at p1
      by_cases y : n.2.2.2 < s.1 9
      · rw [if_pos y] at p
        rw [if_neg (fun w => w.2.2 y)]
        omega
      · rw [if_neg y] at p
        rw [if_pos ⟨e, z, y⟩]
        omega
theorem R1.snds {k : Nat} {ar : Int} {g : Gh} : ∀ (bs : List Bool) (v : SV), VM now c dl tqB T0B R v.1 v.2.1 v.2.2 g → sndOK now ar k bs v → VM now c dl tqB T0B R (sndV now ar k bs v).1 (sndV now ar k bs v).2.1 (sndV now ar k bs v).2.2 g ∧ (PV (sndV now ar k bs v) : Int) + (bs.length : Int) ≤ (PV v : Int) := by
  intro bs
  induction bs with
  | nil =>
    intro v h _
    refine ⟨h, ?_⟩
    show (PV v : Int) + ((0 : Nat) : Int) ≤ _
    omega
  | cons b bs ih =>
    intro v h ho
    obtain ⟨hw, ho⟩ := ho
    have h2 : VM now c dl tqB T0B R (snd1 now ar k b v).1 (snd1 now ar k b v).2.1 (snd1 now ar k b v).2.2 g := VM.snd (k := k) (b := b) (ar := ar) h hw
    have p2 := (pV_snd1 (now := now) (ar := ar) (k := k) (b := b) h.1 h.2.2.2.1 hw).1
    have p2 : PV (snd1 now ar k b v) + 1 ≤ PV v := p2
    obtain ⟨h3, p3⟩ := ih (snd1 now ar k b v) h2 ho
    refine ⟨h3, ?_⟩
    have p3 : (PV (sndV now ar k (b :: bs) v) : Int) + (bs.length : Int) ≤ (PV (snd1 now ar k b v) : Int) := p3
    rw [List.length_cons]
    push_cast
    omega
/-- between ticks -/
def R1 (now c dl R : Int) (v : SV) (g : Gh) : Prop := VM now c dl tqB T0B R v.1 v.2.1 v.2.2 g ∧ (∀ n ∈ v.2.2, n.1 = now + 1) ∧ NAL v.2.2 ∧ GR g
theorem R1.tick {fw bk iv : Int} {v : SV} {g : Gh} {k : Nat} {bs : List Bool} {z : Bool} (hFF : 16384 ≤ F) (h : R1 now c dl R v g) (h0 : 0 ≤ now + 1) (hnow : now + 1 ≤ tqB) (h1R : fw + bk = 1) (hc : c = bk - v.1.1 2) (hd : dl = fw + v.1.1 2) (hRR : R = fw + bk)
    (hs : sndOK (now + 1) (now + 1 + fw + bk) k bs (slowM (hndV (now + 1) v).1 (now + 1) iv, (hndV (now + 1) v).2)) (hz : z = true → (sndV (now + 1) (now + 1 + fw + bk) k bs (slowM (hndV (now + 1) v).1 (now + 1) iv, (hndV (now + 1) v).2)).2.1 ≠ []) :
    ∃ g2, R1 (now + 1) c dl R (finV (now + 1 + fw) (now + 1 + fw + bk) k z (sndV (now + 1) (now + 1 + fw + bk) k bs (slowM (hndV (now + 1) v).1 (now + 1) iv, (hndV (now + 1) v).2))) g2 ∧ P1 (now + 1) (finV (now + 1 + fw) (now + 1 + fw + bk) k z (sndV (now + 1) (now + 1 + fw + bk) k bs (slowM (hndV (now + 1) v).1 (now + 1) iv, (hndV (now + 1) v).2))) g2.2.1 + (bs.length : Int) + 2 * (grN F (now + 1) v.1 v.2.2 : Int) ≤ P1 now v g.2.1 + 1 + (bgN (endsM (hndV (now + 1) v).1 (now + 1)) (now + 1) iv : Int) + (if z = true then 5 else 0) + 6 * ((now + 1) / 200 - now / 200) := by
  obtain ⟨hV, hp, hN, hGR⟩ := h
  have nx := nuP_nxt hV.2.2.1
  obtain ⟨g2, h2, p2, k5⟩ := R1.hnd hFF hnow v.2.2 v.1 g hV.nxt hp hN
  have fr := fr_1 (now := now + 1) v.2.2 v.1 (fun a ha hz => hV.1.2.2 a ha hz)
  have e2 : hndV (now + 1) v = (v.2.2.foldl (hndS (now + 1)) v.1, v.2.1, v.2.2.filter (fun n => decide (n.1 ≠ now + 1))) := rfl
  have e3 : v.2.2.filter (fun n => decide (n.1 ≠ now + 1)) = [] := List.filter_eq_nil_iff.mpr (fun a ha w => by
    have := of_decide_eq_true w
    exact this (hp a ha))
  rw [e3] at e2
  rw [e2] at hs hz ⊢
  dsimp only at hs hz ⊢
  generalize hs1 : v.2.2.foldl (hndS (now + 1)) v.1 = s1 at *
  have h3 := h2.ends
  have h4 := h3.begins (iv := iv) h0
  have h4 : VM (now + 1) c dl tqB T0B R (slowM s1 (now + 1) iv) v.2.1 [] g2 := h4
  obtain ⟨h5, p5⟩ := R1.snds (k := k) (ar := now + 1 + fw + bk) bs (slowM s1 (now + 1) iv, v.2.1, []) h4 hs
  have f2 : (slowM s1 (now + 1) iv).1 2 = v.1.1 2 := by
    unfold slowM
    rw [begins_o (by decide) (by decide) (by decide), ends_o (by decide) (by decide) (by decide), ← hs1, hnd_2]
  have pe : PV (endsM s1 (now + 1), v.2.1, ([] : List NtM)) ≤ PV (s1, v.2.1, ([] : List NtM)) := by
    have e9 : (endsM s1 (now + 1)).1 9 = s1.1 9 := ends_o (by decide) (by decide) (by decide)
    have := (ps_ends (tk := now + 1) (U := vU (s1, v.2.1, ([] : List NtM))) (Lf := vF (s1, v.2.1, ([] : List NtM))) h2.2.2.2.1).1
    exact this
  have pb : PV (slowM s1 (now + 1) iv, v.2.1, ([] : List NtM)) ≤ PV (endsM s1 (now + 1), v.2.1, ([] : List NtM)) + bgN (endsM s1 (now + 1)) (now + 1) iv :=
    (ps_begins (U := vU (endsM s1 (now + 1), v.2.1, ([] : List NtM))) (Lf := vF (endsM s1 (now + 1), v.2.1, ([] : List NtM))) h3.2.2.2.2 h0 h3.2.2.2.1).1
  have an0 := aNl_snds (now := now + 1) (ar := now + 1 + fw + bk) (k := k) bs (slowM s1 (now + 1) iv, v.2.1, ([] : List NtM))
  have hall : ∀ a ∈ (sndV (now + 1) (now + 1 + fw + bk) k bs (slowM s1 (now + 1) iv, v.2.1, ([] : List NtM))).2.2, a.1 = now + 1 + fw + bk ∧ ¬ isA a := by
    intro a ha
    rcases snd_mem _ _ _ ha with y | y
    · cases y
    · exact y
  generalize hvs : sndV (now + 1) (now + 1 + fw + bk) k bs (slowM s1 (now + 1) iv, v.2.1, ([] : List NtM)) = vs at *
  have f3 : vs.1.1 2 = v.1.1 2 := by
    rw [← hvs, snd_2]
    exact f2
  have h6 := h5.fin (k := k) (z := z) (fw := fw) (bk := bk) hz (by rw [f3]; exact hc) (by rw [f3]; exact hd) hRR
  have p6 := (pV_fin (du := now + 1 + fw) (ar := now + 1 + fw + bk) (k := k) h5.1 hz).1
  have a6 := aNl_finE (du := now + 1 + fw) (ar := now + 1 + fw + bk) (k := k) hz
  have evs : (vs.1, vs.2.1, vs.2.2) = vs := rfl
  rw [evs] at h6 p6
  refine ⟨g2, ⟨h6, ?_, ?_, by unfold GR at hGR ⊢; rw [k5]; exact hGR⟩, ?_⟩
  · intro a ha
    rcases fin_mem ha with w | w
    · have := (hall a w).1
      omega
    · have := w.1
      omega
  · cases z with
    | false => exact NAL.none (fun a ha => (hall a ha).2)
    | true =>
      cases ho : vs.2.1 with
      | nil => exact absurd ho (hz rfl)
      | cons x t =>
        rw [fin_t ho]
        exact NAL.last (fun a ha => (hall a ha).2)
  · have an0 : aNl vs.2.2 = 0 := an0
    unfold P1 at p2 ⊢
    have z0 : aNl ([] : List NtM) = 0 := rfl
    dsimp only at p2
    rw [z0] at p2
    rw [a6, an0, p6]
    have v1 : (v.1, v.2.1, v.2.2) = v := rfl
    rw [v1] at p2
    by_cases hzz : z = true
    · rw [if_pos hzz, if_pos hzz]
      push_cast
      omega
    · rw [if_neg hzz, if_neg hzz]
      push_cast
      omega
end RONE
def hY1 (now : Int) (v : SV) (L : List EnF) (be : Int) : Int := 61 * P1 now v L + (now - be)
def MR1 (nS : Nat) (m : MS) (y : Nat → Int) : Prop := ∀ k, k < nS → ∃ g be, R1 (mg m 5) (mg m 3 - (ms m k).1 2) (mg m 2 + (ms m k).1 2) (mg m 2 + mg m 3) (vwK k m) g ∧ BG (mg m 5) be (ms m k) ∧ hY1 (mg m 5) (vwK k m) g.2.1 be ≤ y k
section MR1S
variable {nS nC : Nat} {m : MS} {F : Int} {y : Nat → Int}
theorem MR1.tick (hFF : 16384 ≤ F) (h4 : nS ≤ 4) (h : MR1 nS m y) (h0 : 0 ≤ mg m 5 + 1) (hnow : mg m 5 + 1 ≤ tqB) (hR : mg m 2 + mg m 3 = 1) : MR1 nS (tickM nS nC m) (yHG F 2 nS nC m (fun _ => 5) 6 y) := by
  intro k hk
  obtain ⟨g, be, hI, hB, hY⟩ := h k hk
  obtain ⟨bs, z, h1, h2, h3, h5, h6, h7⟩ := tick_vo (nC := nC) hk h4 (m := m)
  obtain ⟨g2, hI2, hY2⟩ := R1.tick (iv := mg m 4) hFF hI h0 hnow hR rfl rfl rfl h1 h6
  have hB1 : BG (mg m 5) be ((hndV (mg m 5 + 1) (vwK k m)).1) := BG.hnd _ _ hB
  obtain ⟨be2, b1, b2⟩ := hB1.slow (iv := mg m 4) (by omega)
  rw [← h2] at hI2 hY2
  have e2 := tick_s2 (nC := nC) hk h4 (m := m)
  have e6 : (ms (tickM nS nC m) k).1 6 = (ms m k).1 6 + bs.length := by
    have : (vwK k (tickM nS nC m)).1.1 6 = (ms m k).1 6 + bs.length := by
      rw [h2, fin_s, snd_6]
      congr 1
      show (slowM (hndV (mg m 5 + 1) (vwK k m)).1 (mg m 5 + 1) (mg m 4)).1 6 = _
      unfold slowM
      rw [begins_o (by decide) (by decide) (by decide), ends_o (by decide) (by decide) (by decide)]
      exact hnd_6 _ _
    exact this
  have hB2 : BG (mg m 5 + 1) be2 (ms (tickM nS nC m) k) := by
    have es : ms (tickM nS nC m) k = (vwK k (tickM nS nC m)).1 := rfl
    rw [es, h2, fin_s]
    exact BG.same b1 (snd_o (by decide) (by decide) bs _) (snd_o (by decide) (by decide) bs _)
  refine ⟨g2, be2, ?_, ?_, ?_⟩
  · rw [tick_g5, tick_g (by decide) (by decide) (by decide) (by decide) (by decide) (by decide), tick_g (by decide) (by decide) (by decide) (by decide) (by decide) (by decide), e2]
    exact hI2
  · rw [tick_g5]
    exact hB2
  · rw [tick_g5]
    have eG : (-61 * ((mg m 2 + mg m 3) * 2)) * (grV F m k : Int) = -122 * (grN F (mg m 5 + 1) (vwK k m).1 (vwK k m).2.2 : Int) := by
      rw [hR]
      rfl
    have hY : 61 * P1 (mg m 5) (vwK k m) g.2.1 + (mg m 5 - be) ≤ y k := hY
    show 61 * P1 (mg m 5 + 1) (vwK k (tickM nS nC m)) g2.2.1 + (mg m 5 + 1 - be2) ≤ _
    unfold yHG yHq
    rw [e6, ← h5, eG, hR, Int.one_mul, Int.one_mul]
    dsimp only
    have e7 : (ms m k).1 6 + (bs.length : Int) - (ms m k).1 6 = bs.length := by omega
    rw [e7]
    generalize P1 (mg m 5 + 1) (vwK k (tickM nS nC m)) g2.2.1 = P2 at *
    generalize P1 (mg m 5) (vwK k m) g.2.1 = P3 at *
    generalize (grN F (mg m 5 + 1) (vwK k m).1 (vwK k m).2.2 : Int) = gr at *
    generalize (bgN (endsM (hndV (mg m 5 + 1) (vwK k m)).1 (mg m 5 + 1)) (mg m 5 + 1) (mg m 4) : Int) = bg at *
    split at hY2 <;> rename_i hz2 <;> split <;> rename_i hz3 <;> omega
theorem MR1.run (hFF : 16384 ≤ F) (h4 : nS ≤ 4) (h : MR1 nS m y) (h0 : 0 ≤ mg m 5 + 1) (hR : mg m 2 + mg m 3 = 1) : ∀ T : Nat, mg m 5 + T ≤ tqB → ∃ y2, MR1 nS (tkN nS nC T m) y2 ∧ sumN y2 nS + 61 * ((mg m 2 + mg m 3) * (sntM nS (tkN nS nC T m) - sntM nS m)) + 61 * ((mg m 2 + mg m 3) * (2 * grT F nS nC T m)) ≤ sumN y nS + 61 * ((mg m 2 + mg m 3) * omT (fun _ => 5) nS nC T m) + nS * (T * (61 + (mg m 2 + mg m 3)) + 61 * ((mg m 2 + mg m 3) * (6 * ((mg m 5 + T) / 200 - mg m 5 / 200)))) := by
  intro T
  induction T with
  | zero =>
    intro _
    refine ⟨y, h, ?_⟩
    have e : tkN nS nC 0 m = m := rfl
    have eo : omT (fun _ => 5) nS nC 0 m = 0 := rfl
    have eg : grT F nS nC 0 m = 0 := rfl
    rw [e, eo, eg, Int.sub_self]
    have : (mg m 5 + ((0 : Nat) : Int)) / 200 - mg m 5 / 200 = 0 := by
      rw [show mg m 5 + ((0 : Nat) : Int) = mg m 5 by omega]
      omega
    rw [this]
    simp
  | succ T ih =>
    intro hT
    obtain ⟨y2, hM, hY⟩ := ih (by omega)
    have g2 := tkN_g (nS := nS) (nC := nC) (m := m) (i := 2) (by decide) (by decide) (by decide) (by decide) (by decide) (by decide) T
    have g3 := tkN_g (nS := nS) (nC := nC) (m := m) (i := 3) (by decide) (by decide) (by decide) (by decide) (by decide) (by decide) T
    have g5 := tkN_5 (nS := nS) (nC := nC) (m := m) T
    have et : tkN nS nC (T + 1) m = tickM nS nC (tkN nS nC T m) := rfl
    have eo : omT (fun _ => 5) nS nC (T + 1) m = omT (fun _ => 5) nS nC T m + 5 * fiB (beginM (midM nS nC (tkN nS nC T m))) := rfl
    have eg : grT F nS nC (T + 1) m = grT F nS nC T m + sumN (fun k => (grV F (tkN nS nC T m) k : Int)) nS := rfl
    rw [et, eo, eg]
    generalize grT F nS nC T m = G1 at *
    generalize omT (fun _ => 5) nS nC T m = W1 at *
    generalize tkN nS nC T m = x at *
    have hM2 := hM.tick (nC := nC) hFF h4 (by rw [g5]; omega) (by rw [g5]; omega) (by rw [g2, g3]; exact hR)
    have hS := yHG_sum (F := F) (cg := 2) (nS := nS) (nC := nC) (m := x) (om := fun _ => 5) (r := 6) (y := y2) (by rw [g2, g3]; omega) (by omega)
    refine ⟨yHG F 2 nS nC x (fun _ => 5) 6 y2, hM2, ?_⟩
    rw [g2, g3, g5] at hS
    generalize hRR : mg m 2 + mg m 3 = R at *
    generalize mg m 5 = a at *
    generalize sumN (yHG F 2 nS nC x (fun _ => 5) 6 y2) nS = Y3 at *
    generalize sumN y2 nS = Y2 at *
    generalize sumN y nS = Y1 at *
    generalize sntM nS (tickM nS nC x) = S3 at *
    generalize sntM nS x = S2 at *
    generalize sntM nS m = S1 at *
    generalize 5 * fiB (beginM (midM nS nC x)) = Fi at *
    generalize sumN (fun k => (grV F x k : Int)) nS = G2 at *
    have eT : a + ((T + 1 : Nat) : Int) = a + T + 1 := by omega
    rw [eT]
    generalize hD1 : (a + (T : Int)) / 200 - a / 200 = D1 at *
    have hD2 : (a + (T : Int) + 1) / 200 - a / 200 = D1 + ((a + (T : Int) + 1) / 200 - (a + (T : Int)) / 200) := by omega
    rw [hD2]
    generalize (a + (T : Int) + 1) / 200 - (a + (T : Int)) / 200 = D2 at *
    have c3 : R * (S3 - S1) = R * (S3 - S2) + R * (S2 - S1) := by
      rw [← Int.mul_add]
      congr 1
      omega
    have c4 : R * (W1 + Fi) = R * W1 + R * Fi := Int.mul_add _ _ _
    have c6 : R * (2 * (G1 + G2)) = R * (2 * G1) + R * (2 * G2) := by rw [Int.mul_add, Int.mul_add]
    have c5 : (nS : Int) * (((T + 1 : Nat) : Int) * (61 + R) + 61 * (R * (6 * (D1 + D2)))) = nS * (T * (61 + R) + 61 * (R * (6 * D1))) + nS * (61 * (R * (6 * D2)) + 61 + R) := by
      rw [← Int.mul_add]
      congr 1
      push_cast
      rw [Int.add_mul, Int.one_mul, Int.mul_add 6, Int.mul_add R]
      omega
    rw [c3, c4, c5, c6]
    omega
end MR1S
