/-! Bounds, general mode: a whole tick of a sender -/
/-- weights of the acknowledgments on their way -/
def wSl (wt : Int → Nat) : List NtM → Nat
  | [] => 0
  | n :: l => (if n.2.2.1 = 0 then wt n.2.2.2 else 0) + wSl wt l
theorem wSl_app {wt : Int → Nat} {l1 l2 : List NtM} : wSl wt (l1 ++ l2) = wSl wt l1 + wSl wt l2 := by
  induction l1 with
  | nil => exact (Nat.zero_add _).symm
  | cons n l ih =>
    show (if n.2.2.1 = 0 then wt n.2.2.2 else 0) + wSl wt (l ++ l2) = (if n.2.2.1 = 0 then wt n.2.2.2 else 0) + wSl wt l + wSl wt l2
    rw [ih, Nat.add_assoc]
theorem wSl_mid {wt : Int → Nat} {l1 l2 : List NtM} {n : NtM} : wSl wt (l1 ++ n :: l2) = wSl wt (l1 ++ l2) + (if n.2.2.1 = 0 then wt n.2.2.2 else 0) := by
  rw [wSl_app, wSl_app]
  show wSl wt l1 + ((if n.2.2.1 = 0 then wt n.2.2.2 else 0) + wSl wt l2) = _
  omega
theorem wSl_snd {wt : Int → Nat} {now ar : Int} {k : Nat} {b : Bool} {v : SV} : wSl wt (snd1 now ar k b v).2.2 = wSl wt v.2.2 := by
  cases b with
  | true => rfl
  | false =>
    show wSl wt (v.2.2 ++ [(ar, k, 1, v.1.1 6)]) = wSl wt v.2.2
    rw [wSl_app]
    rfl
def gPH (M kT U1 C1 Z : Int) (X : Nat) (wt : Int → Nat) (now : Int) (v : SV) (L : List EnF) : Int := gPot M kT U1 C1 Z X now v L + 3 * (M * (wSl wt v.2.2 : Int))
/-- between ticks -/
def GBb (now c dl R lo1 lo2 hi : Int) (v : SV) (g : Gh) : Prop := GB now c dl R lo1 lo2 hi v.1 v.2.1 v.2.2 g ∧ (∀ n ∈ v.2.2, now < n.1) ∧ GR g
section GBT
variable {now c dl R lo1 lo2 hi : Int} {o : List Int} {K M kT U1 C1 Z : Int} {A X C3 w1 Fm : Nat} {wt : Int → Nat}
theorem GB.hnd (hP : PCg K M kT A X U1 C1 Z C3 w1 Fm) (hK : hi - lo1 + 1 ≤ K) (hW : WTo M kT A lo2 hi wt) (hnow : now ≤ tqB) : ∀ (t ks : List NtM) (s : SdM) (g : Gh), GB now c dl R lo1 lo2 hi s o (ks ++ t) g → (∀ a ∈ ks, now < a.1) → (∀ a ∈ t, now ≤ a.1) → (s.1 5).toNat ≤ Fm →
    ∃ g2, GB now c dl R lo1 lo2 hi (t.foldl (hndS now) s) o (ks ++ t.filter (fun n => decide (n.1 ≠ now))) g2 ∧ gPH M kT U1 C1 Z X wt now (t.foldl (hndS now) s, o, ks ++ t.filter (fun n => decide (n.1 ≠ now))) g2.2.1 ≤ gPH M kT U1 C1 Z X wt now (s, o, ks ++ t) g.2.1 + 3 * (M * (frN now s t : Int)) ∧ g2.1 = g.1 := by
  intro t
  induction t with
  | nil =>
    intro ks s g h _ _ _
    refine ⟨g, h, ?_, rfl⟩
    show gPH M kT U1 C1 Z X wt now (s, o, ks ++ []) g.2.1 ≤ gPH M kT U1 C1 Z X wt now (s, o, ks ++ []) g.2.1 + 3 * (M * ((0 : Nat) : Int))
    omega
  | cons n t ih =>
    intro ks s g h hks ht hFm
    rw [List.foldl_cons]
    have ef : frN now s (n :: t) = (if n.1 = now ∧ ¬ isA n ∧ ¬ n.2.2.2 < s.1 9 then 1 else 0) + frN now (hndS now s n) t := rfl
    rw [ef]
    have ht2 : ∀ a ∈ t, now ≤ a.1 := fun a ha => ht a (List.mem_cons_of_mem _ ha)
    by_cases e : n.1 = now
    · rw [List.filter_cons_of_neg (by simp [e])]
      have eh : hndS now s n = reachM s n.2.2.1 n.2.2.2 (now / 200) := if_pos e
      by_cases z : isA n
      · have er : reachM s n.2.2.1 n.2.2.2 (now / 200) = ackM s n.2.2.2 (now / 200) := if_pos z
        rw [eh, er]
        obtain ⟨h2, p2⟩ := h.ack hP z e hks ht2 hK hFm hW
        have e5 : (ackM s n.2.2.2 (now / 200)).1 5 = s.1 5 - 1 := ack_5
        obtain ⟨g3, h3, p3, q3⟩ := ih ks _ _ h2 hks ht2 (by omega)
        refine ⟨g3, h3, ?_, q3.trans (stepG_1 hnow)⟩
        have ea : wSl wt (ks ++ n :: t) = wSl wt (ks ++ t) + wt n.2.2.2 := by
          have z : n.2.2.1 = 0 := z
          rw [wSl_mid, if_pos z]
        have hn0 : ¬ (n.1 = now ∧ ¬ isA n ∧ ¬ n.2.2.2 < s.1 9) := fun y => y.2.1 z
        rw [if_neg hn0]
        have a1 : gPH M kT U1 C1 Z X wt now (s, o, ks ++ n :: t) g.2.1 = gPot M kT U1 C1 Z X now (s, o, ks ++ n :: t) g.2.1 + 3 * (M * (wSl wt (ks ++ n :: t) : Int)) := rfl
        have a2 : gPH M kT U1 C1 Z X wt now (ackM s n.2.2.2 (now / 200), o, ks ++ t) (stepG tqB T0B now s.2.1 g n).2.1 = gPot M kT U1 C1 Z X now (ackM s n.2.2.2 (now / 200), o, ks ++ t) (stepG tqB T0B now s.2.1 g n).2.1 + 3 * (M * (wSl wt (ks ++ t) : Int)) := rfl
        rw [ea] at a1
        have a3 : M * ((wSl wt (ks ++ t) + wt n.2.2.2 : Nat) : Int) = M * (wSl wt (ks ++ t) : Int) + M * (wt n.2.2.2 : Int) := by
          push_cast
          rw [Int.mul_add]
        rw [a3] at a1
        rw [Nat.zero_add]
        omega
      · have er : reachM s n.2.2.1 n.2.2.2 (now / 200) = lostM s n.2.2.2 := if_neg z
        rw [eh, er]
        obtain ⟨h2, p2⟩ := h.lost hP z
        have e5 : (lostM s n.2.2.2).1 5 = s.1 5 - 1 := lost_5
        obtain ⟨g3, h3, p3, q3⟩ := ih ks _ _ h2 hks ht2 (by omega)
        refine ⟨g3, h3, ?_, q3⟩
        have ea : wSl wt (ks ++ n :: t) = wSl wt (ks ++ t) := by
          have z : ¬ n.2.2.1 = 0 := z
          rw [wSl_mid, if_neg z]
          rfl
        have a1 : gPH M kT U1 C1 Z X wt now (s, o, ks ++ n :: t) g.2.1 = gPot M kT U1 C1 Z X now (s, o, ks ++ n :: t) g.2.1 + 3 * (M * (wSl wt (ks ++ n :: t) : Int)) := rfl
        have a2 : gPH M kT U1 C1 Z X wt now (lostM s n.2.2.2, o, ks ++ t) g.2.1 = gPot M kT U1 C1 Z X now (lostM s n.2.2.2, o, ks ++ t) g.2.1 + 3 * (M * (wSl wt (ks ++ t) : Int)) := rfl
        rw [ea] at a1
        by_cases y : n.2.2.2 < s.1 9
        · rw [if_pos y] at p2
          rw [if_neg (fun w => w.2.2 y), Nat.zero_add]
          omega
        · rw [if_neg y] at p2
          rw [if_pos ⟨e, z, y⟩]
          have m1 : M * ((1 + frN now (lostM s n.2.2.2) t : Nat) : Int) = M + M * (frN now (lostM s n.2.2.2) t : Int) := by
            push_cast
            rw [Int.mul_add, Int.mul_one]
          rw [m1]
          omega
    · rw [List.filter_cons_of_pos (by simp [e])]
      have eh : hndS now s n = s := if_neg e
      rw [eh, if_neg (fun y => e y.1), Nat.zero_add]
      have el : ks ++ n :: t = (ks ++ [n]) ++ t := by simp
      have el2 : ks ++ n :: t.filter (fun n => decide (n.1 ≠ now)) = (ks ++ [n]) ++ t.filter (fun n => decide (n.1 ≠ now)) := by simp
      rw [el] at h
      rw [el, el2]
      have hn := ht n List.mem_cons_self
      exact ih (ks ++ [n]) s g h (fun a ha => by
        rcases List.mem_append.mp ha with w | w
        · exact hks a w
        · rw [List.mem_singleton] at w
          rw [w]
          omega) ht2 hFm
/-- packets sent -/
theorem GB.snds (hP : PCg K M kT A X U1 C1 Z C3 w1 Fm) {k : Nat} {ar : Int} {g : Gh} : ∀ (bs : List Bool) (v : SV), GB now c dl R lo1 lo2 hi v.1 v.2.1 v.2.2 g → sndOK now ar k bs v → GB now c dl R lo1 lo2 hi (sndV now ar k bs v).1 (sndV now ar k bs v).2.1 (sndV now ar k bs v).2.2 g ∧ gPH M kT U1 C1 Z X wt now (sndV now ar k bs v) g.2.1 + 3 * (M * (bs.length : Int)) ≤ gPH M kT U1 C1 Z X wt now v g.2.1 := by
  intro bs
  induction bs with
  | nil =>
    intro v h _
    refine ⟨h, ?_⟩
    show gPH M kT U1 C1 Z X wt now v g.2.1 + 3 * (M * ((0 : Nat) : Int)) ≤ _
    omega
  | cons b bs ih =>
    intro v h ho
    obtain ⟨hw, ho⟩ := ho
    obtain ⟨h2, p2⟩ := h.snd hP (k := k) (b := b) (ar := ar) hw
    obtain ⟨h3, p3⟩ := ih (snd1 now ar k b v) h2 ho
    refine ⟨h3, ?_⟩
    have ea : wSl wt (snd1 now ar k b v).2.2 = wSl wt v.2.2 := wSl_snd
    have a1 : gPH M kT U1 C1 Z X wt now v g.2.1 = gPot M kT U1 C1 Z X now v g.2.1 + 3 * (M * (wSl wt v.2.2 : Int)) := rfl
    have a2 : gPH M kT U1 C1 Z X wt now (snd1 now ar k b v) g.2.1 = gPot M kT U1 C1 Z X now (snd1 now ar k b v) g.2.1 + 3 * (M * (wSl wt (snd1 now ar k b v).2.2 : Int)) := rfl
    rw [ea] at a2
    have p3 : gPH M kT U1 C1 Z X wt now (sndV now ar k (b :: bs) v) g.2.1 + 3 * (M * (bs.length : Int)) ≤ gPH M kT U1 C1 Z X wt now (snd1 now ar k b v) g.2.1 := p3
    have p2 : gPot M kT U1 C1 Z X now (snd1 now ar k b v) g.2.1 + 3 * M ≤ gPot M kT U1 C1 Z X now v g.2.1 := p2
    have m1 : M * (((b :: bs).length : Nat) : Int) = M * (bs.length : Int) + M := by
      rw [List.length_cons]
      push_cast
      rw [Int.mul_add, Int.mul_one]
    rw [m1]
    omega
/-- the weight of the packet finished -/
def wFi (wt : Int → Nat) (du : Int) (z : Bool) (v : SV) : Nat := match z, v.2.1 with
  | true, x :: _ => wt (du - x + v.1.1 2)
  | _, _ => 0
theorem wSl_fin {wt : Int → Nat} {du ar : Int} {k : Nat} {z : Bool} {v : SV} (hz : z = true → v.2.1 ≠ []) : wSl wt (finV du ar k z v).2.2 = wSl wt v.2.2 + wFi wt du z v := by
  cases z with
  | false => rfl
  | true =>
    cases ho : v.2.1 with
    | nil => exact absurd ho (hz rfl)
    | cons x t =>
      rw [fin_t ho, wSl_app]
      unfold wFi
      rw [ho]
      rfl
theorem GBb.tick {fw bk iv : Int} {v : SV} {g : Gh} {k : Nat} {bs : List Bool} {z : Bool} (hP : PCg K M kT A X U1 C1 Z C3 w1 Fm) (hK : hi - lo1 + 1 ≤ K) (hW : WTo M kT A lo2 hi wt) (hFm : (v.1.1 5).toNat ≤ Fm) (h : GBb now c dl R lo1 lo2 hi v g) (h0 : 0 ≤ now + 1) (hnow : now + 1 ≤ tqB) (hR1 : 1 ≤ R) (hc : c = bk - v.1.1 2) (hd : dl = fw + v.1.1 2) (hRR : R = fw + bk)
    (hs : sndOK (now + 1) (now + 1 + fw + bk) k bs (slowM (hndV (now + 1) v).1 (now + 1) iv, (hndV (now + 1) v).2)) (hz : z = true → (sndV (now + 1) (now + 1 + fw + bk) k bs (slowM (hndV (now + 1) v).1 (now + 1) iv, (hndV (now + 1) v).2)).2.1 ≠ [])
    (hr : z = true → ∀ x t, (sndV (now + 1) (now + 1 + fw + bk) k bs (slowM (hndV (now + 1) v).1 (now + 1) iv, (hndV (now + 1) v).2)).2.1 = x :: t → lo2 ≤ now + 1 + fw - x + v.1.1 2 ∧ now + 1 + fw - x + v.1.1 2 ≤ hi) :
    ∃ g2, GBb (now + 1) c dl R lo1 lo2 hi (finV (now + 1 + fw) (now + 1 + fw + bk) k z (sndV (now + 1) (now + 1 + fw + bk) k bs (slowM (hndV (now + 1) v).1 (now + 1) iv, (hndV (now + 1) v).2))) g2 ∧ gPH M kT U1 C1 Z X wt (now + 1) (finV (now + 1 + fw) (now + 1 + fw + bk) k z (sndV (now + 1) (now + 1 + fw + bk) k bs (slowM (hndV (now + 1) v).1 (now + 1) iv, (hndV (now + 1) v).2))) g2.2.1 + 3 * (M * (bs.length : Int)) ≤ gPH M kT U1 C1 Z X wt now v g.2.1 + 3 * (M * (frN (now + 1) v.1 v.2.2 : Int)) + 3 * (M * (bgN (endsM (hndV (now + 1) v).1 (now + 1)) (now + 1) iv : Int)) + 3 * (M * (wFi wt (now + 1 + fw) z (sndV (now + 1) (now + 1 + fw + bk) k bs (slowM (hndV (now + 1) v).1 (now + 1) iv, (hndV (now + 1) v).2)) : Int)) + M * Z * ((now + 1) / 200 - now / 200) := by
  obtain ⟨hI, hp, hGR⟩ := h
  have hM : 0 < M := hP.1
  obtain ⟨h1, p1⟩ := hI.nxt hP
  have hpt : ∀ a ∈ v.2.2, now + 1 ≤ a.1 := fun a ha => by have := hp a ha; omega
  obtain ⟨g2, h2, p2, k5⟩ := GB.hnd hP hK hW hnow v.2.2 [] v.1 g h1 (fun a ha => by cases ha) hpt hFm
  have e2 : hndV (now + 1) v = (v.2.2.foldl (hndS (now + 1)) v.1, v.2.1, [] ++ v.2.2.filter (fun n => decide (n.1 ≠ now + 1))) := rfl
  rw [e2] at hs hz hr ⊢
  dsimp only at hs hz hr ⊢
  have hk2 : ∀ a ∈ [] ++ v.2.2.filter (fun n => decide (n.1 ≠ now + 1)), now + 1 < a.1 ∧ a ∈ v.2.2 := by
    intro a ha
    rw [List.nil_append, List.mem_filter] at ha
    have b1 := hpt a ha.1
    have b2 := of_decide_eq_true ha.2
    exact ⟨by omega, ha.1⟩
  obtain ⟨h3, p3⟩ := h2.ends hP
  obtain ⟨h4, p4⟩ := h3.begins hP (iv := iv) h0
  have h4 : GB (now + 1) c dl R lo1 lo2 hi (slowM (v.2.2.foldl (hndS (now + 1)) v.1) (now + 1) iv) v.2.1 ([] ++ v.2.2.filter (fun n => decide (n.1 ≠ now + 1))) g2 := h4
  obtain ⟨h5, p5⟩ := GB.snds hP (wt := wt) (k := k) (ar := now + 1 + fw + bk) bs (slowM (v.2.2.foldl (hndS (now + 1)) v.1) (now + 1) iv, v.2.1, [] ++ v.2.2.filter (fun n => decide (n.1 ≠ now + 1))) h4 hs
  have f2 : (slowM (v.2.2.foldl (hndS (now + 1)) v.1) (now + 1) iv).1 2 = v.1.1 2 := by
    unfold slowM
    rw [begins_o (by decide) (by decide) (by decide), ends_o (by decide) (by decide) (by decide), hnd_2]
  generalize hvs : sndV (now + 1) (now + 1 + fw + bk) k bs (slowM (v.2.2.foldl (hndS (now + 1)) v.1) (now + 1) iv, v.2.1, [] ++ v.2.2.filter (fun n => decide (n.1 ≠ now + 1))) = vs at *
  have f3 : vs.1.1 2 = v.1.1 2 := by
    rw [← hvs, snd_2]
    exact f2
  obtain ⟨h6, p6⟩ := h5.fin (M := M) (kT := kT) (U1 := U1) (C1 := C1) (Z := Z) (X := X) (k := k) (z := z) (fw := fw) (bk := bk) hz (by rw [f3]; exact hc) (by rw [f3]; exact hd) hRR (by rw [f3]; exact hr)
  have evs : (vs.1, vs.2.1, vs.2.2) = vs := rfl
  rw [evs] at h6 p6
  refine ⟨g2, ⟨h6, ?_, by unfold GR at hGR ⊢; rw [k5]; exact hGR⟩, ?_⟩
  · intro a ha
    rcases fin_mem ha with w | w
    · rw [← hvs] at w
      rcases snd_mem _ _ _ w with y | y
      · exact (hk2 a y).1
      · omega
    · omega
  · have an := wSl_fin (wt := wt) (du := now + 1 + fw) (ar := now + 1 + fw + bk) (k := k) (z := z) (v := vs) hz
    have q1 : gPH M kT U1 C1 Z X wt now v g.2.1 = gPot M kT U1 C1 Z X now (v.1, v.2.1, v.2.2) g.2.1 + 3 * (M * (wSl wt v.2.2 : Int)) := rfl
    have q1' : gPH M kT U1 C1 Z X wt (now + 1) (v.1, v.2.1, [] ++ v.2.2) g.2.1 = gPot M kT U1 C1 Z X (now + 1) (v.1, v.2.1, v.2.2) g.2.1 + 3 * (M * (wSl wt v.2.2 : Int)) := rfl
    have q2 : gPH M kT U1 C1 Z X wt (now + 1) (v.2.2.foldl (hndS (now + 1)) v.1, v.2.1, [] ++ v.2.2.filter (fun n => decide (n.1 ≠ now + 1))) g2.2.1 = gPot M kT U1 C1 Z X (now + 1) (v.2.2.foldl (hndS (now + 1)) v.1, v.2.1, [] ++ v.2.2.filter (fun n => decide (n.1 ≠ now + 1))) g2.2.1 + 3 * (M * (wSl wt ([] ++ v.2.2.filter (fun n => decide (n.1 ≠ now + 1))) : Int)) := rfl
    have q4 : gPH M kT U1 C1 Z X wt (now + 1) (slowM (v.2.2.foldl (hndS (now + 1)) v.1) (now + 1) iv, v.2.1, [] ++ v.2.2.filter (fun n => decide (n.1 ≠ now + 1))) g2.2.1 = gPot M kT U1 C1 Z X (now + 1) (beginsM (endsM (v.2.2.foldl (hndS (now + 1)) v.1) (now + 1)) (now + 1) iv, v.2.1, [] ++ v.2.2.filter (fun n => decide (n.1 ≠ now + 1))) g2.2.1 + 3 * (M * (wSl wt ([] ++ v.2.2.filter (fun n => decide (n.1 ≠ now + 1))) : Int)) := rfl
    have q5 : gPH M kT U1 C1 Z X wt (now + 1) vs g2.2.1 = gPot M kT U1 C1 Z X (now + 1) vs g2.2.1 + 3 * (M * (wSl wt vs.2.2 : Int)) := rfl
    have q6 : gPH M kT U1 C1 Z X wt (now + 1) (finV (now + 1 + fw) (now + 1 + fw + bk) k z vs) g2.2.1 = gPot M kT U1 C1 Z X (now + 1) (finV (now + 1 + fw) (now + 1 + fw + bk) k z vs) g2.2.1 + 3 * (M * (wSl wt (finV (now + 1 + fw) (now + 1 + fw + bk) k z vs).2.2 : Int)) := rfl
    have a3 : M * ((wSl wt vs.2.2 + wFi wt (now + 1 + fw) z vs : Nat) : Int) = M * (wSl wt vs.2.2 : Int) + M * (wFi wt (now + 1 + fw) z vs : Int) := by
      push_cast
      rw [Int.mul_add]
    rw [an, a3] at q6
    rw [q2, q1'] at p2
    rw [q4, q5] at p5
    rw [q6, q1]
    omega
end GBT
