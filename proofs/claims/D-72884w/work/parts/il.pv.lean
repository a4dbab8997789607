/-! Bounds: the potential of a sender's view -/
def aNl (l : List NtM) : Nat := l.countP (fun n => decide (n.2.2.1 = 0))
def lFl (rc : Int) (l : List NtM) : Nat := l.countP (fun n => decide (¬ n.2.2.1 = 0 ∧ rc ≤ n.2.2.2))
/-- packets out that are not lost, fresh losses -/
abbrev vU (v : SV) : Nat := v.2.1.length + aNl v.2.2
abbrev vF (v : SV) : Nat := lFl (v.1.1 9) v.2.2
def PV (v : SV) : Nat := PS v.1 (vU v) (vF v)
def JV (v : SV) : Prop := JS v.1 (vU v) (vF v)
/-- flight is what is out; numbers sent so far are above the recovery point and above all numbers on the way -/
def FI (v : SV) : Prop := v.1.1 5 = ((v.2.1.length + v.2.2.length : Nat) : Int) ∧ v.1.1 9 ≤ v.1.1 6 ∧ ∀ n ∈ v.2.2, ¬ n.2.2.1 = 0 → n.2.2.2 < v.1.1 6
theorem aNl_app {l : List NtM} {n : NtM} : aNl (l ++ [n]) = aNl l + if n.2.2.1 = 0 then 1 else 0 := by
  unfold aNl
  rw [List.countP_append, List.countP_singleton]
  simp only [decide_eq_true_eq]
theorem lFl_app {rc : Int} {l : List NtM} {n : NtM} : lFl rc (l ++ [n]) = lFl rc l + if ¬ n.2.2.1 = 0 ∧ rc ≤ n.2.2.2 then 1 else 0 := by
  unfold lFl
  rw [List.countP_append, List.countP_singleton]
  simp only [decide_eq_true_eq]
theorem aNl_cons {l : List NtM} {n : NtM} : aNl (n :: l) = aNl l + if n.2.2.1 = 0 then 1 else 0 := by
  unfold aNl
  rw [List.countP_cons]
  simp only [decide_eq_true_eq]
theorem lFl_cons {rc : Int} {l : List NtM} {n : NtM} : lFl rc (n :: l) = lFl rc l + if ¬ n.2.2.1 = 0 ∧ rc ≤ n.2.2.2 then 1 else 0 := by
  unfold lFl
  rw [List.countP_cons]
  simp only [decide_eq_true_eq]
theorem aF_len {rc : Int} : ∀ l : List NtM, aNl l + lFl rc l ≤ l.length := by
  intro l
  induction l with
  | nil => exact Nat.le_refl _
  | cons n l ih =>
    rw [aNl_cons, lFl_cons, List.length_cons]
    by_cases q : n.2.2.1 = 0
    · rw [if_pos q, if_neg (fun z => z.1 q)]
      omega
    · rw [if_neg q]
      split <;> omega
theorem FI.x {v : SV} (h : FI v) : vU v + vF v ≤ (v.1.1 5).toNat := by
  have := aF_len (rc := v.1.1 9) v.2.2
  rw [h.1]
  show v.2.1.length + aNl v.2.2 + lFl (v.1.1 9) v.2.2 ≤ _
  omega
/-- one packet sent -/
abbrev snd1 (now ar : Int) (k : Nat) (b : Bool) (v : SV) : SV := (sentM v.1, (if b = true then v.2.1 ++ [now] else v.2.1), (if b = true then v.2.2 else v.2.2 ++ [(ar, k, 1, v.1.1 6)]))
theorem FI.snd1 {v : SV} {now ar : Int} {k : Nat} {b : Bool} (h : FI v) : FI (snd1 now ar k b v) := by
  obtain ⟨h1, h2, h3⟩ := h
  refine ⟨?_, ?_, ?_⟩
  · show (sentM v.1).1 5 = _
    rw [sent_5, h1]
    cases b with
    | true =>
      show _ = (((v.2.1 ++ [now]).length + v.2.2.length : Nat) : Int)
      rw [List.length_append, List.length_singleton]
      omega
    | false =>
      show _ = ((v.2.1.length + (v.2.2 ++ [(ar, k, 1, v.1.1 6)]).length : Nat) : Int)
      rw [List.length_append, List.length_singleton]
      omega
  · show (sentM v.1).1 9 ≤ (sentM v.1).1 6
    rw [sent_o (by decide) (by decide), sent_6]
    omega
  · intro n hn hz
    show n.2.2.2 < (sentM v.1).1 6
    rw [sent_6]
    cases b with
    | true =>
      have := h3 n hn hz
      omega
    | false =>
      have hn : n ∈ v.2.2 ++ [(ar, k, 1, v.1.1 6)] := hn
      rcases List.mem_append.mp hn with q | q
      · have := h3 n q hz
        omega
      · rw [List.mem_singleton] at q
        rw [q]
        show v.1.1 6 < v.1.1 6 + 1
        omega
theorem pV_snd1 {v : SV} {now ar : Int} {k : Nat} {b : Bool} (h : FI v) (hk : sW v.1) (hw : wantsM v.1) : PV (snd1 now ar k b v) + 1 ≤ PV v ∧ JV (snd1 now ar k b v) ∧ sW (snd1 now ar k b v).1 := by
  have hx := h.x
  have h0 : 0 ≤ v.1.1 5 := by rw [h.1]; omega
  have p := ps_send hk hw h0 hx
  have e9 : (sentM v.1).1 9 = v.1.1 9 := sent_o (by decide) (by decide)
  refine ⟨?_, p.2.2.1 _ _, p.2.2.2⟩
  cases b with
  | true =>
    have e : vU (snd1 now ar k true v) = vU v + 1 := by
      show (v.2.1 ++ [now]).length + aNl v.2.2 = v.2.1.length + aNl v.2.2 + 1
      rw [List.length_append, List.length_singleton]
      omega
    have e2 : vF (snd1 now ar k true v) = vF v := by
      show lFl ((sentM v.1).1 9) v.2.2 = _
      rw [e9]
    unfold PV
    rw [e, e2]
    exact p.1
  | false =>
    have e : vU (snd1 now ar k false v) = vU v := by
      show v.2.1.length + aNl (v.2.2 ++ [(ar, k, 1, v.1.1 6)]) = _
      rw [aNl_app, if_neg (show ¬ (1 : Int) = 0 by decide)]
      rfl
    have e2 : vF (snd1 now ar k false v) = vF v + 1 := by
      show lFl ((sentM v.1).1 9) (v.2.2 ++ [(ar, k, 1, v.1.1 6)]) = _
      rw [e9, lFl_app, if_pos (show ¬ (1 : Int) = 0 ∧ v.1.1 9 ≤ v.1.1 6 from ⟨by decide, h.2.1⟩)]
    unfold PV
    rw [e, e2]
    exact p.2.1
/-- a packet finished -/
theorem fin_t {du ar x : Int} {k : Nat} {t : List Int} {v : SV} (h : v.2.1 = x :: t) : finV du ar k true v = (v.1, t, v.2.2 ++ [(ar, k, 0, du - x + v.1.1 2)]) := by
  unfold finV
  rw [h]
theorem fin_f {du ar : Int} {k : Nat} {v : SV} : finV du ar k false v = v := rfl
theorem pV_fin {du ar : Int} {k : Nat} {z : Bool} {v : SV} (h : FI v) (hz : z = true → v.2.1 ≠ []) : PV (finV du ar k z v) = PV v ∧ FI (finV du ar k z v) ∧ (finV du ar k z v).1 = v.1 ∧ (JV v → JV (finV du ar k z v)) := by
  cases z with
  | false => exact ⟨rfl, h, rfl, fun j => j⟩
  | true =>
    cases hv : v.2.1 with
    | nil => exact absurd hv (hz rfl)
    | cons x t =>
      rw [fin_t hv]
      obtain ⟨h1, h2, h3⟩ := h
      have eu : vU (v.1, t, v.2.2 ++ [(ar, k, 0, du - x + v.1.1 2)]) = vU v := by
        show t.length + aNl (v.2.2 ++ [(ar, k, 0, du - x + v.1.1 2)]) = v.2.1.length + aNl v.2.2
        rw [aNl_app, if_pos rfl, hv, List.length_cons]
        omega
      have ef : vF (v.1, t, v.2.2 ++ [(ar, k, 0, du - x + v.1.1 2)]) = vF v := by
        show lFl (v.1.1 9) (v.2.2 ++ [(ar, k, 0, du - x + v.1.1 2)]) = lFl (v.1.1 9) v.2.2
        rw [lFl_app, if_neg (fun z => z.1 rfl)]
        rfl
      refine ⟨?_, ⟨?_, h2, ?_⟩, rfl, fun j => ?_⟩
      · unfold PV
        rw [eu, ef]
      · show v.1.1 5 = ((t.length + (v.2.2 ++ [(ar, k, 0, du - x + v.1.1 2)]).length : Nat) : Int)
        rw [h1, hv, List.length_append, List.length_singleton, List.length_cons]
        omega
      · intro n hn hy
        have hn : n ∈ v.2.2 ++ [(ar, k, 0, du - x + v.1.1 2)] := hn
        rcases List.mem_append.mp hn with q | q
        · exact h3 n q hy
        · rw [List.mem_singleton] at q
          rw [q] at hy
          exact absurd rfl hy
      · unfold JV at j ⊢
        rw [eu, ef]
        exact j
/-! a notice comes in -/
theorem aNl_mid {l1 l2 : List NtM} {n : NtM} : aNl (l1 ++ n :: l2) = aNl (l1 ++ l2) + if n.2.2.1 = 0 then 1 else 0 := by
  have e : ∀ a b : List NtM, aNl (a ++ b) = aNl a + aNl b := fun a b => List.countP_append
  rw [e, e, aNl_cons]
  omega
theorem lFl_mid {rc : Int} {l1 l2 : List NtM} {n : NtM} : lFl rc (l1 ++ n :: l2) = lFl rc (l1 ++ l2) + if ¬ n.2.2.1 = 0 ∧ rc ≤ n.2.2.2 then 1 else 0 := by
  have e : ∀ a b : List NtM, lFl rc (a ++ b) = lFl rc a + lFl rc b := fun a b => List.countP_append
  rw [e, e, lFl_cons]
  omega
theorem lFl_0 {rc : Int} {l : List NtM} (h : ∀ n ∈ l, ¬ n.2.2.1 = 0 → n.2.2.2 < rc) : lFl rc l = 0 := by
  unfold lFl
  rw [List.countP_eq_zero]
  intro n hn z
  have z := of_decide_eq_true z
  have := h n hn z.1
  omega
theorem mid_len {l1 l2 : List NtM} {n : NtM} : (l1 ++ n :: l2).length = (l1 ++ l2).length + 1 := by
  simp only [List.length_append, List.length_cons]
  omega
theorem mid_mem {l1 l2 : List NtM} {n a : NtM} (h : a ∈ l1 ++ l2) : a ∈ l1 ++ n :: l2 := by
  rcases List.mem_append.mp h with q | q
  · exact List.mem_append_left _ q
  · exact List.mem_append_right _ (List.mem_cons_of_mem _ q)
theorem lost_6 {s : SdM} {num : Int} : (lostM s num).1 6 = s.1 6 := by
  unfold lostM
  dsimp only
  split <;> simp [iup]
theorem lost_9s {s : SdM} {num : Int} (h : num < s.1 9) : (lostM s num).1 9 = s.1 9 := by
  rw [lost_s h]
  simp [iup]
theorem lost_9f {s : SdM} {num : Int} (h : ¬ num < s.1 9) : (lostM s num).1 9 = s.1 6 := by
  rw [lost_f h]
  simp [iup]
/-- a loss comes in -/
theorem pV_lost {s : SdM} {o : List Int} {l1 l2 : List NtM} {n : NtM} {tk : Int} (h : FI (s, o, l1 ++ n :: l2)) (hI : sdB tk s) (hk : sW s) (hn : ¬ n.2.2.1 = 0) : PV (lostM s n.2.2.2, o, l1 ++ l2) ≤ PV (s, o, l1 ++ n :: l2) + (if n.2.2.2 < s.1 9 then 0 else 1) ∧ FI (lostM s n.2.2.2, o, l1 ++ l2) ∧ (JV (s, o, l1 ++ n :: l2) → JV (lostM s n.2.2.2, o, l1 ++ l2)) ∧ sW (lostM s n.2.2.2) := by
  have hx := h.x
  obtain ⟨h1, h2, h3⟩ := h
  have h1 : s.1 5 = ((o.length + (l1 ++ n :: l2).length : Nat) : Int) := h1
  have h2 : s.1 9 ≤ s.1 6 := h2
  have h3 : ∀ a ∈ l1 ++ n :: l2, ¬ a.2.2.1 = 0 → a.2.2.2 < s.1 6 := h3
  have hx : o.length + aNl (l1 ++ n :: l2) + lFl (s.1 9) (l1 ++ n :: l2) ≤ (s.1 5).toNat := hx
  rw [aNl_mid, if_neg hn, lFl_mid] at hx
  have fl : FI (lostM s n.2.2.2, o, l1 ++ l2) := by
    refine ⟨?_, ?_, ?_⟩
    · show (lostM s n.2.2.2).1 5 = ((o.length + (l1 ++ l2).length : Nat) : Int)
      rw [lost_5, h1, mid_len]
      omega
    · show (lostM s n.2.2.2).1 9 ≤ (lostM s n.2.2.2).1 6
      rw [lost_6]
      by_cases z : n.2.2.2 < s.1 9
      · rw [lost_9s z]; exact h2
      · rw [lost_9f z]; exact Int.le_refl _
    · intro a ha hz
      show a.2.2.2 < (lostM s n.2.2.2).1 6
      rw [lost_6]
      exact h3 a (mid_mem ha) hz
  have eu : vU (s, o, l1 ++ n :: l2) = vU (lostM s n.2.2.2, o, l1 ++ l2) := by
    show o.length + aNl (l1 ++ n :: l2) = o.length + aNl (l1 ++ l2)
    rw [aNl_mid, if_neg hn]
    rfl
  have hp : 1 ≤ (s.1 5).toNat := by
    rw [h1, mid_len]
    omega
  unfold PV JV
  rw [eu]
  by_cases z : n.2.2.2 < s.1 9
  · have ef : vF (s, o, l1 ++ n :: l2) = vF (lostM s n.2.2.2, o, l1 ++ l2) := by
      show lFl (s.1 9) (l1 ++ n :: l2) = lFl ((lostM s n.2.2.2).1 9) (l1 ++ l2)
      rw [lFl_mid, lost_9s z, if_neg (fun w => by have := w.2; omega)]
      rfl
    rw [ef, if_pos z]
    have p := ps_stale (U := vU (lostM s n.2.2.2, o, l1 ++ l2)) (Lf := vF (lostM s n.2.2.2, o, l1 ++ l2)) z hp
    exact ⟨p.1, fl, p.2.1, p.2.2 hk⟩
  · have ef : vF (s, o, l1 ++ n :: l2) = lFl (s.1 9) (l1 ++ l2) + 1 := by
      show lFl (s.1 9) (l1 ++ n :: l2) = _
      rw [lFl_mid, if_pos ⟨hn, by omega⟩]
    have ef2 : vF (lostM s n.2.2.2, o, l1 ++ l2) = 0 := by
      show lFl ((lostM s n.2.2.2).1 9) (l1 ++ l2) = 0
      rw [lost_9f z]
      exact lFl_0 (fun a ha hz => h3 a (mid_mem ha) hz)
    rw [if_pos ⟨hn, by omega⟩] at hx
    rw [ef, ef2, if_neg z]
    have p := ps_fresh (U := vU (lostM s n.2.2.2, o, l1 ++ l2)) (Lf := lFl (s.1 9) (l1 ++ l2)) hI hk z (by
      show o.length + aNl (l1 ++ l2) + _ ≤ _
      omega)
    exact ⟨p.1, fl, p.2.1, p.2.2⟩
/-- an acknowledgment comes in -/
theorem pV_ack {s : SdM} {o : List Int} {l1 l2 : List NtM} {n : NtM} {tk mi : Int} (h : FI (s, o, l1 ++ n :: l2)) (hI : sdB tk s) (hk : sW s) (hn : n.2.2.1 = 0) :
    FI (ackM s n.2.2.2 mi, o, l1 ++ l2) ∧ sW (ackM s n.2.2.2 mi) ∧ ((s.1 11 = -1 → 0 ≤ queueM (enterM s n.2.2.2 mi) mi) → PV (ackM s n.2.2.2 mi, o, l1 ++ l2) ≤ PV (s, o, l1 ++ n :: l2) + 5) ∧ (∀ g : Nat, s.1 11 = -1 → queueM (enterM s n.2.2.2 mi) mi < 0 → - (g : Int) ≤ queueM (enterM s n.2.2.2 mi) mi → JV (s, o, l1 ++ n :: l2) → 5 * PV (ackM s n.2.2.2 mi, o, l1 ++ l2) ≤ 5 * PV (s, o, l1 ++ n :: l2) + 25 + (g + 200) ∧ JV (ackM s n.2.2.2 mi, o, l1 ++ l2)) ∧ (s.1 11 ≠ -1 → JV (s, o, l1 ++ n :: l2) → JV (ackM s n.2.2.2 mi, o, l1 ++ l2)) := by
  have hx := h.x
  obtain ⟨h1, h2, h3⟩ := h
  have h1 : s.1 5 = ((o.length + (l1 ++ n :: l2).length : Nat) : Int) := h1
  have h2 : s.1 9 ≤ s.1 6 := h2
  have h3 : ∀ a ∈ l1 ++ n :: l2, ¬ a.2.2.1 = 0 → a.2.2.2 < s.1 6 := h3
  have eu : vU (s, o, l1 ++ n :: l2) = vU (ackM s n.2.2.2 mi, o, l1 ++ l2) + 1 := by
    show o.length + aNl (l1 ++ n :: l2) = o.length + aNl (l1 ++ l2) + 1
    rw [aNl_mid, if_pos hn]
    omega
  have e9 : (ackM s n.2.2.2 mi).1 9 = s.1 9 := ack_o (by decide) (by decide) (by decide)
  have e6 : (ackM s n.2.2.2 mi).1 6 = s.1 6 := ack_o (by decide) (by decide) (by decide)
  have e11 : (ackM s n.2.2.2 mi).1 11 = s.1 11 := ack_o (by decide) (by decide) (by decide)
  have e12 : (ackM s n.2.2.2 mi).1 12 = s.1 12 := ack_o (by decide) (by decide) (by decide)
  have ef : vF (s, o, l1 ++ n :: l2) = vF (ackM s n.2.2.2 mi, o, l1 ++ l2) := by
    show lFl (s.1 9) (l1 ++ n :: l2) = lFl ((ackM s n.2.2.2 mi).1 9) (l1 ++ l2)
    rw [lFl_mid, if_neg (fun w => w.1 hn), e9]
    rfl
  rw [eu, ef] at hx
  refine ⟨⟨?_, ?_, ?_⟩, ?_, ?_, ?_, ?_⟩
  · show (ackM s n.2.2.2 mi).1 5 = ((o.length + (l1 ++ l2).length : Nat) : Int)
    rw [ack_5, h1, mid_len]
    omega
  · show (ackM s n.2.2.2 mi).1 9 ≤ (ackM s n.2.2.2 mi).1 6
    rw [e9, e6]
    exact h2
  · intro a ha hz
    show a.2.2.2 < (ackM s n.2.2.2 mi).1 6
    rw [e6]
    exact h3 a (mid_mem ha) hz
  · intro z
    rw [e11] at z
    rw [ack_4s z, e12]
    exact hk z
  · intro hq
    unfold PV
    rw [eu, ef]
    exact ps_ack hI hx hk hq
  · intro g hs hq hg hj
    unfold JV at hj
    rw [eu, ef] at hj
    have p := ps_neg (d := n.2.2.2) (mi := mi) hI hx hs hj hq hg
    unfold PV JV
    rw [eu, ef]
    exact p
  · intro hs hj
    unfold JV JS at hj ⊢
    rw [eu, ef] at hj
    have ew : eW (ackM s n.2.2.2 mi).1 = eW s.1 := by
      unfold eW
      rw [e11, e12, ack_4s hs]
    show JB (eW (ackM s n.2.2.2 mi).1) _ _ _
    rw [ew]
    have f1 : (s.1 5).toNat = ((ackM s n.2.2.2 mi).1 5).toNat + 1 := by
      rw [ack_5, h1, mid_len]
      omega
    have hj : JB (eW s.1) (s.1 5).toNat (vU (ackM s n.2.2.2 mi, o, l1 ++ l2) + 1) (vF (ackM s n.2.2.2 mi, o, l1 ++ l2)) := hj
    rw [f1] at hj
    exact hj.ack (Nat.le_refl _)
