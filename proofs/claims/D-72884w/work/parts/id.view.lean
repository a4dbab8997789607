/-! Bounds: what one sender sees of a tick: its own numbers, when its packets in server and queue were sent, its own notices -/
abbrev SV : Type := SdM × List Int × List NtM
def ownL (k : Nat) (l : List PkM) : List Int := (l.filter (fun p => decide (p.1 = k))).map (fun p => p.2.2)
def ownV (k : Nat) (o : Option PkM) : List Int := match o with
  | some p => if p.1 = k then [p.2.2] else []
  | none => []
def own (k : Nat) (m : MS) : List Int := ownV k (mv m) ++ ownL k (mq m)
def vwK (k : Nat) (m : MS) : SV := (ms m k, own k m, (mnt m).filter (fun n => decide (n.2.1 = k)))
/-- notices that come in -/
def hndS (now : Int) (s : SdM) (n : NtM) : SdM := if n.1 = now then reachM s n.2.2.1 n.2.2.2 (now / 200) else s
def hndV (now : Int) (v : SV) : SV := (v.2.2.foldl (hndS now) v.1, v.2.1, v.2.2.filter (fun n => decide (n.1 ≠ now)))
/-- packets sent: true, one that found room; ar: when a notice of it comes in -/
def sndV (now ar : Int) (k : Nat) : List Bool → SV → SV
  | [], v => v
  | b :: bs, v => sndV now ar k bs (sentM v.1, (if b = true then v.2.1 ++ [now] else v.2.1), (if b = true then v.2.2 else v.2.2 ++ [(ar, k, 1, v.1.1 6)]))
def sndOK (now ar : Int) (k : Nat) : List Bool → SV → Prop
  | [], _ => True
  | b :: bs, v => wantsM v.1 ∧ sndOK now ar k bs (sentM v.1, (if b = true then v.2.1 ++ [now] else v.2.1), (if b = true then v.2.2 else v.2.2 ++ [(ar, k, 1, v.1.1 6)]))
/-- its packet in the server is finished; du: now and the way forward -/
def finV (du ar : Int) (k : Nat) (z : Bool) (v : SV) : SV := match z, v.2.1 with
  | true, a :: t => (v.1, t, v.2.2 ++ [(ar, k, 0, du - a + v.1.1 2)])
  | _, _ => v
theorem sent_o {s : SdM} {k : Nat} (h5 : k ≠ 5) (h6 : k ≠ 6) : (sentM s).1 k = s.1 k := by
  show iup (iup s.1 6 (s.1 6 + 1)) 5 (s.1 5 + 1) k = _
  unfold iup
  rw [if_neg h5, if_neg h6]
theorem sent_5 {s : SdM} : (sentM s).1 5 = s.1 5 + 1 := by
  show iup (iup s.1 6 (s.1 6 + 1)) 5 (s.1 5 + 1) 5 = _
  unfold iup
  rw [if_pos rfl]
theorem sent_6 {s : SdM} : (sentM s).1 6 = s.1 6 + 1 := by
  show iup (iup s.1 6 (s.1 6 + 1)) 5 (s.1 5 + 1) 6 = _
  unfold iup
  rw [if_neg (by decide), if_pos rfl]
theorem ownL_snoc {k : Nat} {l : List PkM} {p : PkM} : ownL k (l ++ [p]) = ownL k l ++ if p.1 = k then [p.2.2] else [] := by
  unfold ownL
  rw [List.filter_append, List.map_append]
  congr 1
  by_cases q : p.1 = k
  · rw [List.filter_cons_of_pos (by simp [q]), if_pos q]
    rfl
  · rw [List.filter_cons_of_neg (by simp [q]), if_neg q]
    rfl
theorem ownL_cons {k : Nat} {l : List PkM} {p : PkM} : ownL k (p :: l) = (if p.1 = k then [p.2.2] else []) ++ ownL k l := by
  unfold ownL
  by_cases q : p.1 = k
  · rw [List.filter_cons_of_pos (by simp [q]), if_pos q]
    rfl
  · rw [List.filter_cons_of_neg (by simp [q]), if_neg q]
    rfl
theorem hand_v {now : Int} {k : Nat} : ∀ (L : List NtM) (f : Nat → SdM), L.foldl (handS now) f k = (L.filter (fun n => decide (n.2.1 = k))).foldl (hndS now) (f k) := by
  intro L
  induction L with
  | nil => intro f; rfl
  | cons n L ih =>
    intro f
    rw [List.foldl_cons, ih]
    by_cases q : n.2.1 = k
    · rw [List.filter_cons_of_pos (by simp [q]), List.foldl_cons]
      congr 1
      unfold handS hndS
      by_cases q2 : n.1 = now
      · rw [if_pos q2, if_pos q2, q]
        unfold fup
        rw [if_pos rfl]
      · rw [if_neg q2, if_neg q2]
    · rw [List.filter_cons_of_neg (by simp [q])]
      congr 1
      unfold handS
      by_cases q2 : n.1 = now
      · rw [if_pos q2]
        unfold fup
        rw [if_neg (fun z => q z.symm)]
      · rw [if_neg q2]
theorem v_hand {k : Nat} {m : MS} : vwK k (handM m) = hndV (mg m 5) (vwK k m) := by
  unfold vwK hndV
  refine Prod.ext ?_ (Prod.ext rfl ?_)
  · exact hand_v (mnt m) (ms m)
  · show ((mnt m).filter (fun n => n.1 ≠ mg m 5)).filter (fun n => decide (n.2.1 = k)) = ((mnt m).filter (fun n => decide (n.2.1 = k))).filter (fun n => decide (n.1 ≠ mg m 5))
    rw [List.filter_filter, List.filter_filter]
    congr 1
    funext n
    exact Bool.and_comm _ _
theorem v_slow_ne {j k : Nat} {m : MS} (h : j ≠ k) : vwK k (slowMk j m) = vwK k m := by
  unfold vwK
  refine Prod.ext ?_ (Prod.ext rfl rfl)
  show fup (ms m) j _ k = ms m k
  unfold fup
  rw [if_neg (fun z => h z.symm)]
theorem v_slow {k : Nat} {m : MS} : vwK k (slowMk k m) = (slowM (ms m k) (mg m 5) (mg m 4), (vwK k m).2) := by
  unfold vwK
  refine Prod.ext ?_ (Prod.ext rfl rfl)
  show fup (ms m) k _ k = _
  unfold fup
  rw [if_pos rfl]
theorem v_send1_ne {j k : Nat} {m : MS} (h : j ≠ k) : vwK k (sendM1 j m) = vwK k m := by
  have e : fup (ms m) j (sentM (ms m j)) k = ms m k := by
    unfold fup
    rw [if_neg (fun z => h z.symm)]
  unfold sendM1 enqM
  by_cases q : ((mq m).length : Int) < mg m 0
  · rw [if_pos q, if_pos (show ((mq (setSM m j (sentM (ms m j)))).length : Int) < mg (setSM m j (sentM (ms m j))) 0 from q)]
    unfold vwK
    refine Prod.ext e (Prod.ext ?_ rfl)
    show ownV k (mv m) ++ ownL k (mq m ++ [(j, _, _)]) = ownV k (mv m) ++ ownL k (mq m)
    rw [ownL_snoc, if_neg h, List.append_nil]
  · rw [if_neg q]
    unfold vwK
    refine Prod.ext e (Prod.ext rfl ?_)
    show (mnt m ++ [(mg m 5 + mg m 2 + mg m 3, j, 1, (ms m j).1 6)]).filter (fun n : NtM => decide (n.2.1 = k)) = (mnt m).filter (fun n : NtM => decide (n.2.1 = k))
    rw [List.filter_append, List.filter_cons_of_neg (by simp [h])]
    simp
theorem v_send1 {k : Nat} {m : MS} : ∃ b : Bool, vwK k (sendM1 k m) = (sentM (vwK k m).1, (if b = true then (vwK k m).2.1 ++ [mg m 5] else (vwK k m).2.1), (if b = true then (vwK k m).2.2 else (vwK k m).2.2 ++ [(mg m 5 + mg m 2 + mg m 3, k, 1, (vwK k m).1.1 6)])) := by
  have e : fup (ms m) k (sentM (ms m k)) k = sentM (ms m k) := by
    unfold fup
    rw [if_pos rfl]
  unfold sendM1 enqM
  by_cases q : ((mq m).length : Int) < mg m 0
  · rw [if_pos q, if_pos (show ((mq (setSM m k (sentM (ms m k)))).length : Int) < mg (setSM m k (sentM (ms m k))) 0 from q)]
    refine ⟨true, ?_⟩
    unfold vwK
    refine Prod.ext e (Prod.ext ?_ rfl)
    show ownV k (mv m) ++ ownL k (mq m ++ [(k, _, mg m 5)]) = (ownV k (mv m) ++ ownL k (mq m)) ++ [mg m 5]
    rw [ownL_snoc, if_pos rfl, List.append_assoc]
  · rw [if_neg q]
    refine ⟨false, ?_⟩
    unfold vwK
    refine Prod.ext e (Prod.ext rfl ?_)
    show (mnt m ++ [(mg m 5 + mg m 2 + mg m 3, k, 1, (ms m k).1 6)]).filter (fun n : NtM => decide (n.2.1 = k)) = (mnt m).filter (fun n : NtM => decide (n.2.1 = k)) ++ [(mg m 5 + mg m 2 + mg m 3, k, 1, (ms m k).1 6)]
    rw [List.filter_append, List.filter_cons_of_pos (by simp)]
    rfl
theorem send1_g {j : Nat} {m : MS} : mg (sendM1 j m) = mg m := by
  unfold sendM1 enqM
  split
  · split <;> rfl
  · rfl
theorem v_sends_ne {j k : Nat} (h : j ≠ k) : ∀ (n : Nat) (m : MS), vwK k (sendsM n j m) = vwK k m := by
  intro n
  induction n with
  | zero => intro m; rfl
  | succ n ih =>
    intro m
    show vwK k (if _ then _ else _) = _
    split
    · rw [ih, v_send1_ne h]
    · rfl
/-- sent as long as it wants to: behind its act a sender has no room left in its window -/
theorem v_sends {k : Nat} : ∀ (n : Nat) (m : MS), ∃ bs : List Bool, sndOK (mg m 5) (mg m 5 + mg m 2 + mg m 3) k bs (vwK k m) ∧ vwK k (sendsM n k m) = sndV (mg m 5) (mg m 5 + mg m 2 + mg m 3) k bs (vwK k m) ∧ (((ms m k).1 4 / 256 - (ms m k).1 5).toNat ≤ n → ¬ wantsM (ms (sendsM n k m) k)) := by
  intro n
  induction n with
  | zero =>
    intro m
    refine ⟨[], trivial, rfl, fun hn hw => ?_⟩
    have := hw.2
    have hw : (ms m k).1 5 < (ms m k).1 4 / 256 := this
    omega
  | succ n ih =>
    intro m
    have es : sendsM (n + 1) k m = if (ms m k).1 3 ≠ 0 ∧ (ms m k).1 5 < (ms m k).1 4 / 256 then sendsM n k (sendM1 k m) else m := rfl
    rw [es]
    by_cases q : (ms m k).1 3 ≠ 0 ∧ (ms m k).1 5 < (ms m k).1 4 / 256
    · rw [if_pos q]
      obtain ⟨b, hb⟩ := v_send1 (k := k) (m := m)
      obtain ⟨bs, h1, h2, h3⟩ := ih (sendM1 k m)
      rw [send1_g, hb] at h1 h2
      refine ⟨b :: bs, ⟨q, h1⟩, h2, fun hn => h3 ?_⟩
      have e : ms (sendM1 k m) k = sentM (ms m k) := congrArg Prod.fst hb
      rw [e]
      rw [sent_o (by decide) (by decide), sent_5]
      omega
    · rw [if_neg q]
      exact ⟨[], trivial, rfl, fun _ => q⟩
theorem sends_g2 {j : Nat} : ∀ (n : Nat) (m : MS), mg (sendsM n j m) = mg m := by
  intro n
  induction n with
  | zero => intro m; rfl
  | succ n ih =>
    intro m
    show mg (if _ then _ else _) = _
    split
    · rw [ih, send1_g]
    · rfl
theorem v_act_ne {j k : Nat} {m : MS} (h : j ≠ k) : vwK k (actM j m) = vwK k m := (v_sends_ne h _ _).trans (v_slow_ne h)
theorem v_acts {k : Nat} {m : MS} : ∀ n : Nat, (n ≤ k → vwK k (actsM n m) = vwK k m) ∧ (k < n → ∃ bs : List Bool, sndOK (mg m 5) (mg m 5 + mg m 2 + mg m 3) k bs (slowM (ms m k) (mg m 5) (mg m 4), (vwK k m).2) ∧ vwK k (actsM n m) = sndV (mg m 5) (mg m 5 + mg m 2 + mg m 3) k bs (slowM (ms m k) (mg m 5) (mg m 4), (vwK k m).2) ∧ ¬ wantsM (ms (actsM n m) k)) := by
  intro n
  induction n with
  | zero => exact ⟨fun _ => rfl, fun h => absurd h (Nat.not_lt_zero _)⟩
  | succ n ih =>
    refine ⟨fun h => ?_, fun h => ?_⟩
    · exact (v_act_ne (by omega)).trans (ih.1 (by omega))
    · by_cases q : n = k
      · subst q
        have e1 := ih.1 (Nat.le_refl _)
        have eg : mg (actsM n m) = mg m := acts_g n
        have e2 : ms (actsM n m) n = ms m n := congrArg Prod.fst e1
        obtain ⟨bs, h1, h2, h3⟩ := v_sends (k := n) ((ms (slowMk n (actsM n m)) n).1 4 / 256 - (ms (slowMk n (actsM n m)) n).1 5).toNat (slowMk n (actsM n m))
        have eg2 : mg (slowMk n (actsM n m)) = mg m := eg
        have h3 := h3 (Nat.le_refl _)
        rw [eg2, v_slow, eg, e2, e1] at h1 h2
        exact ⟨bs, h1, h2, h3⟩
      · obtain ⟨bs, h1, h2, h3⟩ := ih.2 (by omega)
        refine ⟨bs, h1, (v_act_ne (by omega)).trans h2, ?_⟩
        have e : ms (actM n (actsM n m)) k = ms (actsM n m) k := congrArg Prod.fst (v_act_ne (j := n) (k := k) (m := actsM n m) (by omega))
        show ¬ wantsM (ms (actM n (actsM n m)) k)
        rw [e]
        exact h3
