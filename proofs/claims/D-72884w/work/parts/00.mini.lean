/-! M: the system in plain integers; the numbers of a state and the fields of a sender or source as in XS -/
abbrev SdM : Type := (Nat → Int) × (Int → Option Int) × List Int
abbrev PkM : Type := Nat × Int × Int
abbrev NtM : Type := Int × Nat × Int × Int
abbrev MS : Type := (Nat → Int) × List PkM × Option PkM × (Nat → SdM) × (Nat → Nat → Int) × List NtM
abbrev mg (m : MS) : Nat → Int := m.1
abbrev mq (m : MS) : List PkM := m.2.1
abbrev mv (m : MS) : Option PkM := m.2.2.1
abbrev ms (m : MS) : Nat → SdM := m.2.2.2.1
abbrev mc (m : MS) : Nat → Nat → Int := m.2.2.2.2.1
abbrev mnt (m : MS) : List NtM := m.2.2.2.2.2
def iup (f : Nat → Int) (k : Nat) (v : Int) : Nat → Int := fun j => if j = k then v else f j
def fup {α : Type} (f : Nat → α) (k : Nat) (v : α) : Nat → α := fun j => if j = k then v else f j
def omin : Option Int → Option Int → Option Int
  | none, b => b
  | a, none => a
  | some a, some b => some (if b < a then b else a)
def baseM (f : Int → Option Int) (mi : Int) : Option Int := omin (omin (omin (omin (f (mi - 4)) (f (mi - 3))) (f (mi - 2))) (f (mi - 1))) (f mi)
def oc : Option Int → Int
  | none => 0
  | some _ => 1
def keptM (f : Int → Option Int) (mi : Int) : Int := oc (f (mi - 4)) + oc (f (mi - 3)) + oc (f (mi - 2)) + oc (f (mi - 1)) + oc (f mi)
def lmin : List Int → Option Int
  | [] => none
  | a :: l => omin (some a) (lmin l)
def queueM (s : SdM) (mi : Int) : Int := (lmin s.2.2).getD 0 - (baseM s.2.1 mi).getD 0
def enterM (s : SdM) (d mi : Int) : SdM := (s.1, (fun j => if j = mi then omin (s.2.1 mi) (some d) else s.2.1 j), (d :: s.2.2).take 4)
def nextM (sv : Nat → Int) (off : Int) : Int := sv 4 + (sv 1 * 65536 * off).tdiv (sv 0 * sv 4)
def topM (sv : Nat → Int) : Int := if 256 * (sv 5 + 3) ≤ sv 4 then sv 4 else 256 * (sv 5 + 3)
def stepW (sv : Nat → Int) (off : Int) : Int := if nextM sv off ≤ sv 4 then nextM sv off else if topM sv ≤ nextM sv off then topM sv else nextM sv off
def steerM (sv : Nat → Int) (off : Int) : Nat → Int := iup sv 4 (if stepW sv off < 256 then 256 else stepW sv off)
def ack0M (sv : Nat → Int) : Nat → Int := iup (iup sv 5 (sv 5 - 1)) 7 (sv 7 + 1)
def ackM (s : SdM) (d mi : Int) : SdM := ((if s.1 11 = -1 then steerM (ack0M s.1) (s.1 0 - queueM (enterM s d mi) mi) else ack0M s.1), (enterM s d mi).2)
def halfM (w : Int) : Int := if w / 2 < 256 then 256 else w / 2
def lostM (s : SdM) (num : Int) : SdM := ((if num < s.1 9 then iup (iup s.1 5 (s.1 5 - 1)) 8 (s.1 8 + 1) else iup (iup (iup (iup (iup s.1 5 (s.1 5 - 1)) 8 (s.1 8 + 1)) 4 (halfM (s.1 4))) 12 (halfM (s.1 12))) 9 (s.1 6)), s.2)
def onlyM (f : Int → Option Int) (mi : Int) : Int → Option Int := if (f mi).isSome then (fun j => if j = mi then f j else none) else f
def endsM (s : SdM) (tk : Int) : SdM := if s.1 11 = -1 then s else if tk < s.1 11 then s else (iup (iup (iup s.1 4 (s.1 12)) 11 (-1)) 10 tk, onlyM s.2.1 (tk / 200), s.2.2)
def beginsM (s : SdM) (tk iv : Int) : SdM := if 0 < iv ∧ s.1 3 ≠ 0 ∧ s.1 11 = -1 ∧ iv ≤ tk - s.1 10 then (iup (iup (iup s.1 12 (s.1 4)) 4 512) 11 (tk + 60), s.2) else s
def slowM (s : SdM) (tk iv : Int) : SdM := beginsM (endsM s tk) tk iv
def sentM (s : SdM) : SdM := (iup (iup s.1 6 (s.1 6 + 1)) 5 (s.1 5 + 1), s.2)
def wantsM (s : SdM) : Prop := s.1 3 ≠ 0 ∧ s.1 5 < s.1 4 / 256
def setSM (m : MS) (k : Nat) (s : SdM) : MS := (mg m, mq m, mv m, fup (ms m) k s, mc m, mnt m)
def pushM (m : MS) (n : NtM) : MS := (mg m, mq m, mv m, ms m, mc m, mnt m ++ [n])
def reachM (s : SdM) (lo v mi : Int) : SdM := if lo = 0 then ackM s v mi else lostM s v
def handS (now : Int) (f : Nat → SdM) (n : NtM) : Nat → SdM := if n.1 = now then fup f n.2.1 (reachM (f n.2.1) n.2.2.1 n.2.2.2 (now / 200)) else f
def handM (m : MS) : MS := (mg m, mq m, mv m, (mnt m).foldl (handS (mg m 5)) (ms m), mc m, (mnt m).filter (fun n => n.1 ≠ mg m 5))
def enqM (m : MS) (w : Nat) (nu : Int) : MS := if ((mq m).length : Int) < mg m 0 then (mg m, mq m ++ [(w, nu, mg m 5)], m.2.2) else m
def sendM1 (k : Nat) (m : MS) : MS := if ((mq m).length : Int) < mg m 0 then enqM (setSM m k (sentM (ms m k))) k ((ms m k).1 6) else pushM (setSM m k (sentM (ms m k))) (mg m 5 + mg m 2 + mg m 3, k, 1, (ms m k).1 6)
def sendsM : Nat → Nat → MS → MS
  | 0, _, m => m
  | n + 1, k, m => if (ms m k).1 3 ≠ 0 ∧ (ms m k).1 5 < (ms m k).1 4 / 256 then sendsM n k (sendM1 k m) else m
def slowMk (k : Nat) (m : MS) : MS := setSM m k (slowM (ms m k) (mg m 5) (mg m 4))
def actM (k : Nat) (m : MS) : MS := sendsM ((ms (slowMk k m) k).1 4 / 256 - (ms (slowMk k m) k).1 5).toNat k (slowMk k m)
def actsM : Nat → MS → MS
  | 0, m => m
  | n + 1, m => actM n (actsM n m)
def offM (c : Nat → Int) (t : Int) : Nat := if c 0 ≤ t ∧ t ≤ c 3 ∧ (t - c 0) % c 1 = 0 then (c 2).toNat else 0
def enqSM (k : Nat) (m : MS) : MS := if ((mq m).length : Int) < mg m 0 then enqM m (4 + k) 0 else (mg m, mq m, mv m, ms m, fup (mc m) k (iup (mc m k) 4 (mc m k 4 + 1)), mnt m)
def burstNM : Nat → Nat → MS → MS
  | 0, _, m => m
  | n + 1, k, m => burstNM n k (enqSM k m)
def burstM (k : Nat) (m : MS) : MS := burstNM (offM (mc m k) (mg m 5)) k m
def burstsM : Nat → MS → MS
  | 0, m => m
  | n + 1, m => burstM n (burstsM n m)
def beginM (m : MS) : MS :=
  match mv m, mq m with
  | none, p :: l => (iup (mg m) 14 (mg m 5 + mg m 1 - 1), l, some p, m.2.2.2)
  | _, _ => m
def finiM (m : MS) : MS :=
  match mv m with
  | some p => if mg m 14 = mg m 5 then (if p.1 < 4 then pushM (iup (mg m) 18 (mg m 18 + 1), mq m, none, m.2.2.2) (mg m 5 + mg m 2 + mg m 3, p.1, 0, mg m 5 + mg m 2 - p.2.2 + (ms m p.1).1 2) else (iup (mg m) 18 (mg m 18 + 1), mq m, none, m.2.2.2)) else m
  | none => m
def countM (m : MS) : MS := (iup (iup (iup (mg m) 15 (if mg m 15 < (mq m).length then (mq m).length else mg m 15)) 16 (mg m 16 + (mq m).length)) 17 (mg m 17 + (if mq m = [] ∧ mv m = none then 1 else 0)), m.2)
def nowM (m : MS) : MS := (iup (mg m) 5 (mg m 5 + 1), m.2)
def midM (nS nC : Nat) (m : MS) : MS := burstsM nC (actsM nS (handM (nowM m)))
def tickM (nS nC : Nat) (m : MS) : MS := countM (finiM (beginM (midM nS nC m)))
def dlR (v : Int) : Prop := -2000000 ≤ v ∧ v ≤ 2000000
def dlO (o : Option Int) : Prop := ∀ v, o = some v → dlR v
theorem dlO_omin {a b : Option Int} (ha : dlO a) (hb : dlO b) : dlO (omin a b) := by
  intro v hv
  cases a with
  | none => exact hb v hv
  | some a =>
    cases b with
    | none => exact ha v hv
    | some b =>
      simp only [omin] at hv
      cases hv
      split
      · exact hb b rfl
      · exact ha a rfl
def laO (l : List Int) : Prop := ∀ v ∈ l, dlR v
def sdI (tk : Int) (s : SdM) : Prop := (1 ≤ s.1 0 ∧ s.1 0 ≤ 200) ∧ (1 ≤ s.1 1 ∧ s.1 1 ≤ 8) ∧ (-1000 ≤ s.1 2 ∧ s.1 2 ≤ 1000) ∧ (s.1 3 = 0 ∨ s.1 3 = 1) ∧ (256 ≤ s.1 4 ∧ s.1 4 ≤ 1074000000) ∧ (0 ≤ s.1 5 ∧ s.1 5 ≤ 4194304) ∧ (0 ≤ s.1 6 ∧ s.1 6 ≤ 4194304) ∧ (0 ≤ s.1 7 ∧ s.1 7 ≤ 4194304) ∧ (0 ≤ s.1 8 ∧ s.1 8 ≤ 4194304) ∧ (0 ≤ s.1 9 ∧ s.1 9 ≤ 4194304) ∧ (0 ≤ s.1 10 ∧ s.1 10 ≤ tk) ∧ (s.1 11 = -1 ∨ (0 ≤ s.1 11 ∧ s.1 11 ≤ 100100)) ∧ (0 ≤ s.1 12 ∧ s.1 12 ≤ 1074000000 ∧ (s.1 11 ≠ -1 → 256 ≤ s.1 12)) ∧ (∀ j, tk / 200 < j → s.2.1 j = none) ∧ (∀ j, j < 0 → s.2.1 j = none) ∧ (∀ j, dlO (s.2.1 j)) ∧ s.2.2.length ≤ 4 ∧ laO s.2.2
def sdE (s : SdM) : Prop := s.1 6 = s.1 5 + s.1 7 + s.1 8
theorem half_rng {w : Int} (h0 : 0 ≤ w) (h1 : w ≤ 1074000000) : 256 ≤ halfM w ∧ halfM w ≤ 1074000000 := by
  unfold halfM; split <;> omega
theorem sdI.lost {tk n : Int} {s : SdM} (h : sdI tk s) (he : sdE s) (h1 : 1 ≤ s.1 5) : sdI tk (lostM s n) ∧ sdE (lostM s n) ∧ (lostM s n).1 5 = s.1 5 - 1 ∧ (lostM s n).1 6 = s.1 6 := by
  unfold sdI at h
  obtain ⟨i0, i1, i2, i3, i4, i5, i6, i7, i8, i9, i10, i11, i12, i13, i14, i15, i16, i17⟩ := h
  unfold sdE at he
  have hw := half_rng (w := s.1 4) (by omega) (by omega)
  have hk := half_rng (w := s.1 12) (by omega) (by omega)
  unfold lostM
  by_cases q : n < s.1 9
  · simp only [if_pos q]
    refine ⟨⟨i0, i1, i2, i3, i4, ?_, i6, i7, ?_, i9, i10, i11, i12, i13, i14, i15, i16, i17⟩, ?_, rfl, rfl⟩
    · show 0 ≤ s.1 5 - 1 ∧ s.1 5 - 1 ≤ 4194304; omega
    · show 0 ≤ s.1 8 + 1 ∧ s.1 8 + 1 ≤ 4194304; omega
    · show s.1 6 = s.1 5 - 1 + s.1 7 + (s.1 8 + 1); omega
  · simp only [if_neg q]
    refine ⟨⟨i0, i1, i2, i3, hw, ?_, i6, i7, ?_, ?_, i10, i11, ?_, i13, i14, i15, i16, i17⟩, ?_, rfl, rfl⟩
    · show 0 ≤ s.1 5 - 1 ∧ s.1 5 - 1 ≤ 4194304; omega
    · show 0 ≤ s.1 8 + 1 ∧ s.1 8 + 1 ≤ 4194304; omega
    · show 0 ≤ s.1 6 ∧ s.1 6 ≤ 4194304; omega
    · show 0 ≤ halfM (s.1 12) ∧ halfM (s.1 12) ≤ 1074000000 ∧ (s.1 11 ≠ -1 → 256 ≤ halfM (s.1 12))
      exact ⟨by omega, hk.2, fun _ => hk.1⟩
    · show s.1 6 = s.1 5 - 1 + s.1 7 + (s.1 8 + 1); omega
theorem step_rng {sv : Nat → Int} {off : Int} (hw : 256 ≤ sv 4 ∧ sv 4 ≤ 1074000000) (hf : sv 5 ≤ 4194304) : stepW sv off ≤ 1074000000 := by
  unfold stepW topM
  split
  · omega
  · split
    · split <;> omega
    · split at * <;> omega
theorem sdI.ack {tk d : Int} {s : SdM} (h : sdI tk s) (he : sdE s) (h1 : 1 ≤ s.1 5) (h0 : 0 ≤ tk) (hd : dlR d) : sdI tk (ackM s d (tk / 200)) ∧ sdE (ackM s d (tk / 200)) ∧ (ackM s d (tk / 200)).1 5 = s.1 5 - 1 ∧ (ackM s d (tk / 200)).1 6 = s.1 6 := by
  unfold sdI at h
  obtain ⟨i0, i1, i2, i3, i4, i5, i6, i7, i8, i9, i10, i11, i12, i13, i14, i15, i16, i17⟩ := h
  unfold sdE at he
  have j13 : ∀ j, tk / 200 < j → (enterM s d (tk / 200)).2.1 j = none := by
    intro j hj
    show (if j = tk / 200 then _ else _) = _
    rw [if_neg (by omega)]; exact i13 j hj
  have j14 : ∀ j, j < 0 → (enterM s d (tk / 200)).2.1 j = none := by
    intro j hj
    show (if j = tk / 200 then _ else _) = _
    rw [if_neg (by omega)]; exact i14 j hj
  have j15 : ∀ j, dlO ((enterM s d (tk / 200)).2.1 j) := by
    intro j
    show dlO (if j = tk / 200 then omin (s.2.1 (tk / 200)) (some d) else s.2.1 j)
    split
    · exact dlO_omin (i15 _) (fun v hv => by cases hv; exact hd)
    · exact i15 j
  have j16 : (enterM s d (tk / 200)).2.2.length ≤ 4 := by
    show ((d :: s.2.2).take 4).length ≤ 4
    rw [List.length_take]; omega
  have j17 : laO (enterM s d (tk / 200)).2.2 := by
    intro v hv
    rcases List.mem_cons.mp (List.mem_of_mem_take hv) with q | q
    · rw [q]; exact hd
    · exact i17 v q
  have h5 : 0 ≤ s.1 5 - 1 ∧ s.1 5 - 1 ≤ 4194304 := by omega
  have h7 : 0 ≤ s.1 7 + 1 ∧ s.1 7 + 1 ≤ 4194304 := by omega
  have h6 : s.1 6 = s.1 5 - 1 + (s.1 7 + 1) + s.1 8 := by omega
  unfold ackM
  by_cases q : s.1 11 = -1
  · simp only [if_pos q]
    refine ⟨⟨i0, i1, i2, i3, ?_, h5, i6, h7, i8, i9, i10, i11, i12, j13, j14, j15, j16, j17⟩, h6, rfl, rfl⟩
    have hs := step_rng (sv := ack0M s.1) (off := s.1 0 - queueM (enterM s d (tk / 200)) (tk / 200)) i4 h5.2
    show 256 ≤ (if stepW (ack0M s.1) _ < 256 then 256 else stepW (ack0M s.1) _) ∧ (if stepW (ack0M s.1) _ < 256 then 256 else stepW (ack0M s.1) _) ≤ 1074000000
    split <;> omega
  · simp only [if_neg q]
    exact ⟨⟨i0, i1, i2, i3, i4, h5, i6, h7, i8, i9, i10, i11, i12, j13, j14, j15, j16, j17⟩, h6, rfl, rfl⟩
theorem sdI.mono {tk tk' : Int} {s : SdM} (h : sdI tk s) (hm : tk ≤ tk') : sdI tk' s := by
  unfold sdI at h ⊢
  obtain ⟨i0, i1, i2, i3, i4, i5, i6, i7, i8, i9, i10, i11, i12, i13, i14, i15, i16, i17⟩ := h
  exact ⟨i0, i1, i2, i3, i4, i5, i6, i7, i8, i9, by omega, i11, i12, fun j hj => i13 j (by omega), i14, i15, i16, i17⟩
theorem sdI.ends {tk : Int} {s : SdM} (h : sdI tk s) (h0 : 0 ≤ tk) : sdI tk (endsM s tk) := by
  have h' := h
  unfold sdI at h
  obtain ⟨i0, i1, i2, i3, i4, i5, i6, i7, i8, i9, i10, i11, i12, i13, i14, i15, i16, i17⟩ := h
  unfold endsM
  by_cases q : s.1 11 = -1
  · rw [if_pos q]; exact h'
  · rw [if_neg q]
    split
    · exact h'
    · refine ⟨i0, i1, i2, i3, ⟨i12.2.2 q, i12.2.1⟩, i5, i6, i7, i8, i9, ⟨h0, Int.le_refl _⟩, Or.inl rfl, ⟨i12.1, i12.2.1, fun z => absurd rfl z⟩, ?_, ?_, ?_, i16, i17⟩
      · intro j hj
        show onlyM s.2.1 (tk / 200) j = none
        unfold onlyM
        split
        · show (if j = tk / 200 then _ else _) = _
          rw [if_neg (by omega)]
        · exact i13 j hj
      · intro j hj
        show onlyM s.2.1 (tk / 200) j = none
        unfold onlyM
        split
        · show (if j = tk / 200 then _ else _) = _
          rw [if_neg (by omega)]
        · exact i14 j hj
      · intro j
        show dlO (onlyM s.2.1 (tk / 200) j)
        unfold onlyM
        split
        · show dlO (if j = tk / 200 then _ else _)
          split
          · exact i15 j
          · intro v hv; cases hv
        · exact i15 j
theorem sdI.begins {tk iv : Int} {s : SdM} (h : sdI tk s) (h0 : 0 ≤ tk) (h9 : tk ≤ 100000) : sdI tk (beginsM s tk iv) := by
  have h' := h
  unfold sdI at h
  obtain ⟨i0, i1, i2, i3, i4, i5, i6, i7, i8, i9, i10, i11, i12, i13, i14, i15, i16, i17⟩ := h
  unfold beginsM
  split
  · refine ⟨i0, i1, i2, i3, ⟨by show (256 : Int) ≤ 512; decide, by show (512 : Int) ≤ _; decide⟩, i5, i6, i7, i8, i9, i10, Or.inr ?_, ?_, i13, i14, i15, i16, i17⟩
    · show 0 ≤ tk + 60 ∧ tk + 60 ≤ 100100; omega
    · show 0 ≤ s.1 4 ∧ s.1 4 ≤ 1074000000 ∧ (_ → 256 ≤ s.1 4)
      exact ⟨by omega, i4.2, fun _ => i4.1⟩
  · exact h'
theorem sdI.sent {tk : Int} {s : SdM} (h : sdI tk s) (he : sdE s) (h6 : s.1 6 + 1 ≤ 4194304) : sdI tk (sentM s) ∧ sdE (sentM s) := by
  unfold sdI at h
  obtain ⟨i0, i1, i2, i3, i4, i5, i6, i7, i8, i9, i10, i11, i12, i13, i14, i15, i16, i17⟩ := h
  unfold sdE at he ⊢
  refine ⟨⟨i0, i1, i2, i3, i4, ?_, ?_, i7, i8, i9, i10, i11, i12, i13, i14, i15, i16, i17⟩, ?_⟩
  · show 0 ≤ s.1 5 + 1 ∧ s.1 5 + 1 ≤ 4194304; omega
  · show 0 ≤ s.1 6 + 1 ∧ s.1 6 + 1 ≤ 4194304; omega
  · show s.1 6 + 1 = s.1 5 + 1 + s.1 7 + s.1 8; omega
def ntI (nS : Nat) (n : NtM) : Prop := (0 ≤ n.1 ∧ n.1 ≤ 200000) ∧ n.2.1 < nS ∧ ((n.2.2.1 = 1 ∧ 0 ≤ n.2.2.2 ∧ n.2.2.2 < 4194304) ∨ (n.2.2.1 = 0 ∧ dlR n.2.2.2))
def cQ (k : Nat) (l : List PkM) : Nat := l.countP (fun p => decide (p.1 = k))
def cV (k : Nat) (o : Option PkM) : Nat := if o.map Prod.fst = some k then 1 else 0
def cN (k : Nat) (l : List NtM) : Nat := l.countP (fun n => decide (n.2.1 = k))
def pkI (nS : Nat) (now : Int) (p : PkM) : Prop := p.1 < 8 ∧ (p.1 < 4 → p.1 < nS) ∧ (0 ≤ p.2.1 ∧ p.2.1 < 4194304) ∧ (0 ≤ p.2.2 ∧ p.2.2 ≤ now)
def srI (c : Nat → Int) : Prop := (0 ≤ c 0 ∧ c 0 ≤ 100000) ∧ (1 ≤ c 1 ∧ c 1 ≤ 1000) ∧ (1 ≤ c 2 ∧ c 2 ≤ 30) ∧ (c 0 ≤ c 3 ∧ c 3 ≤ 100000)
def mgI (g : Nat → Int) : Prop := (1 ≤ g 0 ∧ g 0 ≤ 60) ∧ (1 ≤ g 1 ∧ g 1 ≤ 20) ∧ (0 ≤ g 2 ∧ g 2 ≤ 100) ∧ (1 ≤ g 3 ∧ g 3 ≤ 100) ∧ (0 ≤ g 4 ∧ g 4 ≤ 2000) ∧ (0 ≤ g 5 ∧ g 5 ≤ 100000) ∧ (0 ≤ g 14 ∧ g 14 ≤ 100100) ∧ (0 ≤ g 15 ∧ g 15 ≤ 60)
def MI (nS nC : Nat) (m : MS) : Prop := nS ≤ 4 ∧ nC ≤ 4 ∧ mgI (mg m) ∧ (mq m).length ≤ 60 ∧ (∀ p ∈ mq m, pkI nS (mg m 5) p) ∧ (∀ p, mv m = some p → pkI nS (mg m 5) p) ∧ (∀ k, k < nS → sdI (mg m 5) (ms m k) ∧ sdE (ms m k) ∧ (ms m k).1 5 = cQ k (mq m) + cV k (mv m) + cN k (mnt m)) ∧ (∀ k, k < nC → srI (mc m k)) ∧ ∀ n ∈ mnt m, ntI nS n
theorem cQ_snoc {k : Nat} {l : List PkM} {p : PkM} : cQ k (l ++ [p]) = cQ k l + if p.1 = k then 1 else 0 := by
  unfold cQ
  rw [List.countP_append, List.countP_singleton]
  simp only [decide_eq_true_eq]
theorem cN_snoc {k : Nat} {l : List NtM} {p : NtM} : cN k (l ++ [p]) = cN k l + if p.2.1 = k then 1 else 0 := by
  unfold cN
  rw [List.countP_append, List.countP_singleton]
  simp only [decide_eq_true_eq]
theorem send_11 {k j : Nat} {m : MS} : (ms (sendM1 k m) j).1 11 = (ms m j).1 11 ∧ mg (sendM1 k m) = mg m := by
  have e : (fup (ms m) k (sentM (ms m k)) j).1 11 = (ms m j).1 11 := by
    unfold fup
    split
    · rename_i h; rw [h]; rfl
    · rfl
  unfold sendM1 enqM
  split
  · split <;> exact ⟨e, rfl⟩
  · exact ⟨e, rfl⟩
theorem sends_11 {k j : Nat} : ∀ (n : Nat) (m : MS), (ms (sendsM n k m) j).1 11 = (ms m j).1 11 ∧ mg (sendsM n k m) = mg m := by
  intro n
  induction n with
  | zero => intro m; exact ⟨rfl, rfl⟩
  | succ n ih =>
    intro m
    show (ms (if _ then _ else _) j).1 11 = _ ∧ mg (if _ then _ else _) = _
    split
    · have h1 := ih (sendM1 k m)
      have h2 := send_11 (k := k) (j := j) (m := m)
      exact ⟨h1.1.trans h2.1, h1.2.trans h2.2⟩
    · exact ⟨rfl, rfl⟩
theorem act_g {k : Nat} {m : MS} : mg (actM k m) = mg m := (sends_11 (k := k) (j := k) _ _).2
theorem acts_g {m : MS} : ∀ n, mg (actsM n m) = mg m := by
  intro n
  induction n with
  | zero => rfl
  | succ n ih => exact act_g.trans ih
theorem enqS_keep {k : Nat} {m : MS} : ms (enqSM k m) = ms m ∧ mg (enqSM k m) = mg m ∧ mnt (enqSM k m) = mnt m := by
  unfold enqSM enqM
  split
  · exact ⟨rfl, rfl, rfl⟩
  · exact ⟨rfl, rfl, rfl⟩
theorem burN_keep {k : Nat} : ∀ (n : Nat) (m : MS), ms (burstNM n k m) = ms m ∧ mg (burstNM n k m) = mg m ∧ mnt (burstNM n k m) = mnt m := by
  intro n
  induction n with
  | zero => intro m; exact ⟨rfl, rfl, rfl⟩
  | succ n ih =>
    intro m
    have h1 := ih (enqSM k m)
    have h2 := enqS_keep (k := k) (m := m)
    exact ⟨h1.1.trans h2.1, h1.2.1.trans h2.2.1, h1.2.2.trans h2.2.2⟩
theorem burs_keep {m : MS} : ∀ n : Nat, ms (burstsM n m) = ms m ∧ mg (burstsM n m) = mg m ∧ mnt (burstsM n m) = mnt m := by
  intro n
  induction n with
  | zero => exact ⟨rfl, rfl, rfl⟩
  | succ n ih =>
    have h1 := burN_keep (k := n) (offM (mc (burstsM n m) n) (mg (burstsM n m) 5)) (burstsM n m)
    exact ⟨h1.1.trans ih.1, h1.2.1.trans ih.2.1, h1.2.2.trans ih.2.2⟩
theorem begin_keep {m : MS} : ms (beginM m) = ms m ∧ mnt (beginM m) = mnt m ∧ ∀ k, k ≠ 14 → mg (beginM m) k = mg m k := by
  unfold beginM
  split
  · exact ⟨rfl, rfl, fun k hk => if_neg hk⟩
  · exact ⟨rfl, rfl, fun k hk => rfl⟩
theorem fini_keep {m : MS} : ms (finiM m) = ms m ∧ (mnt m).length ≤ (mnt (finiM m)).length ∧ ∀ k, k ≠ 18 → mg (finiM m) k = mg m k := by
  unfold finiM
  split
  · split
    · split
      · refine ⟨rfl, ?_, fun k hk => if_neg hk⟩
        show (mnt m).length ≤ (mnt m ++ [_]).length
        rw [List.length_append]; omega
      · exact ⟨rfl, Nat.le_refl _, fun k hk => if_neg hk⟩
    · exact ⟨rfl, Nat.le_refl _, fun k hk => rfl⟩
  · exact ⟨rfl, Nat.le_refl _, fun k hk => rfl⟩
def tkN (nS nC : Nat) : Nat → MS → MS
  | 0, m => m
  | n + 1, m => tickM nS nC (tkN nS nC n m)
def rOK (nS nC T : Nat) (m : MS) : Prop := (mnt m).length ≤ 4096 ∧ ∀ k, k < T → (mnt (tkN nS nC (k + 1) m)).length ≤ 4096 ∧ ∀ j, j < nS → (ms (actsM nS (handM (nowM (tkN nS nC k m)))) j).1 6 ≤ 4194304
def crM (nS nC : Nat) (m : MS) : Nat := (mnt (tickM nS nC m)).length - ((mnt m).filter (fun n => n.1 ≠ mg m 5 + 1)).length
def crN (nS nC : Nat) : Nat → MS → Nat
  | 0, _ => 0
  | n + 1, m => crN nS nC n m + crM nS nC (tkN nS nC n m)
