/-! Bounds: what is kept of a view and its ghost, notice by notice -/
theorem sdB.of {tk t2 : Int} {s : SdM} (h : sdI tk s) : sdB t2 s := by
  unfold sdI at h
  unfold sdB
  omega
theorem sdB.lost {tk : Int} {s : SdM} {num : Int} (h : sdB tk s) (h1 : 1 ≤ s.1 5) : sdB tk (lostM s num) := by
  unfold sdB at h ⊢
  rw [lost_5]
  by_cases q : num < s.1 9
  · have e := lost_s (s := s) (num := num) q
    have e0 : (lostM s num).1 0 = s.1 0 := by rw [e]; simp [iup]
    have e1 : (lostM s num).1 1 = s.1 1 := by rw [e]; simp [iup]
    have e4 : (lostM s num).1 4 = s.1 4 := by rw [e]; simp [iup]
    rw [e0, e1, e4]
    omega
  · have e := lost_f (s := s) (num := num) q
    have e0 : (lostM s num).1 0 = s.1 0 := by rw [e]; simp [iup]
    have e1 : (lostM s num).1 1 = s.1 1 := by rw [e]; simp [iup]
    have e4 : (lostM s num).1 4 = halfM (s.1 4) := by rw [e]; simp [iup]
    have := half_rng (w := s.1 4)
    rw [e0, e1, e4]
    unfold halfM
    split <;> omega
theorem sdB.ack {tk : Int} {s : SdM} {d mi : Int} (h : sdB tk s) (h1 : 1 ≤ s.1 5) : sdB tk (ackM s d mi) := by
  have h' := h
  unfold sdB at h ⊢
  rw [ack_5, ack_o (k := 0) (by decide) (by decide) (by decide), ack_o (k := 1) (by decide) (by decide) (by decide)]
  by_cases q : s.1 11 = -1
  · have hg : ∃ g : Int, 0 ≤ g ∧ - g ≤ queueM (enterM s d mi) mi := by
      by_cases z : 0 ≤ queueM (enterM s d mi) mi
      · exact ⟨0, by omega, by omega⟩
      · exact ⟨- queueM (enterM s d mi) mi, by omega, by omega⟩
    obtain ⟨g, g0, g1⟩ := hg
    have := (ack_4 h' q g0 g1).1
    omega
  · rw [ack_4s q]
    omega
theorem sdB.sent {tk : Int} {s : SdM} (h : sdB tk s) : sdB tk (sentM s) := by
  unfold sdB at h ⊢
  rw [sent_5, sent_o (k := 0) (by decide) (by decide), sent_o (k := 1) (by decide) (by decide), sent_o (k := 4) (by decide) (by decide)]
  omega
theorem sdB.ends {tk t2 : Int} {s : SdM} (h : sdB t2 s) (hk : sW s) : sdB t2 (endsM s tk) := by
  unfold sdB at h ⊢
  rw [ends_o (k := 0) (by decide) (by decide) (by decide), ends_o (k := 1) (by decide) (by decide) (by decide), ends_o (k := 5) (by decide) (by decide) (by decide)]
  have e : (endsM s tk).1 4 = s.1 4 ∨ (s.1 11 ≠ -1 ∧ (endsM s tk).1 4 = s.1 12) := by
    unfold endsM
    by_cases q : s.1 11 = -1
    · rw [if_pos q]; exact Or.inl rfl
    · rw [if_neg q]
      by_cases q2 : tk < s.1 11
      · rw [if_pos q2]; exact Or.inl rfl
      · rw [if_neg q2]
        exact Or.inr ⟨q, by simp [iup]⟩
  rcases e with e | ⟨q, e⟩
  · rw [e]; exact h
  · have := hk q
    rw [e]
    omega
theorem sdB.begins {tk t2 iv : Int} {s : SdM} (h : sdB t2 s) : sdB t2 (beginsM s tk iv) := by
  unfold sdB at h ⊢
  rw [begins_o (k := 0) (by decide) (by decide) (by decide), begins_o (k := 1) (by decide) (by decide) (by decide), begins_o (k := 5) (by decide) (by decide) (by decide)]
  unfold beginsM
  split
  · have e4 : (iup (iup (iup s.1 12 (s.1 4)) 4 512) 11 (tk + 60)) 4 = 512 := by simp [iup]
    dsimp only
    rw [e4]
    omega
  · omega
/-- ghost: keys to come, latest entries, first ones of the minutes -/
abbrev Gh : Type := Int × List EnF × (Int → Int)
def stepG (tq T0 now : Int) (f : Int → Option Int) (g : Gh) (n : NtM) : Gh := if n.1 = now ∧ isA n then (kaN tq now g.1 n, ackL tq T0 now n.2.2.2 g.2.1, ackF tq T0 now f g.2.2) else g
def VM (now c dl tq T0 R : Int) (s : SdM) (o : List Int) (l : List NtM) (g : Gh) : Prop := FI (s, o, l) ∧ FO now c dl tq T0 R g.1 o l ∧ SF now g.1 tq T0 g.2.1 g.2.2 s.2.1 s.2.2 ∧ sW s ∧ sdB now s
theorem SF.congr {now ka tq T0 : Int} {L : List EnF} {fa : Int → Int} {f f2 : Int → Option Int} {la la2 : List Int} (h : SF now ka tq T0 L fa f la) (e1 : f2 = f) (e2 : la2 = la) : SF now ka tq T0 L fa f2 la2 := by
  rw [e1, e2]
  exact h
section VMS
variable {now c dl tq T0 R : Int} {s : SdM} {o : List Int} {l : List NtM} {g : Gh}
/-- a loss of now comes in -/
theorem VM.lost {l1 l2 : List NtM} {n : NtM} (h : VM now c dl tq T0 R s o (l1 ++ n :: l2) g) (hn : ¬ isA n) : VM now c dl tq T0 R (lostM s n.2.2.2) o (l1 ++ l2) g := by
  obtain ⟨h1, h2, h3, h4, h5⟩ := h
  have p := pV_lost h1 h5 h4 hn
  refine ⟨p.2.1, h2.sub (List.Sublist.append (List.Sublist.refl _) (List.sublist_cons_self _ _)), ?_, p.2.2.2, h5.lost ?_⟩
  · have e : (lostM s n.2.2.2).2 = s.2 := rfl
    exact h3.congr (by rw [e]) (by rw [e])
  · have := h1.1
    have this : s.1 5 = ((o.length + (l1 ++ n :: l2).length : Nat) : Int) := this
    rw [mid_len] at this
    omega
/-- the ghost's part of an acknowledgment of now -/
theorem VM.stor {l1 l2 : List NtM} {n : NtM} (h : VM now c dl tq T0 R s o (l1 ++ n :: l2) g) (hn : isA n) (ht : n.1 = now) : SF now (stepG tq T0 now s.2.1 g n).1 tq T0 (stepG tq T0 now s.2.1 g n).2.1 (stepG tq T0 now s.2.1 g n).2.2 (enterM s n.2.2.2 (now / 200)).2.1 (enterM s n.2.2.2 (now / 200)).2.2 ∧ (stepG tq T0 now s.2.1 g n).2.1 = (now, tN tq T0 now, n.2.2.2) :: g.2.1.take 3 ∧ (tq < now → (stepG tq T0 now s.2.1 g n).1 = now - n.2.2.2) := by
  obtain ⟨h1, h2, h3, h4, h5⟩ := h
  have hm : n ∈ l1 ++ n :: l2 := List.mem_append_right _ List.mem_cons_self
  have e : stepG tq T0 now s.2.1 g n = (kaN tq now g.1 n, ackL tq T0 now n.2.2.2 g.2.1, ackF tq T0 now s.2.1 g.2.2) := if_pos ⟨ht, hn⟩
  rw [e]
  dsimp only
  have hf := h2.2.2.2.2.2 n hm hn
  have hT := h2.2.2.2.1
  refine ⟨?_, ?_, ?_⟩
  · refine h3.ack hT.2.1 hT.2.2 (fun q => ?_) (fun q => ?_)
    · unfold kaN
      rw [if_pos ⟨hn, ht, q⟩]
      refine ⟨(hf.1 (by omega)).1, ?_⟩
      unfold kyN
      rw [ht]
    · unfold kaN
      rw [if_neg (fun z => by have := z.2.2; omega)]
      exact ⟨rfl, hf.2 (by omega)⟩
  · unfold ackL
    rw [List.take_succ_cons]
  · intro q
    unfold kaN
    rw [if_pos ⟨hn, ht, q⟩]
    unfold kyN
    rw [ht]
theorem ackM_2 {d mi : Int} : (ackM s d mi).2 = (enterM s d mi).2 := rfl
/-- an acknowledgment of now comes in -/
theorem VM.ack {l1 l2 : List NtM} {n : NtM} (h : VM now c dl tq T0 R s o (l1 ++ n :: l2) g) (hn : isA n) (ht : n.1 = now) (hl : ∀ a ∈ l1, now < a.1) (hr : ∀ a ∈ l2, now ≤ a.1) : VM now c dl tq T0 R (ackM s n.2.2.2 (now / 200)) o (l1 ++ l2) (stepG tq T0 now s.2.1 g n) := by
  have hst := h.stor hn ht
  obtain ⟨h1, h2, h3, h4, h5⟩ := h
  have p := pV_ack (mi := now / 200) h1 h5 h4 hn
  refine ⟨p.1, ?_, hst.1, p.2.1, h5.ack ?_⟩
  · have e : (stepG tq T0 now s.2.1 g n).1 = kaN tq now g.1 n := by
      unfold stepG
      rw [if_pos ⟨ht, hn⟩]
    rw [e]
    exact h2.hand ht hl hr
  · have this : s.1 5 = ((o.length + (l1 ++ n :: l2).length : Nat) : Int) := h1.1
    rw [mid_len] at this
    omega
/-- a tick more -/
theorem VM.nxt (h : VM now c dl tq T0 R s o l g) : VM (now + 1) c dl tq T0 R s o l g := ⟨h.1, h.2.1.nxt, h.2.2.1.nxt, h.2.2.2.1, h.2.2.2.2⟩
theorem FI.same {s2 : SdM} (h : FI (s, o, l)) (h5 : s2.1 5 = s.1 5) (h6 : s2.1 6 = s.1 6) (h9 : s2.1 9 = s.1 9) : FI (s2, o, l) := by
  obtain ⟨h1, h2, h3⟩ := h
  refine ⟨?_, ?_, ?_⟩
  · show s2.1 5 = _
    rw [h5]; exact h1
  · show s2.1 9 ≤ s2.1 6
    rw [h9, h6]; exact h2
  · intro n hn hz
    show n.2.2.2 < s2.1 6
    rw [h6]; exact h3 n hn hz
/-- a slow-down's step -/
theorem VM.ends (h : VM now c dl tq T0 R s o l g) : VM now c dl tq T0 R (endsM s now) o l g := by
  obtain ⟨h1, h2, h3, h4, h5⟩ := h
  refine ⟨h1.same (ends_o (by decide) (by decide) (by decide)) (ends_o (by decide) (by decide) (by decide)) (ends_o (by decide) (by decide) (by decide)), h2, ?_, (ps_ends (U := 0) (Lf := 0) h4).2, h5.ends h4⟩
  unfold endsM
  by_cases q : s.1 11 = -1
  · rw [if_pos q]; exact h3
  · rw [if_neg q]
    by_cases q2 : now < s.1 11
    · rw [if_pos q2]; exact h3
    · rw [if_neg q2]
      exact h3.only
theorem VM.begins {iv : Int} (h : VM now c dl tq T0 R s o l g) (h0 : 0 ≤ now) : VM now c dl tq T0 R (beginsM s now iv) o l g := by
  obtain ⟨h1, h2, h3, h4, h5⟩ := h
  refine ⟨h1.same (begins_o (by decide) (by decide) (by decide)) (begins_o (by decide) (by decide) (by decide)) (begins_o (by decide) (by decide) (by decide)), h2, ?_, (ps_begins (U := 0) (Lf := 0) h5 h0 h4).2.1, h5.begins⟩
  have e : (beginsM s now iv).2 = s.2 := by
    unfold beginsM
    split <;> rfl
  exact h3.congr (by rw [e]) (by rw [e])
/-- a packet sent -/
theorem VM.snd {k : Nat} {b : Bool} {ar : Int} (h : VM now c dl tq T0 R s o l g) (hw : wantsM s) : VM now c dl tq T0 R (snd1 now ar k b (s, o, l)).1 (snd1 now ar k b (s, o, l)).2.1 (snd1 now ar k b (s, o, l)).2.2 g := by
  obtain ⟨h1, h2, h3, h4, h5⟩ := h
  have p := pV_snd1 (now := now) (ar := ar) (k := k) (b := b) h1 h4 hw
  refine ⟨h1.snd1, ?_, h3.congr rfl rfl, p.2.2, h5.sent⟩
  cases b with
  | true => exact h2.enq
  | false => exact h2.los (show ¬ (1 : Int) = 0 by decide)
/-- a packet finished -/
theorem VM.fin {k : Nat} {z : Bool} {fw bk : Int} (h : VM now c dl tq T0 R s o l g) (hz : z = true → o ≠ []) (hc : c = bk - s.1 2) (hd : dl = fw + s.1 2) (hR : R = fw + bk) : VM now c dl tq T0 R (finV (now + fw) (now + fw + bk) k z (s, o, l)).1 (finV (now + fw) (now + fw + bk) k z (s, o, l)).2.1 (finV (now + fw) (now + fw + bk) k z (s, o, l)).2.2 g := by
  obtain ⟨h1, h2, h3, h4, h5⟩ := h
  have p := pV_fin (du := now + fw) (ar := now + fw + bk) (k := k) (z := z) h1 hz
  cases z with
  | false => exact ⟨h1, h2, h3, h4, h5⟩
  | true =>
    cases ho : o with
    | nil => exact absurd ho (hz rfl)
    | cons x t =>
      rw [ho] at h1 h2 p
      rw [fin_t (v := (s, x :: t, l)) rfl] at p ⊢
      exact ⟨p.2.1, h2.fin hc hd hR, h3, h4, h5⟩
end VMS
