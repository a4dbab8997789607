/-! Bounds, mode B: from a slow-down's end on E is zero, or at most two losses are on the way, or a few acknowledgments lowered the window since -/
def few (l : List NtM) : Prop := l.length ≤ aNl l + 2
theorem few_mid {l1 l2 : List NtM} {n : NtM} (h : few (l1 ++ n :: l2)) : few (l1 ++ l2) := by
  unfold few at h ⊢
  rw [aNl_mid, mid_len] at h
  split at h <;> omega
theorem few_none {l : List NtM} (h : ∀ n ∈ l, isA n) : few l := by
  unfold few
  rw [aNl_all h]
  omega
theorem few_appA {l : List NtM} {n : NtM} (h : few l) (hn : isA n) : few (l ++ [n]) := by
  have hn : n.2.2.1 = 0 := hn
  unfold few at h ⊢
  rw [aNl_app, if_pos hn, List.length_append, List.length_singleton]
  omega
theorem few_2 {s : SdM} {o : List Int} {l : List NtM} (hF : FI (s, o, l)) (h : s.1 5 ≤ 2) : few l := by
  have h1 : s.1 5 = ((o.length + l.length : Nat) : Int) := hF.1
  unfold few
  omega
/-- R: way there and back; q: how far an acknowledgment may lower it; c of them since yt -/
def JE (R q : Int) (v : SV) (c : Nat) (yt : Int) : Prop := v.1.1 11 = -1 → (c = 0 ∧ (few v.2.2 ∨ tE v.1 (vF v) = 0)) ∨ (1 ≤ c ∧ lsB v.2.2 (yt + R) ∧ (few v.2.2 ∨ tE v.1 (vF v) ≤ c * (4194304 * q)))
section JES
variable {R q tk now mi : Int} {s : SdM} {o : List Int} {l l1 l2 : List NtM} {n : NtM} {c : Nat} {yt : Int}
theorem tE_lost (hF : FI (s, o, l1 ++ n :: l2)) (hI : sdB tk s) (hk : sW s) (hn : ¬ isA n) : tE (lostM s n.2.2.2) (vF (lostM s n.2.2.2, o, l1 ++ l2)) ≤ tE s (vF (s, o, l1 ++ n :: l2)) := by
  by_cases z : n.2.2.2 < s.1 9
  · rw [← vF_stale z]
    exact tE_stale z (by have := mW_256 hI hk; omega)
  · have q := vF_fresh hF hn z
    rw [q.1, q.2]
    exact tE_fresh hI hk z
theorem JE.lost (h : JE R q (s, o, l1 ++ n :: l2) c yt) (hF : FI (s, o, l1 ++ n :: l2)) (hI : sdB tk s) (hk : sW s) (hn : ¬ isA n) : JE R q (lostM s n.2.2.2, o, l1 ++ l2) c yt := by
  intro hs
  have hs : (lostM s n.2.2.2).1 11 = -1 := hs
  rw [lost_11] at hs
  have ht := tE_lost hF hI hk hn
  have t0 := tE_0 (lostM s n.2.2.2) (vF (lostM s n.2.2.2, o, l1 ++ l2))
  rcases h hs with ⟨h1, h2⟩ | ⟨h1, h2, h3⟩
  · refine Or.inl ⟨h1, ?_⟩
    rcases h2 with w | w
    · exact Or.inl (few_mid w)
    · right
      have w : tE s (vF (s, o, l1 ++ n :: l2)) = 0 := w
      show tE (lostM s n.2.2.2) (vF (lostM s n.2.2.2, o, l1 ++ l2)) = 0
      omega
  · refine Or.inr ⟨h1, h2.sub (fun a ha => mid_mem ha), ?_⟩
    rcases h3 with w | w
    · exact Or.inl (few_mid w)
    · right
      have w : tE s (vF (s, o, l1 ++ n :: l2)) ≤ c * (4194304 * q) := w
      show tE (lostM s n.2.2.2) (vF (lostM s n.2.2.2, o, l1 ++ l2)) ≤ c * (4194304 * q)
      omega
/-- an acknowledgment that is not negative -/
theorem JE.ackp (h : JE R q (s, o, l1 ++ n :: l2) c yt) (hI : sdB tk s) (hn : isA n) (hs : s.1 11 = -1) (hq0 : 0 ≤ q) (hq : queueM (enterM s n.2.2.2 mi) mi ≤ q + 1) (hl : lsB (l1 ++ l2) (now + R)) : JE R q (ackM s n.2.2.2 mi, o, l1 ++ l2) (c + 1) (if c = 0 then now else yt) := by
  intro _
  obtain ⟨eu, ef⟩ := ack_uf (s := s) (o := o) (l1 := l1) (l2 := l2) (mi := mi) hn
  have ht := tE_ackd (d := n.2.2.2) (mi := mi) (Lf := vF (ackM s n.2.2.2 mi, o, l1 ++ l2)) hI hs hq0 hq
  rw [← ef] at ht
  have e1 : ((c + 1 : Nat) : Int) * (4194304 * q) = c * (4194304 * q) + 4194304 * q := by
    push_cast
    rw [Int.add_mul, Int.one_mul]
  have hc0 : 0 ≤ (c : Int) * (4194304 * q) := Int.mul_nonneg (by omega) (by omega)
  right
  rw [e1]
  rcases h hs with ⟨h1, h2⟩ | ⟨h1, h2, h3⟩
  · rw [if_pos h1]
    refine ⟨by omega, hl, ?_⟩
    rcases h2 with w | w
    · exact Or.inl (few_mid w)
    · right
      have w : tE s (vF (s, o, l1 ++ n :: l2)) = 0 := w
      show tE (ackM s n.2.2.2 mi) (vF (ackM s n.2.2.2 mi, o, l1 ++ l2)) ≤ _
      rw [← ef]
      omega
  · rw [if_neg (by omega)]
    refine ⟨by omega, h2.sub (fun a ha => mid_mem ha), ?_⟩
    rcases h3 with w | w
    · exact Or.inl (few_mid w)
    · right
      have w : tE s (vF (s, o, l1 ++ n :: l2)) ≤ c * (4194304 * q) := w
      show tE (ackM s n.2.2.2 mi) (vF (ackM s n.2.2.2 mi, o, l1 ++ l2)) ≤ _
      rw [← ef]
      omega
/-- a negative one -/
theorem JE.ackn (h : JE R q (s, o, l1 ++ n :: l2) c yt) (hI : sdB tk s) (hn : isA n) (hs : s.1 11 = -1) (h5 : 1 ≤ s.1 5) (hq : queueM (enterM s n.2.2.2 mi) mi < 0) : JE R q (ackM s n.2.2.2 mi, o, l1 ++ l2) c yt := by
  intro _
  obtain ⟨eu, ef⟩ := ack_uf (s := s) (o := o) (l1 := l1) (l2 := l2) (mi := mi) hn
  have nw := neg_w (d := n.2.2.2) (mi := mi) (g := (- queueM (enterM s n.2.2.2 mi) mi).toNat) hI hs h5 hq (by omega)
  have ht := tE_ackg (d := n.2.2.2) (mi := mi) (Lf := vF (ackM s n.2.2.2 mi, o, l1 ++ l2)) hI hs nw.1
  rw [← ef] at ht
  have t0 := tE_0 (ackM s n.2.2.2 mi) (vF (s, o, l1 ++ n :: l2))
  rcases h hs with ⟨h1, h2⟩ | ⟨h1, h2, h3⟩
  · refine Or.inl ⟨h1, ?_⟩
    rcases h2 with w | w
    · exact Or.inl (few_mid w)
    · right
      have w : tE s (vF (s, o, l1 ++ n :: l2)) = 0 := w
      show tE (ackM s n.2.2.2 mi) (vF (ackM s n.2.2.2 mi, o, l1 ++ l2)) = 0
      rw [← ef]
      omega
  · refine Or.inr ⟨h1, h2.sub (fun a ha => mid_mem ha), ?_⟩
    rcases h3 with w | w
    · exact Or.inl (few_mid w)
    · right
      have w : tE s (vF (s, o, l1 ++ n :: l2)) ≤ c * (4194304 * q) := w
      show tE (ackM s n.2.2.2 mi) (vF (ackM s n.2.2.2 mi, o, l1 ++ l2)) ≤ c * (4194304 * q)
      rw [← ef]
      omega
end JES
/-- a negative one with at most two losses on the way -/
theorem pb_few {W V f U : Nat} (hx : U ≤ f) (hf : f ≤ U + 2) (h1 : V ≤ max W (f + 3)) : PB V f U 0 ≤ PB W (f + 1) (U + 1) 0 + 8 := by
  have a1 := PB_1 W (f + 1) (U + 1) 0
  have a2 := PB_2 W (f + 1) (U + 1) 0
  rw [mB_0] at a1
  refine PB_le ?_ (by omega) ?_
  · rw [mB_0]
    by_cases hv : V ≤ W
    · have := phB_m hv
      omega
    · have := phB_c V
      omega
  · intro u
    have := uuB_0 V f
    omega
