/-! Bounds, mode H from a setTimes on: what is said of losses is said of the new ones alone -/
def lsN (n0 : Int) (l : List NtM) (t : Int) : Prop := ∀ n ∈ l, ¬ isA n → n0 ≤ n.2.2.2 → n.1 ≤ t
theorem lsN.sub {n0 : Int} {l l2 : List NtM} {t : Int} (h : lsN n0 l t) (hs : ∀ n ∈ l2, n ∈ l) : lsN n0 l2 t := fun n hn hA hz => h n (hs n hn) hA hz
theorem lsN.app {n0 : Int} {l : List NtM} {n : NtM} {t : Int} (h : lsN n0 l t) (hn : isA n) : lsN n0 (l ++ [n]) t := by
  intro a ha hA
  rcases List.mem_append.mp ha with q | q
  · exact h a q hA
  · rw [List.mem_singleton] at q
    rw [q] at hA
    exact absurd hn hA
def fwN (n0 : Int) (l : List NtM) : Prop := nLo n0 l ≤ 2
theorem fwN_mid {n0 : Int} {l1 l2 : List NtM} {n : NtM} (h : fwN n0 (l1 ++ n :: l2)) : fwN n0 (l1 ++ l2) := by
  unfold fwN nLo at h ⊢
  rw [lFl_mid] at h
  omega
theorem fwN_none {n0 : Int} {l : List NtM} (h : ∀ n ∈ l, ¬ isA n → ¬ n0 ≤ n.2.2.2) : fwN n0 l := by
  have : nLo n0 l = 0 := lFl_0 (fun n hn hz => by have := h n hn hz; omega)
  unfold fwN
  omega
theorem fwN_app {n0 : Int} {l : List NtM} {n : NtM} (h : fwN n0 l) (hn : isA n) : fwN n0 (l ++ [n]) := by
  unfold fwN nLo at h ⊢
  rw [lFl_app, if_neg (fun z => z.1 hn)]
  omega
theorem fwN_2 {n0 : Int} {s : SdM} {o : List Int} {l : List NtM} (hF : FI (s, o, l)) (h : s.1 5 ≤ 2) : fwN n0 l := by
  have := (hF.o (n0 := n0)).1
  have this : (s.1 5).toNat = vU (s, o, l) + nLo n0 l + oLo n0 l := this
  unfold fwN
  omega
theorem tE_00 {s : SdM} {Lf : Nat} : tE s 0 ≤ tE s Lf := by
  unfold tE eE
  by_cases h : s.1 5 ≤ 15
  · rw [if_pos h, if_pos h]
    omega
  · rw [if_neg h, if_neg h, if_pos rfl]
    have a : mW s * mW s ≤ (2 * mW s) * (2 * mW s) := by
      have e : (2 * mW s) * (2 * mW s) = 4 * (mW s * mW s) := by
        rw [Int.mul_assoc, Int.mul_left_comm (mW s) 2 (mW s), ← Int.mul_assoc]
        rfl
      have z : 0 ≤ mW s * mW s := by
        rcases Int.le_total 0 (mW s) with h | h
        · exact Int.mul_nonneg h h
        · exact Int.mul_nonneg_of_nonpos_of_nonpos h h
      omega
    split <;> omega
/-- R: way there and back; q: how far an acknowledgment of each time may lower it; c of them since yt -/
def JEo (R : Int) (q : Int → Int) (n0 : Int) (v : SV) (c : Nat) (yt : Int) : Prop := v.1.1 11 = -1 → (c = 0 ∧ (fwN n0 v.2.2 ∨ tE v.1 (vF v) = 0)) ∨ (1 ≤ c ∧ lsN n0 v.2.2 (yt + R) ∧ (fwN n0 v.2.2 ∨ tE v.1 (vF v) ≤ c * (4194304 * q yt)))
section JEO
variable {n0 R tk now mi : Int} {q : Int → Int} {s : SdM} {o : List Int} {l l1 l2 : List NtM} {n : NtM} {c : Nat} {yt : Int}
theorem JEo.lost (h : JEo R q n0 (s, o, l1 ++ n :: l2) c yt) (hF : FI (s, o, l1 ++ n :: l2)) (hI : sdB tk s) (hk : sW s) (hn : ¬ isA n) : JEo R q n0 (lostM s n.2.2.2, o, l1 ++ l2) c yt := by
  intro hs
  have hs : (lostM s n.2.2.2).1 11 = -1 := hs
  rw [lost_11] at hs
  have ht := tE_lost hF hI hk hn
  have t0 := tE_0 (lostM s n.2.2.2) (vF (lostM s n.2.2.2, o, l1 ++ l2))
  rcases h hs with ⟨h1, h2⟩ | ⟨h1, h2, h3⟩
  · refine Or.inl ⟨h1, ?_⟩
    rcases h2 with w | w
    · exact Or.inl (fwN_mid w)
    · right
      have w : tE s (vF (s, o, l1 ++ n :: l2)) = 0 := w
      show tE (lostM s n.2.2.2) (vF (lostM s n.2.2.2, o, l1 ++ l2)) = 0
      omega
  · refine Or.inr ⟨h1, h2.sub (fun a ha => mid_mem ha), ?_⟩
    rcases h3 with w | w
    · exact Or.inl (fwN_mid w)
    · right
      have w : tE s (vF (s, o, l1 ++ n :: l2)) ≤ c * (4194304 * q yt) := w
      show tE (lostM s n.2.2.2) (vF (lostM s n.2.2.2, o, l1 ++ l2)) ≤ c * (4194304 * q yt)
      omega
/-- an acknowledgment that is not negative -/
theorem JEo.ackp (h : JEo R q n0 (s, o, l1 ++ n :: l2) c yt) (hI : sdB tk s) (hn : isA n) (hs : s.1 11 = -1) (hq0 : 0 ≤ q now) (hq : queueM (enterM s n.2.2.2 mi) mi ≤ q now + 1) (ha : 1 ≤ c → q now ≤ q yt) (hl : lsN n0 (l1 ++ l2) (now + R)) : JEo R q n0 (ackM s n.2.2.2 mi, o, l1 ++ l2) (c + 1) (if c = 0 then now else yt) := by
  intro _
  obtain ⟨eu, ef⟩ := ack_uf (s := s) (o := o) (l1 := l1) (l2 := l2) (mi := mi) hn
  have ht := tE_ackd (d := n.2.2.2) (mi := mi) (Lf := vF (ackM s n.2.2.2 mi, o, l1 ++ l2)) hI hs hq0 hq
  rw [← ef] at ht
  right
  rcases h hs with ⟨h1, h2⟩ | ⟨h1, h2, h3⟩
  · rw [if_pos h1]
    refine ⟨by omega, hl, ?_⟩
    have e1 : ((c + 1 : Nat) : Int) * (4194304 * q now) = 4194304 * q now := by
      rw [h1]
      simp
    rw [e1]
    rcases h2 with w | w
    · exact Or.inl (fwN_mid w)
    · right
      have w : tE s (vF (s, o, l1 ++ n :: l2)) = 0 := w
      show tE (ackM s n.2.2.2 mi) (vF (ackM s n.2.2.2 mi, o, l1 ++ l2)) ≤ _
      rw [← ef]
      omega
  · rw [if_neg (by omega)]
    have e1 : ((c + 1 : Nat) : Int) * (4194304 * q yt) = c * (4194304 * q yt) + 4194304 * q yt := by
      push_cast
      rw [Int.add_mul, Int.one_mul]
    have hy := ha h1
    rw [e1]
    refine ⟨by omega, h2.sub (fun a ha => mid_mem ha), ?_⟩
    rcases h3 with w | w
    · exact Or.inl (fwN_mid w)
    · right
      have w : tE s (vF (s, o, l1 ++ n :: l2)) ≤ c * (4194304 * q yt) := w
      show tE (ackM s n.2.2.2 mi) (vF (ackM s n.2.2.2 mi, o, l1 ++ l2)) ≤ _
      rw [← ef]
      omega
/-- a negative one -/
theorem JEo.ackn (h : JEo R q n0 (s, o, l1 ++ n :: l2) c yt) (hI : sdB tk s) (hn : isA n) (hs : s.1 11 = -1) (h5 : 1 ≤ s.1 5) (hq : queueM (enterM s n.2.2.2 mi) mi < 0) : JEo R q n0 (ackM s n.2.2.2 mi, o, l1 ++ l2) c yt := by
  intro _
  obtain ⟨eu, ef⟩ := ack_uf (s := s) (o := o) (l1 := l1) (l2 := l2) (mi := mi) hn
  have nw := neg_w (d := n.2.2.2) (mi := mi) (g := (- queueM (enterM s n.2.2.2 mi) mi).toNat) hI hs h5 hq (by omega)
  have ht := tE_ackg (d := n.2.2.2) (mi := mi) (Lf := vF (ackM s n.2.2.2 mi, o, l1 ++ l2)) hI hs nw.1
  rw [← ef] at ht
  have t0 := tE_0 (ackM s n.2.2.2 mi) (vF (s, o, l1 ++ n :: l2))
  rcases h hs with ⟨h1, h2⟩ | ⟨h1, h2, h3⟩
  · refine Or.inl ⟨h1, ?_⟩
    rcases h2 with w | w
    · exact Or.inl (fwN_mid w)
    · right
      have w : tE s (vF (s, o, l1 ++ n :: l2)) = 0 := w
      show tE (ackM s n.2.2.2 mi) (vF (ackM s n.2.2.2 mi, o, l1 ++ l2)) = 0
      rw [← ef]
      omega
  · refine Or.inr ⟨h1, h2.sub (fun a ha => mid_mem ha), ?_⟩
    rcases h3 with w | w
    · exact Or.inl (fwN_mid w)
    · right
      have w : tE s (vF (s, o, l1 ++ n :: l2)) ≤ c * (4194304 * q yt) := w
      show tE (ackM s n.2.2.2 mi) (vF (ackM s n.2.2.2 mi, o, l1 ++ l2)) ≤ c * (4194304 * q yt)
      rw [← ef]
      omega
end JEO
/-- in a slow-down -/
def SLo (n0 : Int) (v : SV) : Prop := v.1.1 11 ≠ -1 → fwN n0 v.2.2 ∨ lsN n0 v.2.2 (v.1.1 11)
theorem SLo.ack {n0 mi : Int} {s : SdM} {o : List Int} {l1 l2 : List NtM} {n : NtM} (h : SLo n0 (s, o, l1 ++ n :: l2)) : SLo n0 (ackM s n.2.2.2 mi, o, l1 ++ l2) := by
  intro z
  have z : (ackM s n.2.2.2 mi).1 11 ≠ -1 := z
  have e11 : (ackM s n.2.2.2 mi).1 11 = s.1 11 := ack_o (by decide) (by decide) (by decide)
  rw [e11] at z
  show fwN n0 (l1 ++ l2) ∨ lsN n0 (l1 ++ l2) ((ackM s n.2.2.2 mi).1 11)
  rw [e11]
  rcases h z with q | q
  · exact Or.inl (fwN_mid q)
  · exact Or.inr (q.sub (fun a ha => mid_mem ha))
/-- prices of permissions: w a negative one, wf a far one, r a minute -/
def PWk (pw : Int → List EnF → Int) (w wf r tz : Int) : Prop := (∀ (now ka tq T0 d : Int) (L : List EnF) (fa : Int → Int) (f : Int → Option Int) (la : List Int), SF now ka tq T0 L fa f la → now ≤ tz → pw now (ackL tq T0 now d L) + (if mn2 now L < mn0 now L ∨ mn2 now L + 5 ≤ now / 200 then w else 0) ≤ pw now L ∧ (mn2 now L + 5 ≤ now / 200 → now / 200 ≤ mn0 now L + 1 → pw now (ackL tq T0 now d L) + wf ≤ pw now L)) ∧ (∀ (now ka tq T0 : Int) (L : List EnF) (fa : Int → Int) (f : Int → Option Int) (la : List Int), SF now ka tq T0 L fa f la → now < tz → pw (now + 1) L ≤ pw now L + r * ((now + 1) / 200 - now / 200))
theorem PWk_nuB {w tz : Int} (hw : 0 ≤ w) : PWk (fun now L => w * (nuB now L : Int)) w (2 * w) (2 * w) tz := by
  refine ⟨fun now ka tq T0 d L fa f la h _ => ?_, fun now ka tq T0 L fa f la h _ => ?_⟩
  · have nb := nuB_ack (d := d) h
    have nm : ∀ t : Nat, nuB now (ackL tq T0 now d L) + t ≤ nuB now L → w * (nuB now (ackL tq T0 now d L) : Int) + w * (t : Int) ≤ w * (nuB now L : Int) := by
      intro t ht
      rw [← Int.mul_add]
      exact Int.mul_le_mul_of_nonneg_left (by omega) hw
    refine ⟨?_, fun h1 h2 => ?_⟩
    · by_cases c : mn2 now L < mn0 now L ∨ mn2 now L + 5 ≤ now / 200
      · have n1 := nb.1
        rw [if_pos c] at n1 ⊢
        have := nm 1 n1
        dsimp only
        omega
      · have n1 := nb.1
        rw [if_neg c] at n1 ⊢
        have := nm 0 n1
        dsimp only
        omega
    · have := nm 2 (nb.2 h1 h2)
      show w * (nuB now (ackL tq T0 now d L) : Int) + 2 * w ≤ w * (nuB now L : Int)
      omega
  · have b := nuB_nxt h
    generalize hD : (now + 1) / 200 - now / 200 = D at *
    have d0 : 0 ≤ D := by omega
    have c1 : w * (nuB (now + 1) L : Int) ≤ w * ((nuB now L : Int) + 2 * D) := Int.mul_le_mul_of_nonneg_left (by omega) hw
    have c2 : w * ((nuB now L : Int) + 2 * D) = w * (nuB now L : Int) + 2 * w * D := by
      rw [Int.mul_add, ← Int.mul_assoc, Int.mul_comm w 2]
    dsimp only
    omega
def PHo (K q : Int) (X X2 C w1 : Nat) (w wf : Int) : Prop := 40 ≤ X ∧ 32 * K < (X : Int) * X - 7 * X + 6 ∧ 16 * K < ((C : Int) + 2) * (w1 + 1 : Nat) ∧ C ≤ X2 ∧ 8388608 * q + 262144 * (((w1 : Int) + 1) * ((w1 : Int) + 1)) < 65536 * (((X2 : Int) - 5) * ((X2 : Int) - 5)) ∧ (X : Int) ≤ w + 1 ∧ 5 ≤ w ∧ (X2 : Int) ≤ wf + 5 ∧ 0 ≤ q ∧ 10 ≤ X2
theorem PHo.s {K q w wf : Int} {X X2 C w1 : Nat} (h : PHo K q X X2 C w1 w wf) : PHs K q X X2 C w1 (max w wf) := by
  obtain ⟨c1, c2, c3, c4, c5, c6, c7, c8, c9, c10⟩ := h
  exact ⟨c1, c2, c3, c4, c5, by omega, by omega, by omega, c9, c10⟩
/-- 13 more for the first fresh old one -/
def obN (n0 : Int) (s : SdM) : Int := if s.1 9 < n0 then 13 else 0
/-- q1: how far now, qn: how far in the last 60 ticks -/
def QF (q : Int → Int) (now q1 qn : Int) : Prop := 0 ≤ q1 ∧ q1 ≤ q now ∧ (∀ t, t ≤ now → q now ≤ q t) ∧ ∀ t, t ≤ now → now ≤ t + 60 → q t ≤ qn
def HBo (now c dl R lo lw hi : Int) (q : Int → Int) (n0 : Int) (s : SdM) (o : List Int) (l : List NtM) (g : Gh) (j : GJh) : Prop :=
  GB now c dl R lw lw hi s o l g ∧ JEo R q n0 (s, o, l) j.1 j.2.2.1 ∧ SLo n0 (s, o, l) ∧ ND g.2.1 s.2.1 ∧ (s.1 11 = -1 → 1 ≤ j.1 → NB g.2.1 s.2.1 (j.2.2.2 - 4) ∧ j.2.2.2 ≤ now / 200 ∧ LC g.2.1 j.2.1 j.2.2.1 ∧ j.1 ≤ j.2.1 ∧ j.2.2.1 ≤ now) ∧ n0 ≤ s.1 6 ∧ LQ3 lo hi s l ∧ lw ≤ lo
def hPo (pw : Int → List EnF → Int) (n0 now : Int) (v : SV) (L : List EnF) : Int := (PVo n0 v : Int) + obN n0 v.1 + pw now L
