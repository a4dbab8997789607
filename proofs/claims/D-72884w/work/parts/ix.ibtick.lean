/-! Bounds: a whole tick of a sender in regime B -/
/-- fresh losses that come in -/
def frN (now : Int) : SdM → List NtM → Nat
  | _, [] => 0
  | s, n :: t => (if n.1 = now ∧ ¬ isA n ∧ ¬ n.2.2.2 < s.1 9 then 1 else 0) + frN now (hndS now s n) t
/-- potential, fund, and 25 for each acknowledgment on its way -/
def PH (now : Int) (s : SdM) (o : List Int) (l : List NtM) (g : Gh) (j : GJ) : Int := PF now s o l g j + 25 * (aNl l : Int)
section IBT
variable {now c dl tq T0 R : Int} {o : List Int}
theorem IB.hnd (hq : tq < now) (hR : R ≤ 60) : ∀ (t ks : List NtM) (s : SdM) (g : Gh) (j : GJ), IB now c dl tq T0 R s o (ks ++ t) g j → (∀ a ∈ ks, now < a.1) → (∀ a ∈ t, now ≤ a.1) → lsB (ks ++ t) (now + R) →
    ∃ g2 j2, IB now c dl tq T0 R (t.foldl (hndS now) s) o (ks ++ t.filter (fun n => decide (n.1 ≠ now))) g2 j2 ∧ PH now (t.foldl (hndS now) s) o (ks ++ t.filter (fun n => decide (n.1 ≠ now))) g2 j2 ≤ PH now s o (ks ++ t) g j + 5 * (frN now s t : Int) := by
  intro t
  induction t with
  | nil =>
    intro ks s g j h _ _ _
    refine ⟨g, j, h, ?_⟩
    show PH now s o (ks ++ []) g j ≤ PH now s o (ks ++ []) g j + 5 * ((0 : Nat) : Int)
    omega
  | cons n t ih =>
    intro ks s g j h hks ht hl
    rw [List.foldl_cons]
    have ef : frN now s (n :: t) = (if n.1 = now ∧ ¬ isA n ∧ ¬ n.2.2.2 < s.1 9 then 1 else 0) + frN now (hndS now s n) t := rfl
    rw [ef]
    have ht2 : ∀ a ∈ t, now ≤ a.1 := fun a ha => ht a (List.mem_cons_of_mem _ ha)
    by_cases e : n.1 = now
    · rw [List.filter_cons_of_neg (by simp [e])]
      have eh : hndS now s n = reachM s n.2.2.1 n.2.2.2 (now / 200) := if_pos e
      have hl2 : lsB (ks ++ t) (now + R) := hl.sub (fun a ha => mid_mem ha)
      by_cases z : isA n
      · have er : reachM s n.2.2.1 n.2.2.2 (now / 200) = ackM s n.2.2.2 (now / 200) := if_pos z
        rw [eh, er]
        obtain ⟨j2, h2, p2⟩ := h.ack z e hq hks ht2 hl2 hR
        obtain ⟨g3, j3, h3, p3⟩ := ih ks _ _ j2 h2 hks ht2 hl2
        refine ⟨g3, j3, h3, ?_⟩
        have ea : aNl (ks ++ n :: t) = aNl (ks ++ t) + 1 := by
          have z : n.2.2.1 = 0 := z
          rw [aNl_mid, if_pos z]
        have hn0 : ¬ (n.1 = now ∧ ¬ isA n ∧ ¬ n.2.2.2 < s.1 9) := fun y => y.2.1 z
        rw [if_neg hn0]
        have a1 : PH now s o (ks ++ n :: t) g j = PF now s o (ks ++ n :: t) g j + 25 * (aNl (ks ++ n :: t) : Int) := rfl
        have a2 : PH now (ackM s n.2.2.2 (now / 200)) o (ks ++ t) (stepG tq T0 now s.2.1 g n) j2 = PF now (ackM s n.2.2.2 (now / 200)) o (ks ++ t) (stepG tq T0 now s.2.1 g n) j2 + 25 * (aNl (ks ++ t) : Int) := rfl
        rw [ea] at a1
        omega
      · have er : reachM s n.2.2.1 n.2.2.2 (now / 200) = lostM s n.2.2.2 := if_neg z
        rw [eh, er]
        obtain ⟨h2, p2⟩ := h.lost z
        obtain ⟨g3, j3, h3, p3⟩ := ih ks _ _ j h2 hks ht2 hl2
        refine ⟨g3, j3, h3, ?_⟩
        have ea : aNl (ks ++ n :: t) = aNl (ks ++ t) := by
          have z : ¬ n.2.2.1 = 0 := z
          rw [aNl_mid, if_neg z]
          rfl
        have a1 : PH now s o (ks ++ n :: t) g j = PF now s o (ks ++ n :: t) g j + 25 * (aNl (ks ++ n :: t) : Int) := rfl
        have a2 : PH now (lostM s n.2.2.2) o (ks ++ t) g j = PF now (lostM s n.2.2.2) o (ks ++ t) g j + 25 * (aNl (ks ++ t) : Int) := rfl
        rw [ea] at a1
        by_cases y : n.2.2.2 < s.1 9
        · rw [if_pos y] at p2
          rw [if_neg (fun w => w.2.2 y)]
          omega
        · rw [if_neg y] at p2
          rw [if_pos ⟨e, z, y⟩]
          omega
    · rw [List.filter_cons_of_pos (by simp [e])]
      have eh : hndS now s n = s := if_neg e
      rw [eh, if_neg (fun y => e y.1)]
      have el : ks ++ n :: t = (ks ++ [n]) ++ t := by simp
      have el2 : ks ++ n :: t.filter (fun n => decide (n.1 ≠ now)) = (ks ++ [n]) ++ t.filter (fun n => decide (n.1 ≠ now)) := by simp
      rw [el] at h hl
      rw [el, el2]
      have hn := ht n List.mem_cons_self
      obtain ⟨g3, j3, h3, p3⟩ := ih (ks ++ [n]) s g j h (fun a ha => by
        rcases List.mem_append.mp ha with w | w
        · exact hks a w
        · rw [List.mem_singleton] at w
          rw [w]
          omega) ht2 hl
      exact ⟨g3, j3, h3, by omega⟩
/-- packets sent -/
theorem IB.snds {k : Nat} {ar : Int} : ∀ (bs : List Bool) (s : SdM) (o : List Int) (l : List NtM) (g : Gh) (j : GJ), IB now c dl tq T0 R s o l g j → sndOK now ar k bs (s, o, l) → ∃ j2, IB now c dl tq T0 R (sndV now ar k bs (s, o, l)).1 (sndV now ar k bs (s, o, l)).2.1 (sndV now ar k bs (s, o, l)).2.2 g j2 ∧ PH now (sndV now ar k bs (s, o, l)).1 (sndV now ar k bs (s, o, l)).2.1 (sndV now ar k bs (s, o, l)).2.2 g j2 + 5 * (bs.length : Int) ≤ PH now s o l g j := by
  intro bs
  induction bs with
  | nil =>
    intro s o l g j h _
    refine ⟨j, h, ?_⟩
    show PH now s o l g j + 5 * ((0 : Nat) : Int) ≤ _
    omega
  | cons b bs ih =>
    intro s o l g j h ho
    obtain ⟨hw, ho⟩ := ho
    obtain ⟨h2, p2⟩ := h.snd (k := k) (b := b) (ar := ar) hw
    obtain ⟨j3, h3, p3⟩ := ih _ _ _ g _ h2 ho
    refine ⟨j3, h3, ?_⟩
    have ea : aNl (snd1 now ar k b (s, o, l)).2.2 = aNl l := by
      cases b with
      | true => rfl
      | false =>
        show aNl (l ++ [(ar, k, 1, s.1 6)]) = aNl l
        rw [aNl_app, if_neg (show ¬ (1 : Int) = 0 by decide)]
        rfl
    have a1 : PH now s o l g j = PF now s o l g j + 25 * (aNl l : Int) := rfl
    have a2 : PH now (snd1 now ar k b (s, o, l)).1 (snd1 now ar k b (s, o, l)).2.1 (snd1 now ar k b (s, o, l)).2.2 g (0, 0, now, 0, j.2.2.2.2.1, j.2.2.2.2.2) = PF now (snd1 now ar k b (s, o, l)).1 (snd1 now ar k b (s, o, l)).2.1 (snd1 now ar k b (s, o, l)).2.2 g (0, 0, now, 0, j.2.2.2.2.1, j.2.2.2.2.2) + 25 * (aNl (snd1 now ar k b (s, o, l)).2.2 : Int) := rfl
    rw [ea] at a2
    have p3 : PH now (sndV now ar k (b :: bs) (s, o, l)).1 (sndV now ar k (b :: bs) (s, o, l)).2.1 (sndV now ar k (b :: bs) (s, o, l)).2.2 g j3 + 5 * (bs.length : Int) ≤ PH now (snd1 now ar k b (s, o, l)).1 (snd1 now ar k b (s, o, l)).2.1 (snd1 now ar k b (s, o, l)).2.2 g (0, 0, now, 0, j.2.2.2.2.1, j.2.2.2.2.2) := p3
    rw [List.length_cons]
    push_cast
    omega
end IBT
