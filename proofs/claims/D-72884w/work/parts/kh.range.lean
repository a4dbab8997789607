/-! Bounds: delays in a range; queueing of an acknowledgment lies in it -/
theorem q_range {s : SdM} {d mi lo : Int} (h1 : ∀ x ∈ (d :: s.2.2).take 4, lo ≤ x) : lo - d ≤ queueM (enterM s d mi) mi ∧ ((∀ j v, mi - 4 ≤ j → s.2.1 j = some v → lo ≤ v) → queueM (enterM s d mi) mi ≤ d - lo) := by
  have ef : (enterM s d mi).2.1 = fun j => if j = mi then omin (s.2.1 mi) (some d) else s.2.1 j := rfl
  have el : (enterM s d mi).2.2 = (d :: s.2.2).take 4 := rfl
  cases ho : omin (s.2.1 mi) (some d) with
  | none => exact absurd ho omin_ne
  | some v =>
    have o := omin_le ho
    have hv : (enterM s d mi).2.1 mi = some v := by
      rw [ef]
      dsimp only
      rw [if_pos rfl, ho]
    obtain ⟨b, hb⟩ := base_ex hv
    have hne : (enterM s d mi).2.2 ≠ [] := by
      rw [el, List.take_succ_cons]
      simp
    obtain ⟨x, hx, hm, hl⟩ := lmin_mem hne
    have eq : queueM (enterM s d mi) mi = x - b := by
      unfold queueM
      rw [hm, hb]
      rfl
    have hbm := base_mem hb
    have bv := hbm.2 mi v (by omega) (Int.le_refl _) hv
    have xd := hl d (by rw [el, List.take_succ_cons]; exact List.mem_cons_self)
    rw [eq]
    refine ⟨?_, fun h2 => ?_⟩
    · have := h1 x (by rw [← el]; exact hx)
      have := o.1
      omega
    · obtain ⟨j, j1, j2, j3⟩ := hbm.1
      have hlo : lo ≤ b := by
        by_cases q : j = mi
        · rw [q, hv] at j3
          have e : v = b := Option.some.inj j3
          rcases o.2.2 with w | w
          · have := h1 d (by rw [List.take_succ_cons]; exact List.mem_cons_self)
            omega
          · have := h2 mi v (by omega) w
            omega
        · rw [ef] at j3
          dsimp only at j3
          rw [if_neg q] at j3
          exact h2 j b j1 j3
      omega
/-- delays: of the latest and of the minutes that count from below, of what is on its way both ways -/
def RG (now lo hi : Int) (s : SdM) (l : List NtM) : Prop := (∀ x ∈ s.2.2, lo ≤ x) ∧ (∀ j v, now / 200 - 4 ≤ j → s.2.1 j = some v → lo ≤ v) ∧ ∀ n ∈ l, isA n → lo ≤ n.2.2.2 ∧ n.2.2.2 ≤ hi
section RGS
variable {now lo hi : Int} {s : SdM} {l l1 l2 : List NtM} {n : NtM}
theorem RG.nxt (h : RG now lo hi s l) : RG (now + 1) lo hi s l := ⟨h.1, fun j v hj hv => h.2.1 j v (by omega) hv, h.2.2⟩
theorem RG.lost {num : Int} (h : RG now lo hi s (l1 ++ n :: l2)) : RG now lo hi (lostM s num) (l1 ++ l2) := ⟨h.1, h.2.1, fun a ha => h.2.2 a (mid_mem ha)⟩
theorem RG.same {s2 : SdM} (h : RG now lo hi s l) (h2 : s2.2 = s.2) : RG now lo hi s2 l := by
  unfold RG at h ⊢
  rw [h2]
  exact h
theorem RG.only {s2 : SdM} (h : RG now lo hi s l) (h1 : s2.2.2 = s.2.2) (h2 : ∀ j v, s2.2.1 j = some v → s.2.1 j = some v) : RG now lo hi s2 l := by
  refine ⟨?_, fun j v hj hv => h.2.1 j v hj (h2 j v hv), h.2.2⟩
  rw [h1]
  exact h.1
theorem RG.app (h : RG now lo hi s l) (hn : isA n → lo ≤ n.2.2.2 ∧ n.2.2.2 ≤ hi) : RG now lo hi s (l ++ [n]) := by
  refine ⟨h.1, h.2.1, fun a ha hA => ?_⟩
  rcases List.mem_append.mp ha with q | q
  · exact h.2.2 a q hA
  · rw [List.mem_singleton] at q
    rw [q] at hA ⊢
    exact hn hA
theorem RG.ack (h : RG now lo hi s (l1 ++ n :: l2)) (hn : isA n) : RG now lo hi (ackM s n.2.2.2 (now / 200)) (l1 ++ l2) := by
  have hd := h.2.2 n (List.mem_append_right _ List.mem_cons_self) hn
  refine ⟨fun x hx => ?_, fun j v hj hv => ?_, fun a ha => h.2.2 a (mid_mem ha)⟩
  · have hx : x ∈ (n.2.2.2 :: s.2.2).take 4 := hx
    rcases List.mem_cons.mp (List.mem_of_mem_take hx) with q | q
    · rw [q]; exact hd.1
    · exact h.1 x q
  · have hv : (if j = now / 200 then omin (s.2.1 (now / 200)) (some n.2.2.2) else s.2.1 j) = some v := hv
    by_cases q : j = now / 200
    · rw [if_pos q] at hv
      rcases (omin_le hv).2.2 with w | w
      · rw [w]; exact hd.1
      · exact h.2.1 _ v (by omega) w
    · rw [if_neg q] at hv
      exact h.2.1 j v hj hv
theorem RG.q (h : RG now lo hi s (l1 ++ n :: l2)) (hn : isA n) : lo - hi ≤ queueM (enterM s n.2.2.2 (now / 200)) (now / 200) ∧ queueM (enterM s n.2.2.2 (now / 200)) (now / 200) ≤ hi - lo := by
  have hd := h.2.2 n (List.mem_append_right _ List.mem_cons_self) hn
  have p := q_range (s := s) (d := n.2.2.2) (mi := now / 200) (lo := lo) (fun x hx => by
    rcases List.mem_cons.mp (List.mem_of_mem_take hx) with q | q
    · rw [q]; exact hd.1
    · exact h.1 x q)
  have := p.1
  have := p.2 (fun j v hj hv => h.2.1 j v hj hv)
  omega
end RGS
