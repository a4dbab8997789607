/-! Bounds: delays of notices that come in from tn on lie in a range: when the minutes and the latest entries do too (c: entries since tn) -/
def RN (tn lo hi : Int) (c : Nat) (s : SdM) (l : List NtM) : Prop := (∀ x ∈ s.2.2.take c, lo ≤ x) ∧ (∀ j v, tn ≤ 200 * j → s.2.1 j = some v → lo ≤ v) ∧ ∀ n ∈ l, isA n → tn ≤ n.1 → lo ≤ n.2.2.2 ∧ n.2.2.2 ≤ hi
section RNS
variable {tn lo hi now : Int} {c : Nat} {s : SdM} {l l1 l2 : List NtM} {n : NtM}
theorem RN.start (hm : ∀ j v, s.2.1 j = some v → 200 * j < tn) (hn : ∀ n ∈ l, n.1 < tn) : RN tn lo hi 0 s l := by
  refine ⟨fun x hx => (by simp at hx), fun j v a b => ?_, fun n a _ b => ?_⟩
  · have := hm j v b
    omega
  · have := hn n a
    omega
theorem RN.rg (h : RN tn lo hi c s l) (hc : s.2.2.length ≤ c) (ht : tn ≤ 200 * (now / 200 - 4)) (hn : ∀ n ∈ l, tn ≤ n.1) : RG now lo hi s l := by
  refine ⟨fun x hx => h.1 x (by rw [List.take_of_length_le hc]; exact hx), fun j v hj hv => h.2.1 j v (by omega) hv, fun n a b => h.2.2 n a b (hn n a)⟩
theorem RN.same {s2 : SdM} (h : RN tn lo hi c s l) (h2 : s2.2 = s.2) : RN tn lo hi c s2 l := by
  unfold RN at h ⊢
  rw [h2]
  exact h
theorem RN.only {s2 : SdM} (h : RN tn lo hi c s l) (h1 : s2.2.2 = s.2.2) (h2 : ∀ j v, s2.2.1 j = some v → s.2.1 j = some v) : RN tn lo hi c s2 l := by
  refine ⟨?_, fun j v a b => h.2.1 j v a (h2 j v b), h.2.2⟩
  rw [h1]
  exact h.1
theorem RN.app (h : RN tn lo hi c s l) (hn : isA n → tn ≤ n.1 → lo ≤ n.2.2.2 ∧ n.2.2.2 ≤ hi) : RN tn lo hi c s (l ++ [n]) := by
  refine ⟨h.1, h.2.1, fun a ha => ?_⟩
  rcases List.mem_append.1 ha with x | x
  · exact h.2.2 a x
  · have e := List.mem_singleton.1 x
    subst e
    exact hn
theorem RN.sub (h : RN tn lo hi c s l) (hl : ∀ a ∈ l2, a ∈ l) : RN tn lo hi c s l2 := ⟨h.1, h.2.1, fun a ha => h.2.2 a (hl a ha)⟩
theorem RN.ent {d mi : Int} (h : RN tn lo hi c s l) (hd : lo ≤ d) : RN tn lo hi (c + 1) (enterM s d mi) l := by
  refine ⟨fun x hx => ?_, fun j v a b => ?_, h.2.2⟩
  · have hx : x ∈ ((d :: s.2.2).take 4).take (c + 1) := hx
    rw [List.take_take, show min (c + 1) 4 = min c 3 + 1 by omega, List.take_succ_cons] at hx
    rcases List.mem_cons.1 hx with e | e
    · rw [e]
      exact hd
    · rw [← List.take_take] at e
      have e2 : x ∈ (s.2.2.take 3).take c := by
        rw [List.take_take]
        rw [List.take_take] at e
        exact e
      rw [List.take_take, Nat.min_comm, ← List.take_take] at e2
      first
        | exact h.1 x (List.mem_of_mem_take e2)
        | (rw [List.take_take, Nat.min_comm, ← List.take_take] at e2; exact h.1 x (List.mem_of_mem_take e2))
  · have b : (if j = mi then omin (s.2.1 mi) (some d) else s.2.1 j) = some v := b
    by_cases q : j = mi
    · rw [if_pos q] at b
      cases hf : s.2.1 mi with
      | none =>
        rw [hf] at b
        have b : some d = some v := b
        have := Option.some.inj b
        omega
      | some w =>
        rw [hf] at b
        have b : some (if d < w then d else w) = some v := b
        have e := Option.some.inj b
        have := h.2.1 j w a (by rw [q]; exact hf)
        split at e <;> omega
    · rw [if_neg q] at b
      exact h.2.1 j v a b
end RNS
