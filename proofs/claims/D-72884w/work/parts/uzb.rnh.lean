/-! Bounds: ranges from a time on: notices that come in -/
section RNH
variable {tn lo hi now : Int} {c : Nat} {s : SdM} {l l1 l2 : List NtM} {n : NtM}
theorem RN.ack (h : RN tn lo hi c s (l1 ++ n :: l2)) (hn : isA n) (ht : n.1 = now) (h1 : tn ≤ now) : RN tn lo hi (c + 1) (ackM s n.2.2.2 (now / 200)) (l1 ++ l2) := by
  have hd := h.2.2 n (List.mem_append_right _ List.mem_cons_self) hn (by omega)
  have a : RN tn lo hi (c + 1) (enterM s n.2.2.2 (now / 200)) (l1 ++ l2) := (h.sub (fun a ha => mid_mem ha)).ent hd.1
  exact a.same rfl
theorem RN.ack0 (h : RN tn lo hi 0 s (l1 ++ n :: l2)) (h1 : now < tn) : RN tn lo hi 0 (ackM s n.2.2.2 (now / 200)) (l1 ++ l2) := by
  refine ⟨fun x hx => (by simp at hx), fun j v a b => ?_, fun a ha => h.2.2 a (mid_mem ha)⟩
  have b : (if j = now / 200 then omin (s.2.1 (now / 200)) (some n.2.2.2) else s.2.1 j) = some v := b
  rw [if_neg (by omega)] at b
  exact h.2.1 j v a b
theorem RN.lost {num : Int} (h : RN tn lo hi c s (l1 ++ n :: l2)) : RN tn lo hi c (lostM s num) (l1 ++ l2) := (h.sub (fun a ha => mid_mem ha)).same rfl
theorem RN.hnd (h1 : tn ≤ now) : ∀ (t ks : List NtM) (s : SdM) (c : Nat), RN tn lo hi c s (ks ++ t) → RN tn lo hi (c + t.countP (fun n => decide (n.1 = now ∧ n.2.2.1 = 0))) (t.foldl (hndS now) s) (ks ++ t.filter (fun n => decide (n.1 ≠ now))) := by
  intro t
  induction t with
  | nil => intro ks s c h; exact h
  | cons n t ih =>
    intro ks s c h
    by_cases q : n.1 = now
    · rw [List.filter_cons_of_neg (by simp [q])]
      show RN tn lo hi _ (t.foldl (hndS now) (hndS now s n)) _
      have e : hndS now s n = reachM s n.2.2.1 n.2.2.2 (now / 200) := if_pos q
      rw [e]
      by_cases z : n.2.2.1 = 0
      · have e2 : reachM s n.2.2.1 n.2.2.2 (now / 200) = ackM s n.2.2.2 (now / 200) := if_pos z
        rw [e2, List.countP_cons_of_pos (by simp [q, z]), show c + (t.countP (fun n => decide (n.1 = now ∧ n.2.2.1 = 0)) + 1) = c + 1 + t.countP (fun n => decide (n.1 = now ∧ n.2.2.1 = 0)) by omega]
        exact ih ks _ _ (h.ack z q h1)
      · have e2 : reachM s n.2.2.1 n.2.2.2 (now / 200) = lostM s n.2.2.2 := if_neg z
        rw [e2, List.countP_cons_of_neg (by simp [z])]
        exact ih ks _ _ h.lost
    · rw [List.filter_cons_of_pos (by simp [q]), List.countP_cons_of_neg (by simp [q])]
      have e : hndS now s n = s := if_neg q
      show RN tn lo hi _ (t.foldl (hndS now) (hndS now s n)) _
      rw [e]
      have h2 : RN tn lo hi c s ((ks ++ [n]) ++ t) := by
        rw [List.append_assoc]
        exact h
      have := ih (ks ++ [n]) s c h2
      rw [List.append_assoc] at this
      exact this
theorem RN.ends (h : RN tn lo hi c s l) : RN tn lo hi c (endsM s now) l := by
  unfold endsM
  split
  · exact h
  · split
    · exact h
    · refine h.only rfl (fun j v a => ?_)
      have a : onlyM s.2.1 (now / 200) j = some v := a
      unfold onlyM at a
      split at a
      · dsimp only at a
        split at a
        · exact a
        · cases a
      · exact a
theorem RN.begins {iv : Int} (h : RN tn lo hi c s l) : RN tn lo hi c (beginsM s now iv) l := by
  unfold beginsM
  split
  · exact h.same rfl
  · exact h
end RNH
