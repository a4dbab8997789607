/-! Bounds: what pays the negative acknowledgments: gaps between the latest ones (time, minute) -/
abbrev Pt : Type := Int × Int
def gU (a b : Pt) : Int := (a.1 - b.1) + 200 * (a.2 - b.2)
def gR (a b : Pt) : Int := if 5 ≤ a.2 - b.2 then 2 * (a.1 - b.1) / 5 + 520 else 0
def gA (a b : Pt) (q : Bool) : Int := 2 * gU a b - (if q = true then gR a b else 0)
def gG (n0 n1 n2 n3 : Pt) (b1 b2 : Bool) : Int := 2 * gU n0 n1 + gA n1 n2 b1 + (if b1 = true then gA n2 n3 b2 / 2 else gA n2 n3 b2)
def co (a b : Pt) : Prop := b.1 ≤ a.1 ∧ b.2 ≤ a.2
theorem gR_c (a b : Pt) : (5 ≤ a.2 - b.2 ∧ gR a b = 2 * (a.1 - b.1) / 5 + 520) ∨ (a.2 - b.2 < 5 ∧ gR a b = 0) := by
  unfold gR
  split <;> omega
theorem gA_c (a b : Pt) (q : Bool) : (gA a b q = 2 * ((a.1 - b.1) + 200 * (a.2 - b.2))) ∨ (q = true ∧ 5 ≤ a.2 - b.2 ∧ gA a b q = 2 * ((a.1 - b.1) + 200 * (a.2 - b.2)) - (2 * (a.1 - b.1) / 5 + 520)) := by
  unfold gA gU
  have := gR_c a b
  cases q with
  | false => left; rw [if_neg (by decide)]; omega
  | true =>
    rw [if_pos rfl]
    rcases this with h | h
    · right
      exact ⟨rfl, h.1, by omega⟩
    · left
      omega
theorem gA_f (a b : Pt) : gA a b false = 2 * ((a.1 - b.1) + 200 * (a.2 - b.2)) := by
  unfold gA gU
  rw [if_neg (by decide)]
  omega
theorem gU_0 (a : Pt) : gU a a = 0 := by
  unfold gU
  omega
/-- an acknowledgment that is not negative -/
theorem gG_p {n0 n1 n2 n3 : Pt} {b1 b2 : Bool} (h1 : co n0 n1) (h2 : co n1 n2) (h3 : co n2 n3) : gG n0 n0 n1 n2 false b1 ≤ gG n0 n1 n2 n3 b1 b2 := by
  unfold gG
  rw [gU_0, gA_f, if_neg (show ¬ false = true by decide)]
  unfold co at h1 h2 h3
  have a2 := gA_c n2 n3 b2
  unfold gU
  cases b1 with
  | false =>
    rw [if_neg (show ¬ false = true by decide)]
    omega
  | true =>
    rw [if_pos rfl]
    omega
/-- what is left behind a negative one -/
theorem gG_t {n0 n1 n2 : Pt} {b1 : Bool} : gG n0 n0 n1 n2 true b1 = 2 * gU n0 n1 - gR n0 n1 + gA n1 n2 b1 / 2 := by
  unfold gG
  rw [gU_0, if_pos rfl]
  unfold gA
  rw [if_pos rfl]
  omega
section GGN
variable {n0 n1 n2 n3 : Pt} {b1 b2 : Bool}
theorem gG_ge : gG n0 n1 n2 n3 b1 b2 ≥ 2 * gU n0 n1 + gA n1 n2 b1 + (if b1 = true then gA n2 n3 b2 / 2 else gA n2 n3 b2) := Int.le_refl _
theorem gG_al (h3 : co n2 n3) : gA n2 n3 b2 / 2 ≤ (if b1 = true then gA n2 n3 b2 / 2 else gA n2 n3 b2) := by
  unfold co at h3
  have a2 := gA_c n2 n3 b2
  cases b1 with
  | false =>
    rw [if_neg (show ¬ false = true by decide)]
    omega
  | true =>
    rw [if_pos rfl]
    exact Int.le_refl _
theorem gG_any (h1 : co n0 n1) (h2 : co n1 n2) (h3 : co n2 n3) : gG n0 n0 n1 n2 true b1 ≤ gG n0 n1 n2 n3 b1 b2 := by
  rw [gG_t]
  have g := gG_ge (n0 := n0) (n1 := n1) (n2 := n2) (n3 := n3) (b1 := b1) (b2 := b2)
  have al := gG_al (n2 := n2) (n3 := n3) (b1 := b1) (b2 := b2) h3
  have a1 := gA_c n1 n2 b1
  have a2 := gA_c n2 n3 b2
  have r := gR_c n0 n1
  unfold co at h1 h2 h3
  omega
/-- the new one is the first of its minute, five minutes behind the last -/
theorem gG_n0 (h1 : co n0 n1) (h2 : co n1 n2) (h3 : co n2 n3) (hb : 5 ≤ n0.2 - n1.2) : gG n0 n0 n1 n2 true b1 + (2 * (n0.1 - n3.1) / 5 + 500) ≤ gG n0 n1 n2 n3 b1 b2 := by
  rw [gG_t]
  have g := gG_ge (n0 := n0) (n1 := n1) (n2 := n2) (n3 := n3) (b1 := b1) (b2 := b2)
  have al := gG_al (n2 := n2) (n3 := n3) (b1 := b1) (b2 := b2) h3
  have a1 := gA_c n1 n2 b1
  have a2 := gA_c n2 n3 b2
  have r := gR_c n0 n1
  unfold co at h1 h2 h3
  omega
theorem gG_n1 (h1 : co n0 n1) (h2 : co n1 n2) (h3 : co n2 n3) (hb : 1 ≤ n1.2 - n2.2) : gG n0 n0 n1 n2 true b1 + (n1.1 - n3.1 + 200) ≤ gG n0 n1 n2 n3 b1 b2 ∨ gG n0 n0 n1 n2 true b1 + (2 * (n1.1 - n3.1) / 5 + 500) ≤ gG n0 n1 n2 n3 b1 b2 := by
  rw [gG_t]
  have g := gG_ge (n0 := n0) (n1 := n1) (n2 := n2) (n3 := n3) (b1 := b1) (b2 := b2)
  have al := gG_al (n2 := n2) (n3 := n3) (b1 := b1) (b2 := b2) h3
  have a1 := gA_c n1 n2 b1
  have a2 := gA_c n2 n3 b2
  have r := gR_c n0 n1
  unfold co at h1 h2 h3
  rcases a1 with a1 | a1
  · rcases a2 with a2 | a2
    · left; omega
    · right; omega
  · right; omega
theorem gG_n2 (h1 : co n0 n1) (h2 : co n1 n2) (h3 : co n2 n3) (hb : 1 ≤ n2.2 - n3.2) : gG n0 n0 n1 n2 true b1 + (n2.1 - n3.1 + 200) ≤ gG n0 n1 n2 n3 b1 b2 ∨ gG n0 n0 n1 n2 true b1 + (2 * (n2.1 - n3.1) / 5 + 500) ≤ gG n0 n1 n2 n3 b1 b2 := by
  rw [gG_t]
  have g := gG_ge (n0 := n0) (n1 := n1) (n2 := n2) (n3 := n3) (b1 := b1) (b2 := b2)
  have al := gG_al (n2 := n2) (n3 := n3) (b1 := b1) (b2 := b2) h3
  have a1 := gA_c n1 n2 b1
  have a2 := gA_c n2 n3 b2
  have r := gR_c n0 n1
  unfold co at h1 h2 h3
  rcases a2 with a2 | a2
  · left; omega
  · right; omega
/-- far entries, behind one or two lower ones -/
theorem gG_f1 (h1 : co n0 n1) (h2 : co n1 n2) (h3 : co n2 n3) (hb : 4 ≤ n1.2 - n2.2) : gG n0 n0 n1 n2 true false + (n1.1 - n2.1 + 800) ≤ gG n0 n1 n2 n3 false b2 := by
  rw [gG_t]
  have g := gG_ge (n0 := n0) (n1 := n1) (n2 := n2) (n3 := n3) (b1 := false) (b2 := b2)
  have al := gG_al (n2 := n2) (n3 := n3) (b1 := false) (b2 := b2) h3
  rw [gA_f] at g ⊢
  have a2 := gA_c n2 n3 b2
  have r := gR_c n0 n1
  unfold co at h1 h2 h3
  omega
theorem gG_f2 (h1 : co n0 n1) (h2 : co n1 n2) (h3 : co n2 n3) (hb : 4 ≤ n1.2 - n3.2) : gG n0 n0 n1 n2 true false + (n1.1 - n3.1 + 800) ≤ gG n0 n1 n2 n3 false b2 := by
  rw [gG_t]
  have g := gG_ge (n0 := n0) (n1 := n1) (n2 := n2) (n3 := n3) (b1 := false) (b2 := b2)
  rw [if_neg (show ¬ false = true by decide)] at g
  rw [gA_f] at g ⊢
  have a2 := gA_c n2 n3 b2
  have r := gR_c n0 n1
  unfold co at h1 h2 h3
  omega
theorem gG_f3 (h1 : co n0 n1) (h2 : co n1 n2) (h3 : co n2 n3) (hb : 4 ≤ n2.2 - n3.2) (hr : n1.2 - n2.2 < 5) : gG n0 n0 n1 n2 true b1 + (n1.1 - n3.1 + 800) ≤ gG n0 n1 n2 n3 b1 false := by
  rw [gG_t]
  have g := gG_ge (n0 := n0) (n1 := n1) (n2 := n2) (n3 := n3) (b1 := b1) (b2 := false)
  have al := gG_al (n2 := n2) (n3 := n3) (b1 := b1) (b2 := false) h3
  rw [gA_f] at al
  have a1 := gA_c n1 n2 b1
  have a2 := gA_f n2 n3
  have r := gR_c n0 n1
  unfold co at h1 h2 h3
  omega
theorem gG_f4 (h1 : co n0 n1) (h2 : co n1 n2) (h3 : co n2 n3) (hb : 4 ≤ n2.2 - n3.2) : gG n0 n0 n1 n2 true false + (n1.1 - n3.1 + 1260) ≤ gG n0 n1 n2 n3 false false := by
  rw [gG_t]
  have g := gG_ge (n0 := n0) (n1 := n1) (n2 := n2) (n3 := n3) (b1 := false) (b2 := false)
  rw [if_neg (show ¬ false = true by decide)] at g
  rw [gA_f, gA_f] at g
  rw [gA_f]
  have r := gR_c n0 n1
  unfold co at h1 h2 h3
  omega
/-- a tick more -/
theorem gG_tick {now : Int} : gG (now + 1, (now + 1) / 200) n1 n2 n3 b1 b2 = gG (now, now / 200) n1 n2 n3 b1 b2 + 2 + 400 * ((now + 1) / 200 - now / 200) := by
  unfold gG gU
  omega
end GGN
