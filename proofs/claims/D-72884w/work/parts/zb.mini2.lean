def inR32 (v a b : Int32) : Int32 := if v < a then 0 else if b < v then 0 else 1
set_option maxHeartbeats 4000000 in
set_option maxRecDepth 100000 in
def and2 (a b : Int32) : Int32 := if a = 0 then 0 else if b = 0 then 0 else 1
def srcF (a b d f : Int) : Nat → Int := fun j => if j = 0 then a else if j = 1 then b else if j = 2 then d else if j = 3 then f else 0
def addCM (m : MS) (nC : Nat) (a b d f : Int) : MS := (mg m, mq m, mv m, ms m, fup (mc m) nC (srcF a b d f), mnt m)
def rmCM (m : MS) (i : Nat) : MS := (mg m, mq m, mv m, ms m, (fun k => if k < i then mc m k else mc m (k + 1)), mnt m)
def sndF (t g o now : Int) : Nat → Int := fun j => if j = 0 then t else if j = 1 then g else if j = 2 then o else if j = 3 then 1 else if j = 4 then 512 else if j = 10 then now else if j = 11 then -1 else 0
def newS (t g o now : Int) : SdM := (sndF t g o now, (fun _ => none), [])
def offS (s : SdM) : SdM := (iup s.1 3 0, s.2)
def offSM (m : MS) (j : Nat) : MS := setSM m j (offS (ms m j))
def offK : Nat → MS → MS
  | 0, m => m
  | k + 1, m => offSM (offK k m) k
def emM (m : MS) : Prop := mq m = [] ∧ mv m = none
def drS (nS nC : Nat) (m : MS) (k : Nat) : Prop := emM (tkN nS nC k m) ∨ k = 500 ∨ mg (tkN nS nC k m) 5 = 100000
def lnkM (m : MS) (a b : Int) : MS := (iup (iup (mg m) 0 a) 1 b, m.2)
def timM (m : MS) (a b : Int) : MS := (iup (iup (mg m) 2 a) 3 b, m.2)
def slwM (m : MS) (a : Int) : MS := (iup (mg m) 4 a, m.2)
def fldS (s : SdM) (w : Nat) (a : Int) : SdM := (iup s.1 w a, s.2)
def fldM (m : MS) (i w : Nat) (a : Int) : MS := setSM m i (fldS (ms m i) w a)
abbrev CuM : Type := Nat × Nat × MS
abbrev SY : Type := CuM × List CuM
def tl3 {α : Type} (L : List α) : List α := if L.length = 3 then L.tail else L
def saveY (y : SY) : List CuM := tl3 y.2 ++ [y.1]
def lnkY (y : SY) (a b : Int32) : SY := ((y.1.1, y.1.2.1, lnkM y.1.2.2 a.toInt b.toInt), saveY y)
def timY (y : SY) (a b : Int32) : SY := ((y.1.1, y.1.2.1, timM y.1.2.2 a.toInt b.toInt), saveY y)
def slwY (y : SY) (a : Int32) : SY := ((y.1.1, y.1.2.1, slwM y.1.2.2 a.toInt), saveY y)
def tunY (y : SY) (i : Nat) (a b : Int32) : SY := ((y.1.1, y.1.2.1, fldM (fldM y.1.2.2 i 0 a.toInt) i 1 b.toInt), saveY y)
def ofsY (y : SY) (i : Nat) (a : Int32) : SY := ((y.1.1, y.1.2.1, fldM y.1.2.2 i 2 a.toInt), saveY y)
def swiY (y : SY) (i : Nat) (a : Int32) : SY := ((y.1.1, y.1.2.1, fldM y.1.2.2 i 3 a.toInt), saveY y)
def addSY (y : SY) (a b d : Int32) : SY := ((y.1.1 + 1, y.1.2.1, setSM y.1.2.2 y.1.1 (newS a.toInt b.toInt d.toInt (mg y.1.2.2 5))), saveY y)
def addCY (y : SY) (a b d f : Int32) : SY := ((y.1.1, y.1.2.1 + 1, addCM y.1.2.2 y.1.2.1 a.toInt b.toInt d.toInt f.toInt), saveY y)
def rmCY (y : SY) (i : Nat) : SY := ((y.1.1, y.1.2.1 - 1, rmCM y.1.2.2 i), saveY y)
def runY (y : SY) (n : Nat) : SY := ((y.1.1, y.1.2.1, tkN y.1.1 y.1.2.1 n y.1.2.2), saveY y)
def undY (y : SY) : SY := (y.2.getLast?.getD y.1, y.2.dropLast)
def YS (y y' : SY) : Prop := y' = y ∨ (∃ a b : Int32, ¬ and2 (inR32 a 1 60) (inR32 b 1 20) = 0 ∧ y' = lnkY y a b) ∨ (∃ a b : Int32, ¬ and2 (inR32 a 0 100) (inR32 b 1 100) = 0 ∧ y' = timY y a b) ∨ (∃ a : Int32, ¬ inR32 a 0 2000 = 0 ∧ y' = slwY y a) ∨ (∃ a b d : Int32, ¬ and2 (inR32 a 1 200) (inR32 b 1 8) = 0 ∧ ¬ inR32 d (-1000) 1000 = 0 ∧ y.1.1 < 4 ∧ y' = addSY y a b d) ∨ (∃ (i : Nat) (a b : Int32), i < y.1.1 ∧ ¬ and2 (inR32 a 1 200) (inR32 b 1 8) = 0 ∧ y' = tunY y i a b) ∨ (∃ (i : Nat) (a : Int32), i < y.1.1 ∧ ¬ inR32 a (-1000) 1000 = 0 ∧ y' = ofsY y i a) ∨ (∃ (i : Nat) (a : Int32), i < y.1.1 ∧ (a = 0 ∨ a = 1) ∧ y' = swiY y i a) ∨ (∃ a b d f : Int32, ¬ and2 (inR32 a 0 100000) (inR32 b 1 1000) = 0 ∧ ¬ and2 (inR32 d 1 30) (inR32 f a 100000) = 0 ∧ y.1.2.1 < 4 ∧ y' = addCY y a b d f) ∨ (∃ i : Nat, i < y.1.2.1 ∧ y' = rmCY y i) ∨ (y.2 ≠ [] ∧ y' = undY y)
def LB : Nat → SY → Nat → Nat → Prop
  | 0, _, cu, su => cu ≤ 603072 ∧ su ≤ 7178346
  | n + 1, y, cu, su => (∀ y', YS y y' → LB n y' (cu + 46) (su + 8620)) ∧ (∀ T : Nat, T ≤ 1000 → mg y.1.2.2 5 + T ≤ 100000 → rOK y.1.1 y.1.2.1 T y.1.2.2 ∧ LB n (runY y T) (cu + (72 + crN y.1.1 y.1.2.1 T y.1.2.2)) (su + (33400 + 4 * crN y.1.1 y.1.2.1 T y.1.2.2))) ∧ (∀ k T : Nat, k < y.1.1 → T ≤ 500 → mg y.1.2.2 5 + T ≤ 100000 → rOK y.1.1 y.1.2.1 T (offSM y.1.2.2 k) ∧ LB n y (cu + (72 + crN y.1.1 y.1.2.1 T (offSM y.1.2.2 k))) (su + (33400 + 4 * crN y.1.1 y.1.2.1 T (offSM y.1.2.2 k)))) ∧ (∀ K : Nat, K ≤ 500 → mg y.1.2.2 5 + K ≤ 100000 → (∀ k, k < K → ¬ drS y.1.1 y.1.2.1 (offK y.1.1 y.1.2.2) k) → rOK y.1.1 y.1.2.1 K (offK y.1.1 y.1.2.2) ∧ crN y.1.1 y.1.2.1 K (offK y.1.1 y.1.2.2) ≤ 100) ∧ LB n y (cu + 166) (su + 33800)
theorem LB.le : ∀ {n : Nat} {y : SY} {cu su : Nat}, LB n y cu su → cu ≤ 603072 ∧ su ≤ 7178346 := by
  intro n
  induction n with
  | zero => intro y cu su h; exact h
  | succ n ih =>
    intro y cu su h
    have := ih (h.1 y (Or.inl rfl))
    omega
