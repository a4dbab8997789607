/-! Bounds, trials with R <= 60: every sender with its own kind of price -/
abbrev TKx : Type := (Int → Int → Prop) × PFt × (Nat → Int) × (Nat → Int) × (Nat → Int) × (Nat → Int)
/-- what a sender's price must fulfil: x = what may come in, price, depths and their numbers; c bounds it at the start -/
def TKd (nS nC : Nat) (m : MS) (T N : Nat) (q qh ts tz : Int) (k : Nat) (c : Int) (x : TKx) : Prop :=
  (∀ i, i < N → NQ (x.2.2.1 i) q qh (x.2.2.2.1 i) (x.2.2.2.2.1 i) (x.2.2.2.2.2 i)) ∧
  PFd x.2.1 x.2.1 x.1 x.2.2.1 x.2.2.2.1 x.2.2.2.2.1 x.2.2.2.2.2 N 0 (fun _ => 5) ts tz ∧
  (∀ c now L z a, 0 ≤ x.2.1 c now L z a) ∧
  (∀ d ∈ (ms m k).2.2, ∀ t, t ≤ mg m 5 → x.1 t d) ∧
  (∀ n ∈ (vwK k m).2.2, isA n → x.1 n.1 n.2.2.2) ∧
  (∀ (ka tq T0 : Int) (L : List EnF) (fa : Int → Int), SF (mg m 5) ka tq T0 L fa (ms m k).2.1 (ms m k).2.2 → x.2.1 0 (mg m 5) L (lvS (ms m k)) (aNl (vwK k m).2.2) ≤ 4 * (aNl (vwK k m).2.2 : Int) + c + (vU (vwK k m) : Int)) ∧
  ∀ i, i < T → fnB k (beginM (midM nS nC (tkN nS nC i m))) = true → ∀ y t, own k (beginM (midM nS nC (tkN nS nC i m))) = y :: t → x.1 (mg (tkN nS nC i m) 5 + 1 + mg (tkN nS nC i m) 2 + mg (tkN nS nC i m) 3) (mg (tkN nS nC i m) 5 + 1 + mg (tkN nS nC i m) 2 - y + (ms (tkN nS nC i m) k).1 2)
section T60G
variable {nS nC : Nat} {m : MS} {lo hi e : Nat → Int}
theorem BAs.t60g {p : Nat → Nat} {c : Nat → Int} {N T : Nat} {q qh ts tz : Int} (h : BAs nS m lo hi) (hN0 : 0 < N) (hq0 : 0 ≤ q) (hqh : q ≤ 2 * qh) (hlq : ∀ k, k < nS → hi k - lo k ≤ q) (hx : ∀ k, k < nS → ∃ x, TKd nS nC m T N q qh ts tz k (c k) x) (hR : mg m 2 + mg m 3 ≤ 60) (hp : ∀ k, k < nS → lvl (ms m k) ≤ p k) (he : ∀ k, k < nS → e k = 0 ∨ e k = 1) (hof : ∀ k, k < nS → e k = 0 → (ms m k).1 3 = 0) (hts : ts ≤ mg m 5) (htz : mg m 5 + T ≤ tz) (hT : mg m 5 + T ≤ tqB) :
    61 * (mg m 1 * ((mg m 2 + mg m 3) * (sntM nS (tkN nS nC T m) - sntM nS m))) ≤ mg m 1 * smE e (fun k => 61 * ((mg m 2 + mg m 3) * (2 * (p k : Int) + 31 + (4 * (aNl (vwK k m).2.2 : Int) + c k))) + 61 * ((mg m 2 + mg m 3) - 1) + 60 * (mg m 2 + mg m 3)) nS + 305 * ((mg m 2 + mg m 3) * (T + 38)) + mg m 1 * (sumN e nS * (T * (61 + (mg m 2 + mg m 3)))) := by
  by_cases n0 : nS = 0
  · subst n0
    have e1 : sntM 0 (tkN 0 nC T m) - sntM 0 m = 0 := by
      show (0 : Int) - 0 = 0
      omega
    have e2 : smE e (fun k => 61 * ((mg m 2 + mg m 3) * (2 * (p k : Int) + 31 + (4 * (aNl (vwK k m).2.2 : Int) + c k))) + 61 * ((mg m 2 + mg m 3) - 1) + 60 * (mg m 2 + mg m 3)) 0 = 0 := rfl
    have e3 : sumN e 0 = 0 := rfl
    rw [e1, e2, e3]
    have h2 := h.2.2.2.2.2.1
    have h3 := h.2.2.2.2.2.2.1
    have := Int.mul_nonneg (show 0 ≤ mg m 2 + mg m 3 by omega) (show (0 : Int) ≤ T + 38 by omega)
    simp only [Int.mul_zero, Int.zero_mul]
    omega
  have hx2 : ∀ k, ∃ x : TKx, k < nS → TKd nS nC m T N q qh ts tz k (c k) x := by
    intro k
    by_cases hk : k < nS
    · obtain ⟨x, hx⟩ := hx k hk
      exact ⟨x, fun _ => hx⟩
    · obtain ⟨x, hx⟩ := hx 0 (by omega)
      exact ⟨x, fun z => absurd z hk⟩
  obtain ⟨f, hf⟩ := Classical.axiomOfChoice hx2
  have hnn : ∀ k c now L z a, 0 ≤ (fun k => if k < nS then (f k).2.1 else (fun _ _ _ _ _ => (0 : Int))) k c now L z a := by
    intro k c now L z a
    dsimp only
    by_cases hk : k < nS
    · rw [if_pos hk]
      exact (hf k hk).2.2.1 c now L z a
    · rw [if_neg hk]
      omega
  refine BAs.trialE (AW := fun k => (f k).1) (Ks := fun k => (f k).2.2.1) (ws := fun k => (f k).2.2.2.1) (whs := fun k => (f k).2.2.2.2.1) (wfs := fun k => (f k).2.2.2.2.2) (N := N) (q := q) (qh := qh) (pf := fun k => if k < nS then (f k).2.1 else (fun _ _ _ _ _ => (0 : Int))) (pB := fun k => 4 * (aNl (vwK k m).2.2 : Int) + c k) h (fun k hk => (hf k hk).1) hN0 hq0 hqh (fun k hk => ?_) hnn hlq hR hp (fun k hk => (hf k hk).2.2.2.1) (fun k hk => (hf k hk).2.2.2.2.1) (fun k hk => ?_) he hof T hts htz hT (fun i hi k hk => (hf k hk).2.2.2.2.2.2 i hi)
  · have := (hf k hk).2.1
    rw [if_pos hk]
    exact this
  · have := (hf k hk).2.2.2.2.2.1
    rw [if_pos hk]
    exact this
/-- two kinds -/
theorem TKd.two {k T : Nat} {q qh w0 w1 c : Int} {pr : Nat → Nat → Bool} {tb : GTb} {ty : Int → Int → Nat} {AW : Int → Int → Prop} {B : Nat} {Ks ws whs wfs : Nat → Int} (hty : ∀ t d, ty t d < 2) (g : gmOK 2 alw2 (prF pr) tb) (z : zerC tb = true) (hB : supC 2 tb (100 * B) = true) (h0 : 0 ≤ w0) (h1 : 0 ≤ w1) (hw0 : ws 0 ≤ w0 + w1) (hw00 : 0 ≤ ws 0) (hh : 100 * whs 0 ≤ 148 * ws 0) (hf : 100 * wfs 0 ≤ 203 * ws 0) (hw1 : ws 1 ≤ w0) (hN : ∀ i, i < 2 → NQ (Ks i) q qh (ws i) (whs i) (wfs i)) (hK0 : ∀ t1 d1 t2 d2, AW t1 d1 → AW t2 d2 → d1 - d2 + 1 ≤ Ks 0) (hK1 : ∀ t1 d1 t2 d2, AW t1 d1 → AW t2 d2 → pr (ty t1 d1) (ty t2 d2) = false → d1 - d2 + 1 ≤ Ks 1) (hal : ∀ now d, AW now d → alw2 (hgL (mg m 5 / 200 + 3) now) (ty now d) = true) (hL : ∀ d ∈ (ms m k).2.2, ∀ t, t ≤ mg m 5 → AW t d) (hl : ∀ n ∈ (vwK k m).2.2, isA n → AW n.1 n.2.2.2)
    (hn : ∀ i, i < T → fnB k (beginM (midM nS nC (tkN nS nC i m))) = true → ∀ y t, own k (beginM (midM nS nC (tkN nS nC i m))) = y :: t → AW (mg (tkN nS nC i m) 5 + 1 + mg (tkN nS nC i m) 2 + mg (tkN nS nC i m) 3) (mg (tkN nS nC i m) 5 + 1 + mg (tkN nS nC i m) 2 - y + (ms (tkN nS nC i m) k).1 2)) (hc : 9 * w0 + B * w1 ≤ c) : ∃ x, TKd nS nC m T 2 q qh (200 * (mg m 5 / 200)) (200 * (mg m 5 / 200) + 799) k c x := by
  refine ⟨(AW, pf3 w0 w1 0 gT tb tb (mg m 5 / 200 + 3) ty, Ks, ws, whs, wfs), hN, ?_, pf3_nn h0 h1 (Int.le_refl 0), hL, hl, fun ka tq T0 L fa hS => ?_, hn⟩
  · have a := PFd.two hty g z h0 h1 hw0 hw00 hh hf hw1 hK0 hK1 hal
    have e1 : 200 * (mg m 5 / 200 + 3 - 3) = 200 * (mg m 5 / 200) := by omega
    have e2 : 200 * (mg m 5 / 200 + 3) + 199 = 200 * (mg m 5 / 200) + 799 := by omega
    rw [e1, e2] at a
    exact a
  · have a := P3_sup2 (H := mg m 5 / 200 + 3) (w0 := w0) (w1 := w1) (B := B) (now := mg m 5) (L := L) (tb := tb) hty hB h0 h1
    show 5 * (aNl (vwK k m).2.2 : Int) + P3 w0 w1 0 gT tb tb (mg m 5 / 200 + 3) ty 0 (mg m 5) L ≤ _
    have : (vU (vwK k m) : Int) = ((vwK k m).2.1.length : Int) + (aNl (vwK k m).2.2 : Int) := by
      unfold vU
      push_cast
      rfl
    omega
end T60G
