/-! Bounds, mode C: the numbers for every service time (printed by gen/kp.py) -/
theorem quad6 {b c x : Int} (h : b * b ≤ 786432 * c) : b * x ≤ 196608 * (x * x) + c := by
  have sq : 0 ≤ (393216 * x - b) * (393216 * x - b) := by
    rcases Int.le_total b (393216 * x) with q | q
    · exact Int.mul_nonneg (by omega) (by omega)
    · rw [show 393216 * x - b = -(b - 393216 * x) by omega, Int.neg_mul_neg]
      exact Int.mul_nonneg (by omega) (by omega)
  have e : (393216 * x - b) * (393216 * x - b) = 154618822656 * (x * x) - 786432 * (b * x) + b * b := by
    have e1 : (393216 * x) * (393216 * x) = 154618822656 * (x * x) := by
      rw [Int.mul_assoc, Int.mul_left_comm x 393216 x, ← Int.mul_assoc]
      rfl
    have e2 : (393216 * x) * b = 393216 * (b * x) := by rw [Int.mul_assoc, Int.mul_comm x b]
    have e3 : b * (393216 * x) = 393216 * (b * x) := Int.mul_left_comm _ _ _
    rw [Int.sub_mul, Int.mul_sub, Int.mul_sub, e1, e2, e3]
    omega
  omega
theorem PCs.of {K M : Int} {A X : Nat} {U1 C1 Z : Int} {C3 w1 : Nat} (h : 0 < M ∧ 5 ≤ A ∧ 40 ≤ X ∧ 32 * K < (X : Int) * X - 7 * X + 6 ∧ 3 * (X : Int) + 14 ≤ U1 + 3 * A ∧ 0 ≤ U1 ∧ U1 ≤ C1 ∧ 2 ≤ C1 ∧ C1 + 2 ≤ Z ∧ 3 * (X : Int) + 14 + U1 ≤ Z + 3 * A ∧ 16 * K < ((C3 : Int) + 2) * (w1 + 1 : Nat) ∧ 3 * (C3 : Int) + 2 ≤ C1 + 3 * A ∧ 3 * (C3 : Int) + U1 ≤ Z + 3 * A)
    (h1 : (3 * M) * (3 * M) ≤ 786432 * (M * (C1 + 3 * A - 20) - 786432 * (((w1 : Int) + 1) * ((w1 : Int) + 1))))
    (ha : 3 * (M * ((X : Int) + 4)) + M * U1 + 786432 * (((w1 : Int) + 1) * ((w1 : Int) + 1)) ≤ 196608 * (((X : Int) - 2) * ((X : Int) - 2)) + M * Z + 3 * (M * (A : Int)) ∧ 393216 * (X : Int) ≤ 3 * M)
    (hb : (2 * M) * (2 * M) ≤ 786432 * (M * (Z + 3 * A - U1 - 16 - X) - 786432 * (((w1 : Int) + 1) * ((w1 : Int) + 1))))
    (hc : (3 * M) * (3 * M) ≤ 786432 * (M * (Z + 3 * A - U1 - 18 + 2 * X) - 786432 * (((w1 : Int) + 1) * ((w1 : Int) + 1)))) : PCs K M A X U1 C1 Z C3 w1 := by
  obtain ⟨c1, c2, c3, c4, c5, c6, c7, c8, c9, c10, c11, c12, c13⟩ := h
  have mA : M * (3 * (A : Int)) = 3 * (M * (A : Int)) := Int.mul_left_comm _ _ _
  refine ⟨c1, c2, c3, c4, c5, c6, c7, c8, c9, c10, c11, c12, c13, fun F hF => ?_, fun F hF => ?_⟩
  · have q := quad6 (x := (F : Int) - 2) h1
    have e1 : (3 * M) * ((F : Int) - 2) = 3 * (M * ((F : Int) + 4)) - 18 * M := by
      rw [Int.mul_assoc, Int.mul_sub, Int.mul_add]
      omega
    have e2 : M * (C1 + 3 * A - 20) = M * C1 + 3 * (M * (A : Int)) - 20 * M := by
      rw [Int.mul_sub, Int.mul_add, mA]
      omega
    rw [e1, e2] at q
    omega
  · have e1 : (3 * M) * ((F : Int) - 2) = 3 * (M * ((F : Int) + 4)) - 18 * M := by
      rw [Int.mul_assoc, Int.mul_sub, Int.mul_add]
      omega
    by_cases q1 : F ≤ X
    · -- below X the left side grows faster
      have z0 : 0 ≤ M * (gLv X F : Int) := Int.mul_nonneg (by omega) (by omega)
      have d1 : ((X : Int) - 2) * ((X : Int) - 2) - ((F : Int) - 2) * ((F : Int) - 2) = ((X : Int) - F) * ((X : Int) + F - 4) := by
        rw [Int.sub_mul, Int.mul_sub, Int.mul_sub, Int.sub_mul, Int.mul_sub, Int.mul_sub, Int.sub_mul, Int.mul_sub, Int.mul_sub, Int.mul_add, Int.mul_add, Int.mul_comm (F : Int) X]
        omega
      have d2 : ((X : Int) - F) * (196608 * ((X : Int) + F - 4)) ≤ ((X : Int) - F) * (3 * M) := Int.mul_le_mul_of_nonneg_left (by omega) (by omega)
      have d3 : ((X : Int) - F) * (196608 * ((X : Int) + F - 4)) = 196608 * (((X : Int) - F) * ((X : Int) + F - 4)) := Int.mul_left_comm _ _ _
      have d4 : ((X : Int) - F) * (3 * M) = 3 * (M * ((X : Int) + 4)) - 3 * (M * ((F : Int) + 4)) := by
        rw [Int.mul_left_comm, Int.mul_comm ((X : Int) - F) M, Int.mul_sub M (X : Int) F, Int.mul_add M (X : Int) 4, Int.mul_add M (F : Int) 4]
        omega
      have := ha.1
      omega
    · by_cases q2 : F ≤ 3 * X
      · have eg : (gLv X F : Int) = (F : Int) - X := by
          unfold gLv
          omega
        have q := quad6 (x := (F : Int) - 2) hb
        have e2 : M * (Z + 3 * A - U1 - 16 - X) = M * Z + 3 * (M * (A : Int)) - M * U1 - 16 * M - M * (X : Int) := by
          rw [Int.mul_sub, Int.mul_sub, Int.mul_sub, Int.mul_add, mA]
          omega
        have e3 : (2 * M) * ((F : Int) - 2) = 2 * (M * (F : Int)) - 4 * M := by
          rw [Int.mul_assoc, Int.mul_sub]
          omega
        rw [e2, e3] at q
        rw [eg, Int.mul_sub M (F : Int) X, Int.mul_add M (F : Int) 4]
        omega
      · have eg : (gLv X F : Int) = 2 * (X : Int) := by
          unfold gLv
          omega
        have q := quad6 (x := (F : Int) - 2) hc
        have e2 : M * (Z + 3 * A - U1 - 18 + 2 * X) = M * Z + 3 * (M * (A : Int)) - M * U1 - 18 * M + M * (2 * (X : Int)) := by
          rw [Int.mul_add, Int.mul_sub, Int.mul_sub, Int.mul_add, mA]
          omega
        rw [e1, e2] at q
        rw [eg]
        omega
def cRM (s : Nat) : Int := ([0, 41243990, 55458020, 53627173, 52759930, 54525952, 53776970, 58580446, 60880959, 61100807, 66115477, 65810628, 70132665, 71029627, 66396624, 66152269, 61882116, 61941968, 61995261, 62043017, 58476402] : List Int).getD s 0
def cRA (s : Nat) : Nat := ([0, 5, 8, 13, 18, 22, 27, 29, 32, 36, 37, 41, 42, 45, 52, 56, 64, 68, 72, 76, 85] : List Nat).getD s 0
def cRX (s : Nat) : Nat := ([0, 48, 66, 80, 92, 102, 111, 120, 128, 135, 143, 149, 156, 162, 168, 174, 179, 185, 190, 195, 200] : List Nat).getD s 0
def cRU1 (s : Nat) : Int := ([0, 143, 188, 215, 236, 254, 266, 287, 302, 311, 332, 338, 356, 365, 362, 368, 359, 365, 368, 371, 359] : List Int).getD s 0
def cRC1 (s : Nat) : Int := ([0, 479, 633, 600, 580, 593, 578, 629, 650, 647, 701, 692, 739, 744, 681, 673, 614, 609, 603, 598, 546] : List Int).getD s 0
def cRZ (s : Nat) : Int := ([0, 524, 687, 653, 630, 641, 620, 674, 694, 700, 751, 757, 801, 815, 785, 790, 755, 761, 764, 767, 731] : List Int).getD s 0
def cRC3 (s : Nat) : Nat := ([0, 119, 173, 159, 146, 149, 143, 155, 162, 165, 176, 177, 187, 194, 193, 196, 195, 200, 204, 208, 209] : List Nat).getD s 0
def cRw1 (s : Nat) : Nat := ([0, 7, 10, 17, 25, 31, 39, 42, 46, 51, 53, 58, 60, 63, 68, 72, 77, 80, 83, 86, 90] : List Nat).getD s 0
theorem PCs_R {s : Nat} (h1 : 1 ≤ s) (h2 : s ≤ 20) : PCs (60 * (s : Int)) (cRM s) (cRA s) (cRX s) (cRU1 s) (cRC1 s) (cRZ s) (cRC3 s) (cRw1 s) ∧ 4194304 * (60 * (s : Int) - 1) ≤ cRM s * ((cRA s : Int) + 1) := by
  have h : s = 1 ∨ s = 2 ∨ s = 3 ∨ s = 4 ∨ s = 5 ∨ s = 6 ∨ s = 7 ∨ s = 8 ∨ s = 9 ∨ s = 10 ∨ s = 11 ∨ s = 12 ∨ s = 13 ∨ s = 14 ∨ s = 15 ∨ s = 16 ∨ s = 17 ∨ s = 18 ∨ s = 19 ∨ s = 20 := by omega
  rcases h with h | h | h | h | h | h | h | h | h | h | h | h | h | h | h | h | h | h | h | h <;> subst h <;> exact ⟨PCs.of (by decide) (by decide) (by decide) (by decide) (by decide), by decide⟩
def cTM (s : Nat) : Int := ([0, 41243990, 45374744, 44163554, 43584290, 48234496, 51922591, 54919168, 54299233, 49146302, 49262512, 49357971, 49437780, 47353085, 45115655, 45429872, 45194804, 37165181, 32326101, 25684475, 26329689] : List Int).getD s 0
def cTA (s : Nat) : Nat := ([0, 5, 10, 16, 22, 25, 28, 31, 36, 45, 50, 55, 60, 68, 77, 82, 88, 114, 139, 185, 190] : List Nat).getD s 0
def cTX (s : Nat) : Nat := ([0, 48, 66, 80, 92, 102, 111, 120, 128, 135, 143, 149, 156, 162, 168, 174, 179, 185, 190, 195, 200] : List Nat).getD s 0
def cTU1 (s : Nat) : Int := ([0, 143, 182, 206, 224, 245, 263, 281, 290, 284, 293, 296, 302, 296, 287, 290, 287, 227, 167, 44, 44] : List Int).getD s 0
def cTC1 (s : Nat) : Int := ([0, 479, 513, 487, 473, 520, 556, 585, 570, 500, 494, 488, 482, 447, 409, 408, 396, 260, 167, 44, 44] : List Int).getD s 0
def cTZ (s : Nat) : Int := ([0, 524, 561, 531, 511, 559, 596, 633, 639, 602, 612, 615, 622, 600, 575, 580, 574, 454, 334, 88, 88] : List Int).getD s 0
def cTC3 (s : Nat) : Nat := ([0, 119, 136, 124, 115, 128, 139, 148, 152, 150, 156, 161, 165, 169, 173, 176, 181, 188, 193, 199, 203] : List Nat).getD s 0
def cTw1 (s : Nat) : Nat := ([0, 7, 13, 22, 32, 36, 40, 44, 49, 56, 60, 64, 68, 72, 76, 80, 83, 85, 88, 90, 93] : List Nat).getD s 0
theorem PCs_T {s : Nat} (h1 : 1 ≤ s) (h2 : s ≤ 20) : PCs (60 * (s : Int)) (cTM s) (cTA s) (cTX s) (cTU1 s) (cTC1 s) (cTZ s) (cTC3 s) (cTw1 s) ∧ 4194304 * (60 * (s : Int) - 1) ≤ cTM s * ((cTA s : Int) + 1) := by
  have h : s = 1 ∨ s = 2 ∨ s = 3 ∨ s = 4 ∨ s = 5 ∨ s = 6 ∨ s = 7 ∨ s = 8 ∨ s = 9 ∨ s = 10 ∨ s = 11 ∨ s = 12 ∨ s = 13 ∨ s = 14 ∨ s = 15 ∨ s = 16 ∨ s = 17 ∨ s = 18 ∨ s = 19 ∨ s = 20 := by omega
  rcases h with h | h | h | h | h | h | h | h | h | h | h | h | h | h | h | h | h | h | h | h <;> subst h <;> exact ⟨PCs.of (by decide) (by decide) (by decide) (by decide) (by decide), by decide⟩
