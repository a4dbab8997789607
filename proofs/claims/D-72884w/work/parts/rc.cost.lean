/-! Bounds, trials: costs of negative ones, by the level (printed by gen/plt.py) -/
def kAny : List Nat := [737280, 802816, 868352, 933888, 999424, 1064960, 1130496, 1196032, 1261568, 1327104, 1392640, 1458176, 1523712, 1589248, 1654784, 1720320, 1785856, 1851392, 1916928, 1982464, 2048000, 2113536, 2179072, 2244608, 2310144, 2375680, 2441216, 2506752, 2572288, 2637824]
theorem kAny_ok (K : Int) : NCE K 40960 122880 26843545600 (cS (fun k => kAny.getD k 0) 30) := by
  have h : ∀ k : Nat, k < 30 → 16 * (40960 + 4096 * ((k : Int) + 1) + 1024) ≤ kAny.getD k 0 := by
    unfold kAny
    decide
  exact NCE.of (wb := fun _ => 1) (M := fun _ => 0) (by decide) (by decide) (by decide) (fun k hk => Or.inl (h k hk))
def mdT (i : Nat) : Nat := if i = 0 then 2 else if i = 1 then 1 else 0
def ef0 : Nat → Int := fun n => if n = 1 then 11072962560 else if n = 2 then 5536481280 else 0
def ef1 : Nat → Int := fun n => if n = 1 then 26843545600 else if n = 2 then 26843545600 else 11072962560
def ef2 : Nat → Int := fun n => if n = 1 then 26843545600 else if n = 2 then 26843545600 else 26843545600
def efT (i : Nat) : Nat → Int := if i = 0 then ef0 else if i = 1 then ef1 else ef2
theorem mdp_ok (i : Nat) : MDp (mdT i) 1320 40960 122880 (efT i) := by
  have hc : i = 0 ∨ i = 1 ∨ 2 ≤ i := by omega
  unfold MDp mdT
  rcases hc with h | h | h
  · subst h
    exact ⟨by decide, fun q => absurd q (by decide), fun q => absurd q (by decide), fun _ => by decide⟩
  · subst h
    exact ⟨by decide, fun q => absurd q (by decide), fun _ => by decide, fun q => absurd q (by decide)⟩
  · rw [if_neg (by omega), if_neg (by omega)]
    refine ⟨by decide, fun _ n _ _ => ?_, fun q => absurd q (by decide), fun q => absurd q (by decide)⟩
    have e : efT i n = 26843545600 := by
      unfold efT
      rw [if_neg (by omega), if_neg (by omega)]
      unfold ef2
      split
      · rfl
      · split <;> rfl
    rw [e]
    decide
def k1321C : List Nat := [867328, 867328, 867328, 848756, 787028, 733670, 687088, 646068, 609670, 577154, 547931, 521525, 497547, 475677, 455648, 437238, 420258, 404547, 389969, 376405, 363753, 351923, 340839, 330432, 320641, 311414, 302703, 294467, 286666, 279268]
theorem k1321C_ok : NC0 1321 40960 122880 (cS (fun k => k1321C.getD k 0) 30) := NC0.of (g := 867328) (p := 52160) (by decide) (by decide) (by decide) (by decide) (by decide) (by decide) (by decide) (by decide) (by unfold k1321C; decide)
def k1321D : List Nat := [737280, 802816, 868352, 933888, 999424, 1064960, 1130496, 1196032, 1261568, 1202240, 580864, 557440, 536048, 516448, 498416, 481760, 466352, 452032, 438704, 426272, 414624, 403712, 393472, 383824, 374736, 366144, 358016, 350320, 343024, 336080]
theorem k1321D_ok : NCE 1321 40960 122880 5536481280 (cS (fun k => k1321D.getD k 0) 30) := NCE.of (wb := fun k => ([1, 1, 1, 1, 1, 1, 1, 1, 1, 10496, 16513, 21062, 24958, 28471, 31728, 34801, 37736, 40562, 43300, 45966, 48573, 51128, 53641, 56115, 58556, 60969, 63356, 65720, 68063, 70388] : List Nat).getD k 0) (M := fun k => ([0, 0, 0, 0, 0, 0, 0, 0, 0, 152964, 118224, 120856, 123615, 126486, 129455, 132510, 135643, 138844, 142107, 145426, 148794, 152208, 155664, 159157, 162685, 166244, 169832, 173447, 177087, 180749] : List Nat).getD k 0) (by decide) (by decide) (by decide) (by unfold k1321D; decide)
def k1321E : List Nat := [737280, 802816, 868352, 933888, 999424, 1064960, 1130496, 1196032, 1261568, 1327104, 1392640, 1458176, 1523712, 1589248, 1654784, 1720320, 1785856, 452032, 438704, 426272, 414624, 403712, 393472, 383824, 374736, 366144, 358016, 350320, 343024, 336080]
theorem k1321E_ok : NCE 1321 40960 122880 11072962560 (cS (fun k => k1321E.getD k 0) 30) := NCE.of (wb := fun k => ([1, 1, 1, 1, 1, 1, 1, 1, 1, 1, 1, 1, 1, 1, 1, 1, 6317, 16160, 22153, 26996, 31228, 35072, 38642, 42009, 45219, 48302, 51282, 54175, 56996, 59753] : List Nat).getD k 0) (M := fun k => ([0, 0, 0, 0, 0, 0, 0, 0, 0, 0, 0, 0, 0, 0, 0, 0, 231911, 138844, 142107, 145426, 148794, 152208, 155664, 159157, 162685, 166244, 169832, 173447, 177087, 180749] : List Nat).getD k 0) (by decide) (by decide) (by decide) (by unfold k1321E; decide)
def k179C : List Nat := [335872, 136407, 124798, 115010, 106645, 99415, 93103, 87545, 82613, 78207, 74247, 70669, 67420, 64456, 61742, 59248, 56947, 54818, 52843, 51005, 49290, 47687, 46185, 44775, 43448, 42198, 41018, 39902, 38845, 37842]
theorem k179C_ok : NC0 179 40960 122880 (cS (fun k => k179C.getD k 0) 30) := NC0.of (g := 335872) (p := 18944) (by decide) (by decide) (by decide) (by decide) (by decide) (by decide) (by decide) (by decide) (by unfold k179C; decide)
