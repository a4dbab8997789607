/-! Bounds, ledger by ages: families for higher levels (printed by gen/lrt4.py) -/
def kkL3 : Nat → Int := fun i => ([8665918, 8665918, 10381769, 13848136, 17314503, 22878022] : List Int).getD i 0
def cSL3 : Nat → Int := fun i => ([0, 25600, 45625, 70900, 86075] : List Int).getD i 0
theorem cSL3_ok : CSP cSL3 := by
  unfold CSP cSL3
  decide
theorem lr3_ok : LR kkL3 cSL3 75200 2110 13000 692584448 9750 53276 80785 137134 2171 139756 524 4 104857 1320 128 204800 200 := LR.of (d := fun i => ([0, 0, 801, 1812, 2419, 3008] : List Int).getD i 0) (by unfold LPn kkL3; decide) (by unfold kkL3; decide) (by decide) (by decide) (by unfold kkL3; decide) (by unfold kkL3; decide) (by unfold kkL3; decide) cSL3_ok (by decide) (by unfold kkL3 cSL3 cvI; decide) (by decide) (by decide) (by decide) (by decide) (by decide) (by decide) (by decide) (by decide) (by decide) (by decide)
def kkL4 : Nat → Int := fun i => ([8665918, 8665918, 10381769, 13848136, 17314503, 22878022] : List Int).getD i 0
def cSL4 : Nat → Int := fun i => ([0, 25600, 45625, 70900, 86075] : List Int).getD i 0
theorem cSL4_ok : CSP cSL4 := by
  unfold CSP cSL4
  decide
theorem lr4_ok : LR kkL4 cSL4 75200 2110 13000 692584448 9750 53276 80785 137134 2171 139756 524 3 131072 1320 128 204800 200 := LR.of (d := fun i => ([0, 0, 801, 1812, 2419, 3008] : List Int).getD i 0) (by unfold LPn kkL4; decide) (by unfold kkL4; decide) (by decide) (by decide) (by unfold kkL4; decide) (by unfold kkL4; decide) (by unfold kkL4; decide) cSL4_ok (by decide) (by unfold kkL4 cSL4 cvI; decide) (by decide) (by decide) (by decide) (by decide) (by decide) (by decide) (by decide) (by decide) (by decide) (by decide)
def kkL5 : Nat → Int := fun i => ([11785648, 11785648, 11785648, 13848136, 17314503, 22878022] : List Int).getD i 0
def cSL5 : Nat → Int := fun i => ([0, 25600, 25600, 46325, 70025] : List Int).getD i 0
theorem cSL5_ok : CSP cSL5 := by
  unfold CSP cSL5
  decide
theorem lr5_ok : LR kkL5 cSL5 67425 2110 13000 692584448 7250 53276 102779 158873 2142 161495 385 3 131072 1320 128 256000 200 := LR.of (d := fun i => ([0, 0, 0, 829, 1777, 2697] : List Int).getD i 0) (by unfold LPn kkL5; decide) (by unfold kkL5; decide) (by decide) (by decide) (by unfold kkL5; decide) (by unfold kkL5; decide) (by unfold kkL5; decide) cSL5_ok (by decide) (by unfold kkL5 cSL5 cvI; decide) (by decide) (by decide) (by decide) (by decide) (by decide) (by decide) (by decide) (by decide) (by decide) (by decide)
