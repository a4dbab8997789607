/-! Bounds, trials in mode H: numbers of the depth levels (printed by gen/nq.py): depth K, drops up to q -/
theorem nq_1320_1321 : NQ 1321 1320 660 216 319 424 := ⟨by decide, 210, 429, 413, 50, 324, 324, 64, by unfold PHo; decide, by unfold PHo; decide⟩
theorem nq_1320_240 : NQ 240 1320 660 91 292 412 := ⟨by decide, 92, 417, 294, 12, 297, 294, 12, by unfold PHo; decide, by unfold PHo; decide⟩
theorem nq_1320_200 : NQ 200 1320 660 83 292 412 := ⟨by decide, 84, 417, 245, 12, 297, 245, 12, by unfold PHo; decide, by unfold PHo; decide⟩
theorem nq_1320_140 : NQ 140 1320 660 70 292 412 := ⟨by decide, 71, 417, 171, 12, 297, 171, 12, by unfold PHo; decide, by unfold PHo; decide⟩
theorem nq_1320_80 : NQ 80 1320 660 54 291 412 := ⟨by decide, 55, 417, 97, 12, 296, 181, 6, by unfold PHo; decide, by unfold PHo; decide⟩
theorem nq_2340_2341 : NQ 2341 2340 1170 288 425 563 := ⟨by decide, 278, 568, 566, 65, 430, 429, 86, by unfold PHo; decide, by unfold PHo; decide⟩
theorem nq_2340_240 : NQ 240 2340 1170 91 388 548 := ⟨by decide, 92, 553, 294, 12, 393, 294, 12, by unfold PHo; decide, by unfold PHo; decide⟩
theorem nq_2340_140 : NQ 140 2340 1170 70 388 548 := ⟨by decide, 71, 553, 171, 12, 393, 171, 12, by unfold PHo; decide, by unfold PHo; decide⟩
theorem nq_2340_80 : NQ 80 2340 1170 54 388 548 := ⟨by decide, 55, 553, 97, 12, 393, 97, 12, by unfold PHo; decide, by unfold PHo; decide⟩
theorem nq_3320_3321 : NQ 3321 3320 1660 342 506 671 := ⟨by decide, 330, 676, 671, 78, 511, 509, 103, by unfold PHo; decide, by unfold PHo; decide⟩
theorem nq_3320_2341 : NQ 2341 3320 1660 277 486 662 := ⟨by decide, 278, 667, 656, 56, 491, 491, 75, by unfold PHo; decide, by unfold PHo; decide⟩
theorem nq_3320_2181 : NQ 2181 3320 1660 267 483 661 := ⟨by decide, 268, 666, 645, 53, 488, 483, 71, by unfold PHo; decide, by unfold PHo; decide⟩
theorem nq_3320_240 : NQ 240 3320 1660 91 462 653 := ⟨by decide, 92, 658, 201, 18, 467, 255, 14, by unfold PHo; decide, by unfold PHo; decide⟩
theorem nq_3320_140 : NQ 140 3320 1660 70 462 652 := ⟨by decide, 71, 657, 447, 4, 467, 148, 14, by unfold PHo; decide, by unfold PHo; decide⟩
theorem nq_3320_80 : NQ 80 3320 1660 54 461 652 := ⟨by decide, 55, 657, 255, 4, 466, 425, 2, by unfold PHo; decide, by unfold PHo; decide⟩
