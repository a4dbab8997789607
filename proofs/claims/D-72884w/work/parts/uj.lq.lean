/-! Bounds, mode H: numbers -/
theorem PHs.o {K q w : Int} {X X2 C w1 : Nat} (h : PHs K q X X2 C w1 w) : PHo K q X X2 C w1 w (2 * w) := h
