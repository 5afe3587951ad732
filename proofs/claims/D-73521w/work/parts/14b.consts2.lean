theorem tt_c2 : True := trivial
theorem kb_11 : (Int8.ofInt 11).toInt32 = 11 := by decide
