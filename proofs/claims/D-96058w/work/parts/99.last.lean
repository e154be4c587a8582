theorem zz_last : 1 + 1 = 2 := rfl
