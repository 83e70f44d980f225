theorem zz_test : 1 + 1 = 2 := rfl
