/-! numbers in the code -/
set_option maxRecDepth 100000
theorem k_bipush_m128 : (Int8.ofInt (-128)).toInt32 = (-128) := by decide
theorem k_bipush_m100 : (Int8.ofInt (-100)).toInt32 = (-100) := by decide
theorem k_bipush_m99 : (Int8.ofInt (-99)).toInt32 = (-99) := by decide
theorem k_bipush_m10 : (Int8.ofInt (-10)).toInt32 = (-10) := by decide
theorem k_bipush_m9 : (Int8.ofInt (-9)).toInt32 = (-9) := by decide
theorem k_bipush_m3 : (Int8.ofInt (-3)).toInt32 = (-3) := by decide
theorem k_bipush_m2 : (Int8.ofInt (-2)).toInt32 = (-2) := by decide
theorem k_bipush_6 : (Int8.ofInt 6).toInt32 = 6 := by decide
theorem k_bipush_7 : (Int8.ofInt 7).toInt32 = 7 := by decide
theorem k_bipush_8 : (Int8.ofInt 8).toInt32 = 8 := by decide
theorem k_bipush_9 : (Int8.ofInt 9).toInt32 = 9 := by decide
theorem k_bipush_10 : (Int8.ofInt 10).toInt32 = 10 := by decide
theorem k_bipush_11 : (Int8.ofInt 11).toInt32 = 11 := by decide
theorem k_bipush_16 : (Int8.ofInt 16).toInt32 = 16 := by decide
theorem k_bipush_17 : (Int8.ofInt 17).toInt32 = 17 := by decide
theorem k_bipush_25 : (Int8.ofInt 25).toInt32 = 25 := by decide
theorem k_bipush_30 : (Int8.ofInt 30).toInt32 = 30 := by decide
theorem k_bipush_31 : (Int8.ofInt 31).toInt32 = 31 := by decide
theorem k_bipush_32 : (Int8.ofInt 32).toInt32 = 32 := by decide
theorem k_bipush_33 : (Int8.ofInt 33).toInt32 = 33 := by decide
theorem k_bipush_40 : (Int8.ofInt 40).toInt32 = 40 := by decide
theorem k_bipush_45 : (Int8.ofInt 45).toInt32 = 45 := by decide
theorem k_bipush_46 : (Int8.ofInt 46).toInt32 = 46 := by decide
theorem k_bipush_48 : (Int8.ofInt 48).toInt32 = 48 := by decide
theorem k_bipush_57 : (Int8.ofInt 57).toInt32 = 57 := by decide
theorem k_bipush_58 : (Int8.ofInt 58).toInt32 = 58 := by decide
theorem k_bipush_59 : (Int8.ofInt 59).toInt32 = 59 := by decide
theorem k_bipush_63 : (Int8.ofInt 63).toInt32 = 63 := by decide
theorem k_bipush_64 : (Int8.ofInt 64).toInt32 = 64 := by decide
theorem k_bipush_83 : (Int8.ofInt 83).toInt32 = 83 := by decide
theorem k_bipush_93 : (Int8.ofInt 93).toInt32 = 93 := by decide
theorem k_bipush_97 : (Int8.ofInt 97).toInt32 = 97 := by decide
theorem k_bipush_99 : (Int8.ofInt 99).toInt32 = 99 := by decide
theorem k_bipush_100 : (Int8.ofInt 100).toInt32 = 100 := by decide
theorem k_bipush_101 : (Int8.ofInt 101).toInt32 = 101 := by decide
theorem k_bipush_103 : (Int8.ofInt 103).toInt32 = 103 := by decide
theorem k_bipush_105 : (Int8.ofInt 105).toInt32 = 105 := by decide
theorem k_bipush_108 : (Int8.ofInt 108).toInt32 = 108 := by decide
theorem k_bipush_109 : (Int8.ofInt 109).toInt32 = 109 := by decide
theorem k_bipush_110 : (Int8.ofInt 110).toInt32 = 110 := by decide
theorem k_bipush_111 : (Int8.ofInt 111).toInt32 = 111 := by decide
theorem k_bipush_112 : (Int8.ofInt 112).toInt32 = 112 := by decide
theorem k_bipush_114 : (Int8.ofInt 114).toInt32 = 114 := by decide
theorem k_bipush_115 : (Int8.ofInt 115).toInt32 = 115 := by decide
theorem k_bipush_116 : (Int8.ofInt 116).toInt32 = 116 := by decide
theorem k_bipush_117 : (Int8.ofInt 117).toInt32 = 117 := by decide
theorem k_bipush_118 : (Int8.ofInt 118).toInt32 = 118 := by decide
theorem k_bipush_119 : (Int8.ofInt 119).toInt32 = 119 := by decide
theorem k_bipush_122 : (Int8.ofInt 122).toInt32 = 122 := by decide
theorem k_iconst_m1 : Int32.ofInt (-1) = (-1) := by decide
theorem k_iconst_0 : Int32.ofInt 0 = 0 := by decide
theorem k_iconst_1 : Int32.ofInt 1 = 1 := by decide
theorem k_iconst_2 : Int32.ofInt 2 = 2 := by decide
theorem k_iconst_3 : Int32.ofInt 3 = 3 := by decide
theorem k_iconst_4 : Int32.ofInt 4 = 4 := by decide
theorem k_iconst_5 : Int32.ofInt 5 = 5 := by decide
theorem k_inc_m16 (x : Int32) : x + Int32.ofInt (-16) = x + (-16) := rfl
theorem k_inc_m8 (x : Int32) : x + Int32.ofInt (-8) = x + (-8) := rfl
theorem k_inc_m4 (x : Int32) : x + Int32.ofInt (-4) = x + (-4) := rfl
theorem k_inc_m2 (x : Int32) : x + Int32.ofInt (-2) = x + (-2) := rfl
theorem k_inc_m1 (x : Int32) : x + Int32.ofInt (-1) = x + (-1) := rfl
theorem k_inc_1 (x : Int32) : x + Int32.ofInt 1 = x + 1 := rfl
theorem k_inc_2 (x : Int32) : x + Int32.ofInt 2 = x + 2 := rfl
theorem k_inc_4 (x : Int32) : x + Int32.ofInt 4 = x + 4 := rfl
theorem k_inc_8 (x : Int32) : x + Int32.ofInt 8 = x + 8 := rfl
theorem k_inc_16 (x : Int32) : x + Int32.ofInt 16 = x + 16 := rfl
theorem k_sipush_m1000 : (Int16.ofInt (-1000)).toInt32 = (-1000) := by decide
theorem k_sipush_128 : (Int16.ofInt 128).toInt32 = 128 := by decide
theorem k_sipush_140 : (Int16.ofInt 140).toInt32 = 140 := by decide
theorem k_sipush_237 : (Int16.ofInt 237).toInt32 = 237 := by decide
theorem k_sipush_255 : (Int16.ofInt 255).toInt32 = 255 := by decide
theorem k_sipush_256 : (Int16.ofInt 256).toInt32 = 256 := by decide
theorem k_sipush_356 : (Int16.ofInt 356).toInt32 = 356 := by decide
theorem k_sipush_600 : (Int16.ofInt 600).toInt32 = 600 := by decide
theorem k_sipush_1000 : (Int16.ofInt 1000).toInt32 = 1000 := by decide
theorem k_sipush_1424 : (Int16.ofInt 1424).toInt32 = 1424 := by decide
theorem k_sipush_1780 : (Int16.ofInt 1780).toInt32 = 1780 := by decide
