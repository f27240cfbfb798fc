/-! EdgeSumsModel -/
set_option maxRecDepth 100000
def RX13 : String := "EdgeSumsModel"
def TX13 : u_T := fun k => match k with
  | 0 => ("EdgeSumsModel", "thrown", "I", false)
  | 1 => ("EdgeSumsModel", "s", "[I", true)
  | 2 => ("EdgeSumsModel", "aside", "[I", true)
  | 3 => ("EdgeSumsModel", "saved", "[I", true)
  | 4 => ("EdgeSumsModel", "savedMany", "I", false)
  | 5 => ("EdgeSumsModel", "text", "[I", true)
  | 6 => ("EdgeSumsModel", "length", "I", false)
  | 7 => ("EdgeSumsModel", "w", "[I", true)
  | 8 => ("EdgeSumsModel", "stepRule", "I", false)
  | 9 => ("EdgeSumsModel", "stepCell", "I", false)
  | 10 => ("EdgeSumsModel", "stepNumber", "I", false)
  | 11 => ("EdgeSumsModel", "stepCause", "I", false)
  | 12 => ("EdgeSumsModel", "steps", "[I", true)
  | 13 => ("EdgeSumsModel", "stepMany", "I", false)
  | 14 => ("EdgeSumsModel", "label", "[I", true)
  | 15 => ("EdgeSumsModel", "mark", "[I", true)
  | 16 => ("EdgeSumsModel", "order", "[I", true)
  | 17 => ("EdgeSumsModel", "other", "[I", true)
  | 18 => ("EdgeSumsModel", "line", "[I", true)
  | 19 => ("EdgeSumsModel", "lineMany", "I", false)
  | 20 => ("EdgeSumsModel", "token", "I", false)
  | 21 => ("EdgeSumsModel", "from", "I", false)
  | 22 => ("EdgeSumsModel", "till", "I", false)
  | _ => ("EdgeSumsModel", "wrong", "I", false)
def tyX13 : Nat → FieldType := fun k => match k with
  | 0 => .int
  | 1 => .array .int
  | 2 => .array .int
  | 3 => .array .int
  | 4 => .int
  | 5 => .array .int
  | 6 => .int
  | 7 => .array .int
  | 8 => .int
  | 9 => .int
  | 10 => .int
  | 11 => .int
  | 12 => .array .int
  | 13 => .int
  | 14 => .array .int
  | 15 => .array .int
  | 16 => .array .int
  | 17 => .array .int
  | 18 => .array .int
  | 19 => .int
  | 20 => .int
  | 21 => .int
  | 22 => .int
  | _ => .int
abbrev wsX130 : List Cond := u_ws RX13 TX13 24
set_option maxRecDepth 100000 in
theorem nmX13 : ∀ a, a < 24 → ∀ b, b < 24 → a ≠ b → (TX13 a).2.1 ≠ (TX13 b).2.1 := by decide +kernel
set_option maxRecDepth 100000 in
theorem tyX13_ok : ∀ k, k < 24 → parseFieldDescriptor (TX13 k).2.2.1 = some (tyX13 k) := by decide +kernel
abbrev cX13_init : ByteArray := prog_28_method_1_code
def yX13_init : MethodName := ⟨RX13, "<init>", "()V"⟩
def dkwX13_init_6 : List UInt8 := [182, 0, 47, 42, 182, 0, 51, 177]
abbrev dktX13_init_6 : List UInt8 := dkwX13_init_6 ++ []
def dkwX13_init_5 : List UInt8 := [162, 0, 20, 42, 180, 0, 7, 6, 27, 96, 27, 4, 96, 79, 132, 1, 1, 167, 255, 237, 42, 6, 6]
abbrev dktX13_init_5 : List UInt8 := dkwX13_init_5 ++ dktX13_init_6
def dkwX13_init_4 : List UInt8 := [188, 10, 181, 0, 40, 42, 3, 181, 0, 43, 42, 180, 0, 7, 5, 16, 31, 79, 3, 60, 27, 8]
abbrev dktX13_init_4 : List UInt8 := dkwX13_init_4 ++ dktX13_init_5
def dkwX13_init_3 : List UInt8 := [188, 10, 181, 0, 31, 42, 16, 25, 188, 10, 181, 0, 34, 42, 16, 118, 188, 10, 181, 0, 37, 42, 16, 40]
abbrev dktX13_init_3 : List UInt8 := dkwX13_init_3 ++ dktX13_init_4
def dkwX13_init_2 : List UInt8 := [181, 0, 22, 42, 17, 2, 88, 188, 10, 181, 0, 25, 42, 16, 25, 188, 10, 181, 0, 28, 42, 16, 25]
abbrev dktX13_init_2 : List UInt8 := dkwX13_init_2 ++ dktX13_init_3
def dkwX13_init_1 : List UInt8 := [17, 6, 244, 188, 10, 181, 0, 16, 42, 17, 0, 140, 188, 10, 181, 0, 19, 42, 16, 25, 188, 10]
abbrev dktX13_init_1 : List UInt8 := dkwX13_init_1 ++ dktX13_init_2
def dkwX13_init_0 : List UInt8 := [42, 183, 0, 1, 42, 17, 1, 100, 188, 10, 181, 0, 7, 42, 17, 1, 100, 188, 10, 181, 0, 13, 42]
abbrev dktX13_init_0 : List UInt8 := dkwX13_init_0 ++ dktX13_init_1
theorem dksX13_init_0 : cX13_init.data.toList.drop 0 = dktX13_init_0 := by decide +kernel
theorem dksX13_init_1 : cX13_init.data.toList.drop 23 = dktX13_init_1 := dk_seg dksX13_init_0 23 rfl rfl
theorem dksX13_init_2 : cX13_init.data.toList.drop 45 = dktX13_init_2 := dk_seg dksX13_init_1 22 rfl rfl
theorem dksX13_init_3 : cX13_init.data.toList.drop 68 = dktX13_init_3 := dk_seg dksX13_init_2 23 rfl rfl
theorem dksX13_init_4 : cX13_init.data.toList.drop 92 = dktX13_init_4 := dk_seg dksX13_init_3 24 rfl rfl
theorem dksX13_init_5 : cX13_init.data.toList.drop 114 = dktX13_init_5 := dk_seg dksX13_init_4 22 rfl rfl
theorem dksX13_init_6 : cX13_init.data.toList.drop 137 = dktX13_init_6 := dk_seg dksX13_init_5 23 rfl rfl
theorem dX13_init_0 : decode cX13_init 0 = .ok (.aload_n 0, 1) := dk_42 (dk_at dksX13_init_0 0 rfl rfl)
theorem dX13_init_1 : decode cX13_init 1 = .ok (.invokespecial 1, 3) := dk_183 0 1 (dk_at dksX13_init_0 1 rfl rfl)
theorem dX13_init_4 : decode cX13_init 4 = .ok (.aload_n 0, 1) := dk_42 (dk_at dksX13_init_0 4 rfl rfl)
theorem dX13_init_5 : decode cX13_init 5 = .ok (.sipush 356, 3) := dk_17 1 100 (dk_at dksX13_init_0 5 rfl rfl)
theorem dX13_init_8 : decode cX13_init 8 = .ok (.newarray .int, 2) := dk_188_10 (dk_at dksX13_init_0 8 rfl rfl)
theorem dX13_init_10 : decode cX13_init 10 = .ok (.putfield 7, 3) := dk_181 0 7 (dk_at dksX13_init_0 10 rfl rfl)
theorem dX13_init_13 : decode cX13_init 13 = .ok (.aload_n 0, 1) := dk_42 (dk_at dksX13_init_0 13 rfl rfl)
theorem dX13_init_14 : decode cX13_init 14 = .ok (.sipush 356, 3) := dk_17 1 100 (dk_at dksX13_init_0 14 rfl rfl)
theorem dX13_init_17 : decode cX13_init 17 = .ok (.newarray .int, 2) := dk_188_10 (dk_at dksX13_init_0 17 rfl rfl)
theorem dX13_init_19 : decode cX13_init 19 = .ok (.putfield 13, 3) := dk_181 0 13 (dk_at dksX13_init_0 19 rfl rfl)
theorem dX13_init_22 : decode cX13_init 22 = .ok (.aload_n 0, 1) := dk_42 (dk_at dksX13_init_0 22 rfl rfl)
theorem dX13_init_23 : decode cX13_init 23 = .ok (.sipush 1780, 3) := dk_17 6 244 (dk_at dksX13_init_1 0 rfl rfl)
theorem dX13_init_26 : decode cX13_init 26 = .ok (.newarray .int, 2) := dk_188_10 (dk_at dksX13_init_1 3 rfl rfl)
theorem dX13_init_28 : decode cX13_init 28 = .ok (.putfield 16, 3) := dk_181 0 16 (dk_at dksX13_init_1 5 rfl rfl)
theorem dX13_init_31 : decode cX13_init 31 = .ok (.aload_n 0, 1) := dk_42 (dk_at dksX13_init_1 8 rfl rfl)
theorem dX13_init_32 : decode cX13_init 32 = .ok (.sipush 140, 3) := dk_17 0 140 (dk_at dksX13_init_1 9 rfl rfl)
theorem dX13_init_35 : decode cX13_init 35 = .ok (.newarray .int, 2) := dk_188_10 (dk_at dksX13_init_1 12 rfl rfl)
theorem dX13_init_37 : decode cX13_init 37 = .ok (.putfield 19, 3) := dk_181 0 19 (dk_at dksX13_init_1 14 rfl rfl)
theorem dX13_init_40 : decode cX13_init 40 = .ok (.aload_n 0, 1) := dk_42 (dk_at dksX13_init_1 17 rfl rfl)
theorem dX13_init_41 : decode cX13_init 41 = .ok (.bipush 25, 2) := dk_16 25 (dk_at dksX13_init_1 18 rfl rfl)
theorem dX13_init_43 : decode cX13_init 43 = .ok (.newarray .int, 2) := dk_188_10 (dk_at dksX13_init_1 20 rfl rfl)
theorem dX13_init_45 : decode cX13_init 45 = .ok (.putfield 22, 3) := dk_181 0 22 (dk_at dksX13_init_2 0 rfl rfl)
theorem dX13_init_48 : decode cX13_init 48 = .ok (.aload_n 0, 1) := dk_42 (dk_at dksX13_init_2 3 rfl rfl)
theorem dX13_init_49 : decode cX13_init 49 = .ok (.sipush 600, 3) := dk_17 2 88 (dk_at dksX13_init_2 4 rfl rfl)
theorem dX13_init_52 : decode cX13_init 52 = .ok (.newarray .int, 2) := dk_188_10 (dk_at dksX13_init_2 7 rfl rfl)
theorem dX13_init_54 : decode cX13_init 54 = .ok (.putfield 25, 3) := dk_181 0 25 (dk_at dksX13_init_2 9 rfl rfl)
theorem dX13_init_57 : decode cX13_init 57 = .ok (.aload_n 0, 1) := dk_42 (dk_at dksX13_init_2 12 rfl rfl)
theorem dX13_init_58 : decode cX13_init 58 = .ok (.bipush 25, 2) := dk_16 25 (dk_at dksX13_init_2 13 rfl rfl)
theorem dX13_init_60 : decode cX13_init 60 = .ok (.newarray .int, 2) := dk_188_10 (dk_at dksX13_init_2 15 rfl rfl)
theorem dX13_init_62 : decode cX13_init 62 = .ok (.putfield 28, 3) := dk_181 0 28 (dk_at dksX13_init_2 17 rfl rfl)
theorem dX13_init_65 : decode cX13_init 65 = .ok (.aload_n 0, 1) := dk_42 (dk_at dksX13_init_2 20 rfl rfl)
theorem dX13_init_66 : decode cX13_init 66 = .ok (.bipush 25, 2) := dk_16 25 (dk_at dksX13_init_2 21 rfl rfl)
theorem dX13_init_68 : decode cX13_init 68 = .ok (.newarray .int, 2) := dk_188_10 (dk_at dksX13_init_3 0 rfl rfl)
theorem dX13_init_70 : decode cX13_init 70 = .ok (.putfield 31, 3) := dk_181 0 31 (dk_at dksX13_init_3 2 rfl rfl)
theorem dX13_init_73 : decode cX13_init 73 = .ok (.aload_n 0, 1) := dk_42 (dk_at dksX13_init_3 5 rfl rfl)
theorem dX13_init_74 : decode cX13_init 74 = .ok (.bipush 25, 2) := dk_16 25 (dk_at dksX13_init_3 6 rfl rfl)
theorem dX13_init_76 : decode cX13_init 76 = .ok (.newarray .int, 2) := dk_188_10 (dk_at dksX13_init_3 8 rfl rfl)
theorem dX13_init_78 : decode cX13_init 78 = .ok (.putfield 34, 3) := dk_181 0 34 (dk_at dksX13_init_3 10 rfl rfl)
theorem dX13_init_81 : decode cX13_init 81 = .ok (.aload_n 0, 1) := dk_42 (dk_at dksX13_init_3 13 rfl rfl)
theorem dX13_init_82 : decode cX13_init 82 = .ok (.bipush 118, 2) := dk_16 118 (dk_at dksX13_init_3 14 rfl rfl)
theorem dX13_init_84 : decode cX13_init 84 = .ok (.newarray .int, 2) := dk_188_10 (dk_at dksX13_init_3 16 rfl rfl)
theorem dX13_init_86 : decode cX13_init 86 = .ok (.putfield 37, 3) := dk_181 0 37 (dk_at dksX13_init_3 18 rfl rfl)
theorem dX13_init_89 : decode cX13_init 89 = .ok (.aload_n 0, 1) := dk_42 (dk_at dksX13_init_3 21 rfl rfl)
theorem dX13_init_90 : decode cX13_init 90 = .ok (.bipush 40, 2) := dk_16 40 (dk_at dksX13_init_3 22 rfl rfl)
theorem dX13_init_92 : decode cX13_init 92 = .ok (.newarray .int, 2) := dk_188_10 (dk_at dksX13_init_4 0 rfl rfl)
theorem dX13_init_94 : decode cX13_init 94 = .ok (.putfield 40, 3) := dk_181 0 40 (dk_at dksX13_init_4 2 rfl rfl)
theorem dX13_init_97 : decode cX13_init 97 = .ok (.aload_n 0, 1) := dk_42 (dk_at dksX13_init_4 5 rfl rfl)
theorem dX13_init_98 : decode cX13_init 98 = .ok (.iconst 0, 1) := dk_3 (dk_at dksX13_init_4 6 rfl rfl)
theorem dX13_init_99 : decode cX13_init 99 = .ok (.putfield 43, 3) := dk_181 0 43 (dk_at dksX13_init_4 7 rfl rfl)
theorem dX13_init_102 : decode cX13_init 102 = .ok (.aload_n 0, 1) := dk_42 (dk_at dksX13_init_4 10 rfl rfl)
theorem dX13_init_103 : decode cX13_init 103 = .ok (.getfield 7, 3) := dk_180 0 7 (dk_at dksX13_init_4 11 rfl rfl)
theorem dX13_init_106 : decode cX13_init 106 = .ok (.iconst 2, 1) := dk_5 (dk_at dksX13_init_4 14 rfl rfl)
theorem dX13_init_107 : decode cX13_init 107 = .ok (.bipush 31, 2) := dk_16 31 (dk_at dksX13_init_4 15 rfl rfl)
theorem dX13_init_109 : decode cX13_init 109 = .ok (.iastore, 1) := dk_79 (dk_at dksX13_init_4 17 rfl rfl)
theorem dX13_init_110 : decode cX13_init 110 = .ok (.iconst 0, 1) := dk_3 (dk_at dksX13_init_4 18 rfl rfl)
theorem dX13_init_111 : decode cX13_init 111 = .ok (.istore_n 1, 1) := dk_60 (dk_at dksX13_init_4 19 rfl rfl)
theorem dX13_init_112 : decode cX13_init 112 = .ok (.iload_n 1, 1) := dk_27 (dk_at dksX13_init_4 20 rfl rfl)
theorem dX13_init_113 : decode cX13_init 113 = .ok (.iconst 5, 1) := dk_8 (dk_at dksX13_init_4 21 rfl rfl)
theorem dX13_init_114 : decode cX13_init 114 = .ok (.if_icmp .ge 20, 3) := dk_162 0 20 (dk_at dksX13_init_5 0 rfl rfl)
theorem dX13_init_117 : decode cX13_init 117 = .ok (.aload_n 0, 1) := dk_42 (dk_at dksX13_init_5 3 rfl rfl)
theorem dX13_init_118 : decode cX13_init 118 = .ok (.getfield 7, 3) := dk_180 0 7 (dk_at dksX13_init_5 4 rfl rfl)
theorem dX13_init_121 : decode cX13_init 121 = .ok (.iconst 3, 1) := dk_6 (dk_at dksX13_init_5 7 rfl rfl)
theorem dX13_init_122 : decode cX13_init 122 = .ok (.iload_n 1, 1) := dk_27 (dk_at dksX13_init_5 8 rfl rfl)
theorem dX13_init_123 : decode cX13_init 123 = .ok (.iadd, 1) := dk_96 (dk_at dksX13_init_5 9 rfl rfl)
theorem dX13_init_124 : decode cX13_init 124 = .ok (.iload_n 1, 1) := dk_27 (dk_at dksX13_init_5 10 rfl rfl)
theorem dX13_init_125 : decode cX13_init 125 = .ok (.iconst 1, 1) := dk_4 (dk_at dksX13_init_5 11 rfl rfl)
theorem dX13_init_126 : decode cX13_init 126 = .ok (.iadd, 1) := dk_96 (dk_at dksX13_init_5 12 rfl rfl)
theorem dX13_init_127 : decode cX13_init 127 = .ok (.iastore, 1) := dk_79 (dk_at dksX13_init_5 13 rfl rfl)
theorem dX13_init_128 : decode cX13_init 128 = .ok (.iinc 1 1, 3) := dk_132 1 1 (dk_at dksX13_init_5 14 rfl rfl)
theorem dX13_init_131 : decode cX13_init 131 = .ok (.goto (-19), 3) := dk_167 255 237 (dk_at dksX13_init_5 17 rfl rfl)
theorem dX13_init_134 : decode cX13_init 134 = .ok (.aload_n 0, 1) := dk_42 (dk_at dksX13_init_5 20 rfl rfl)
theorem dX13_init_135 : decode cX13_init 135 = .ok (.iconst 3, 1) := dk_6 (dk_at dksX13_init_5 21 rfl rfl)
theorem dX13_init_136 : decode cX13_init 136 = .ok (.iconst 3, 1) := dk_6 (dk_at dksX13_init_5 22 rfl rfl)
theorem dX13_init_137 : decode cX13_init 137 = .ok (.invokevirtual 47, 3) := dk_182 0 47 (dk_at dksX13_init_6 0 rfl rfl)
theorem dX13_init_140 : decode cX13_init 140 = .ok (.aload_n 0, 1) := dk_42 (dk_at dksX13_init_6 3 rfl rfl)
theorem dX13_init_141 : decode cX13_init 141 = .ok (.invokevirtual 51, 3) := dk_182 0 51 (dk_at dksX13_init_6 4 rfl rfl)
theorem dX13_init_144 : decode cX13_init 144 = .ok (.return_, 1) := dk_177 (dk_at dksX13_init_6 7 rfl rfl)
abbrev cX13_lay : ByteArray := prog_28_method_23_code
def yX13_lay : MethodName := ⟨RX13, "lay", "(II)V"⟩
def dkwX13_lay_3 : List UInt8 := [167, 255, 204, 42, 182, 0, 86, 177]
abbrev dktX13_lay_3 : List UInt8 := dkwX13_lay_3 ++ []
def dkwX13_lay_2 : List UInt8 := [180, 0, 7, 16, 33, 29, 96, 3, 79, 42, 180, 0, 7, 16, 58, 29, 96, 3, 79, 132, 3, 1]
abbrev dktX13_lay_2 : List UInt8 := dkwX13_lay_2 ++ dktX13_lay_3
def dkwX13_lay_1 : List UInt8 := [180, 0, 7, 16, 8, 29, 96, 29, 27, 28, 104, 162, 0, 9, 29, 28, 108, 167, 0, 4, 3, 79, 42]
abbrev dktX13_lay_1 : List UInt8 := dkwX13_lay_1 ++ dktX13_lay_2
def dkwX13_lay_0 : List UInt8 := [42, 180, 0, 7, 3, 27, 79, 42, 180, 0, 7, 4, 28, 79, 3, 62, 29, 16, 25, 162, 0, 52, 42]
abbrev dktX13_lay_0 : List UInt8 := dkwX13_lay_0 ++ dktX13_lay_1
theorem dksX13_lay_0 : cX13_lay.data.toList.drop 0 = dktX13_lay_0 := by decide +kernel
theorem dksX13_lay_1 : cX13_lay.data.toList.drop 23 = dktX13_lay_1 := dk_seg dksX13_lay_0 23 rfl rfl
theorem dksX13_lay_2 : cX13_lay.data.toList.drop 46 = dktX13_lay_2 := dk_seg dksX13_lay_1 23 rfl rfl
theorem dksX13_lay_3 : cX13_lay.data.toList.drop 68 = dktX13_lay_3 := dk_seg dksX13_lay_2 22 rfl rfl
theorem dX13_lay_0 : decode cX13_lay 0 = .ok (.aload_n 0, 1) := dk_42 (dk_at dksX13_lay_0 0 rfl rfl)
theorem dX13_lay_1 : decode cX13_lay 1 = .ok (.getfield 7, 3) := dk_180 0 7 (dk_at dksX13_lay_0 1 rfl rfl)
theorem dX13_lay_4 : decode cX13_lay 4 = .ok (.iconst 0, 1) := dk_3 (dk_at dksX13_lay_0 4 rfl rfl)
theorem dX13_lay_5 : decode cX13_lay 5 = .ok (.iload_n 1, 1) := dk_27 (dk_at dksX13_lay_0 5 rfl rfl)
theorem dX13_lay_6 : decode cX13_lay 6 = .ok (.iastore, 1) := dk_79 (dk_at dksX13_lay_0 6 rfl rfl)
theorem dX13_lay_7 : decode cX13_lay 7 = .ok (.aload_n 0, 1) := dk_42 (dk_at dksX13_lay_0 7 rfl rfl)
theorem dX13_lay_8 : decode cX13_lay 8 = .ok (.getfield 7, 3) := dk_180 0 7 (dk_at dksX13_lay_0 8 rfl rfl)
theorem dX13_lay_11 : decode cX13_lay 11 = .ok (.iconst 1, 1) := dk_4 (dk_at dksX13_lay_0 11 rfl rfl)
theorem dX13_lay_12 : decode cX13_lay 12 = .ok (.iload_n 2, 1) := dk_28 (dk_at dksX13_lay_0 12 rfl rfl)
theorem dX13_lay_13 : decode cX13_lay 13 = .ok (.iastore, 1) := dk_79 (dk_at dksX13_lay_0 13 rfl rfl)
theorem dX13_lay_14 : decode cX13_lay 14 = .ok (.iconst 0, 1) := dk_3 (dk_at dksX13_lay_0 14 rfl rfl)
theorem dX13_lay_15 : decode cX13_lay 15 = .ok (.istore_n 3, 1) := dk_62 (dk_at dksX13_lay_0 15 rfl rfl)
theorem dX13_lay_16 : decode cX13_lay 16 = .ok (.iload_n 3, 1) := dk_29 (dk_at dksX13_lay_0 16 rfl rfl)
theorem dX13_lay_17 : decode cX13_lay 17 = .ok (.bipush 25, 2) := dk_16 25 (dk_at dksX13_lay_0 17 rfl rfl)
theorem dX13_lay_19 : decode cX13_lay 19 = .ok (.if_icmp .ge 52, 3) := dk_162 0 52 (dk_at dksX13_lay_0 19 rfl rfl)
theorem dX13_lay_22 : decode cX13_lay 22 = .ok (.aload_n 0, 1) := dk_42 (dk_at dksX13_lay_0 22 rfl rfl)
theorem dX13_lay_23 : decode cX13_lay 23 = .ok (.getfield 7, 3) := dk_180 0 7 (dk_at dksX13_lay_1 0 rfl rfl)
theorem dX13_lay_26 : decode cX13_lay 26 = .ok (.bipush 8, 2) := dk_16 8 (dk_at dksX13_lay_1 3 rfl rfl)
theorem dX13_lay_28 : decode cX13_lay 28 = .ok (.iload_n 3, 1) := dk_29 (dk_at dksX13_lay_1 5 rfl rfl)
theorem dX13_lay_29 : decode cX13_lay 29 = .ok (.iadd, 1) := dk_96 (dk_at dksX13_lay_1 6 rfl rfl)
theorem dX13_lay_30 : decode cX13_lay 30 = .ok (.iload_n 3, 1) := dk_29 (dk_at dksX13_lay_1 7 rfl rfl)
theorem dX13_lay_31 : decode cX13_lay 31 = .ok (.iload_n 1, 1) := dk_27 (dk_at dksX13_lay_1 8 rfl rfl)
theorem dX13_lay_32 : decode cX13_lay 32 = .ok (.iload_n 2, 1) := dk_28 (dk_at dksX13_lay_1 9 rfl rfl)
theorem dX13_lay_33 : decode cX13_lay 33 = .ok (.imul, 1) := dk_104 (dk_at dksX13_lay_1 10 rfl rfl)
theorem dX13_lay_34 : decode cX13_lay 34 = .ok (.if_icmp .ge 9, 3) := dk_162 0 9 (dk_at dksX13_lay_1 11 rfl rfl)
theorem dX13_lay_37 : decode cX13_lay 37 = .ok (.iload_n 3, 1) := dk_29 (dk_at dksX13_lay_1 14 rfl rfl)
theorem dX13_lay_38 : decode cX13_lay 38 = .ok (.iload_n 2, 1) := dk_28 (dk_at dksX13_lay_1 15 rfl rfl)
theorem dX13_lay_39 : decode cX13_lay 39 = .ok (.idiv, 1) := dk_108 (dk_at dksX13_lay_1 16 rfl rfl)
theorem dX13_lay_40 : decode cX13_lay 40 = .ok (.goto 4, 3) := dk_167 0 4 (dk_at dksX13_lay_1 17 rfl rfl)
theorem dX13_lay_43 : decode cX13_lay 43 = .ok (.iconst 0, 1) := dk_3 (dk_at dksX13_lay_1 20 rfl rfl)
theorem dX13_lay_44 : decode cX13_lay 44 = .ok (.iastore, 1) := dk_79 (dk_at dksX13_lay_1 21 rfl rfl)
theorem dX13_lay_45 : decode cX13_lay 45 = .ok (.aload_n 0, 1) := dk_42 (dk_at dksX13_lay_1 22 rfl rfl)
theorem dX13_lay_46 : decode cX13_lay 46 = .ok (.getfield 7, 3) := dk_180 0 7 (dk_at dksX13_lay_2 0 rfl rfl)
theorem dX13_lay_49 : decode cX13_lay 49 = .ok (.bipush 33, 2) := dk_16 33 (dk_at dksX13_lay_2 3 rfl rfl)
theorem dX13_lay_51 : decode cX13_lay 51 = .ok (.iload_n 3, 1) := dk_29 (dk_at dksX13_lay_2 5 rfl rfl)
theorem dX13_lay_52 : decode cX13_lay 52 = .ok (.iadd, 1) := dk_96 (dk_at dksX13_lay_2 6 rfl rfl)
theorem dX13_lay_53 : decode cX13_lay 53 = .ok (.iconst 0, 1) := dk_3 (dk_at dksX13_lay_2 7 rfl rfl)
theorem dX13_lay_54 : decode cX13_lay 54 = .ok (.iastore, 1) := dk_79 (dk_at dksX13_lay_2 8 rfl rfl)
theorem dX13_lay_55 : decode cX13_lay 55 = .ok (.aload_n 0, 1) := dk_42 (dk_at dksX13_lay_2 9 rfl rfl)
theorem dX13_lay_56 : decode cX13_lay 56 = .ok (.getfield 7, 3) := dk_180 0 7 (dk_at dksX13_lay_2 10 rfl rfl)
theorem dX13_lay_59 : decode cX13_lay 59 = .ok (.bipush 58, 2) := dk_16 58 (dk_at dksX13_lay_2 13 rfl rfl)
theorem dX13_lay_61 : decode cX13_lay 61 = .ok (.iload_n 3, 1) := dk_29 (dk_at dksX13_lay_2 15 rfl rfl)
theorem dX13_lay_62 : decode cX13_lay 62 = .ok (.iadd, 1) := dk_96 (dk_at dksX13_lay_2 16 rfl rfl)
theorem dX13_lay_63 : decode cX13_lay 63 = .ok (.iconst 0, 1) := dk_3 (dk_at dksX13_lay_2 17 rfl rfl)
theorem dX13_lay_64 : decode cX13_lay 64 = .ok (.iastore, 1) := dk_79 (dk_at dksX13_lay_2 18 rfl rfl)
theorem dX13_lay_65 : decode cX13_lay 65 = .ok (.iinc 3 1, 3) := dk_132 3 1 (dk_at dksX13_lay_2 19 rfl rfl)
theorem dX13_lay_68 : decode cX13_lay 68 = .ok (.goto (-52), 3) := dk_167 255 204 (dk_at dksX13_lay_3 0 rfl rfl)
theorem dX13_lay_71 : decode cX13_lay 71 = .ok (.aload_n 0, 1) := dk_42 (dk_at dksX13_lay_3 3 rfl rfl)
theorem dX13_lay_72 : decode cX13_lay 72 = .ok (.invokevirtual 86, 3) := dk_182 0 86 (dk_at dksX13_lay_3 4 rfl rfl)
theorem dX13_lay_75 : decode cX13_lay 75 = .ok (.return_, 1) := dk_177 (dk_at dksX13_lay_3 7 rfl rfl)
abbrev cX13_hideAll : ByteArray := prog_28_method_24_code
def yX13_hideAll : MethodName := ⟨RX13, "hideAll", "()V"⟩
def dkwX13_hideAll_1 : List UInt8 := [177]
abbrev dktX13_hideAll_1 : List UInt8 := dkwX13_hideAll_1 ++ []
def dkwX13_hideAll_0 : List UInt8 := [3, 60, 27, 16, 10, 162, 0, 19, 42, 180, 0, 7, 16, 83, 27, 96, 3, 79, 132, 1, 1, 167, 255, 237]
abbrev dktX13_hideAll_0 : List UInt8 := dkwX13_hideAll_0 ++ dktX13_hideAll_1
theorem dksX13_hideAll_0 : cX13_hideAll.data.toList.drop 0 = dktX13_hideAll_0 := by decide +kernel
theorem dksX13_hideAll_1 : cX13_hideAll.data.toList.drop 24 = dktX13_hideAll_1 := dk_seg dksX13_hideAll_0 24 rfl rfl
theorem dX13_hideAll_0 : decode cX13_hideAll 0 = .ok (.iconst 0, 1) := dk_3 (dk_at dksX13_hideAll_0 0 rfl rfl)
theorem dX13_hideAll_1 : decode cX13_hideAll 1 = .ok (.istore_n 1, 1) := dk_60 (dk_at dksX13_hideAll_0 1 rfl rfl)
theorem dX13_hideAll_2 : decode cX13_hideAll 2 = .ok (.iload_n 1, 1) := dk_27 (dk_at dksX13_hideAll_0 2 rfl rfl)
theorem dX13_hideAll_3 : decode cX13_hideAll 3 = .ok (.bipush 10, 2) := dk_16 10 (dk_at dksX13_hideAll_0 3 rfl rfl)
theorem dX13_hideAll_5 : decode cX13_hideAll 5 = .ok (.if_icmp .ge 19, 3) := dk_162 0 19 (dk_at dksX13_hideAll_0 5 rfl rfl)
theorem dX13_hideAll_8 : decode cX13_hideAll 8 = .ok (.aload_n 0, 1) := dk_42 (dk_at dksX13_hideAll_0 8 rfl rfl)
theorem dX13_hideAll_9 : decode cX13_hideAll 9 = .ok (.getfield 7, 3) := dk_180 0 7 (dk_at dksX13_hideAll_0 9 rfl rfl)
theorem dX13_hideAll_12 : decode cX13_hideAll 12 = .ok (.bipush 83, 2) := dk_16 83 (dk_at dksX13_hideAll_0 12 rfl rfl)
theorem dX13_hideAll_14 : decode cX13_hideAll 14 = .ok (.iload_n 1, 1) := dk_27 (dk_at dksX13_hideAll_0 14 rfl rfl)
theorem dX13_hideAll_15 : decode cX13_hideAll 15 = .ok (.iadd, 1) := dk_96 (dk_at dksX13_hideAll_0 15 rfl rfl)
theorem dX13_hideAll_16 : decode cX13_hideAll 16 = .ok (.iconst 0, 1) := dk_3 (dk_at dksX13_hideAll_0 16 rfl rfl)
theorem dX13_hideAll_17 : decode cX13_hideAll 17 = .ok (.iastore, 1) := dk_79 (dk_at dksX13_hideAll_0 17 rfl rfl)
theorem dX13_hideAll_18 : decode cX13_hideAll 18 = .ok (.iinc 1 1, 3) := dk_132 1 1 (dk_at dksX13_hideAll_0 18 rfl rfl)
theorem dX13_hideAll_21 : decode cX13_hideAll 21 = .ok (.goto (-19), 3) := dk_167 255 237 (dk_at dksX13_hideAll_0 21 rfl rfl)
theorem dX13_hideAll_24 : decode cX13_hideAll 24 = .ok (.return_, 1) := dk_177 (dk_at dksX13_hideAll_1 0 rfl rfl)
abbrev cX13_reset : ByteArray := prog_28_method_48_code
def yX13_reset : MethodName := ⟨RX13, "reset", "()V"⟩
def dkwX13_reset_1 : List UInt8 := [182, 0, 61, 162, 0, 12, 42, 180, 0, 22, 27, 46, 167, 0, 4, 3, 79, 132, 1, 1, 167, 255, 220, 177]
abbrev dktX13_reset_1 : List UInt8 := dkwX13_reset_1 ++ []
def dkwX13_reset_0 : List UInt8 := [42, 182, 0, 139, 3, 60, 27, 16, 25, 162, 0, 36, 42, 180, 0, 7, 16, 93, 27, 96, 27, 42]
abbrev dktX13_reset_0 : List UInt8 := dkwX13_reset_0 ++ dktX13_reset_1
theorem dksX13_reset_0 : cX13_reset.data.toList.drop 0 = dktX13_reset_0 := by decide +kernel
theorem dksX13_reset_1 : cX13_reset.data.toList.drop 22 = dktX13_reset_1 := dk_seg dksX13_reset_0 22 rfl rfl
theorem dX13_reset_0 : decode cX13_reset 0 = .ok (.aload_n 0, 1) := dk_42 (dk_at dksX13_reset_0 0 rfl rfl)
theorem dX13_reset_1 : decode cX13_reset 1 = .ok (.invokevirtual 139, 3) := dk_182 0 139 (dk_at dksX13_reset_0 1 rfl rfl)
theorem dX13_reset_4 : decode cX13_reset 4 = .ok (.iconst 0, 1) := dk_3 (dk_at dksX13_reset_0 4 rfl rfl)
theorem dX13_reset_5 : decode cX13_reset 5 = .ok (.istore_n 1, 1) := dk_60 (dk_at dksX13_reset_0 5 rfl rfl)
theorem dX13_reset_6 : decode cX13_reset 6 = .ok (.iload_n 1, 1) := dk_27 (dk_at dksX13_reset_0 6 rfl rfl)
theorem dX13_reset_7 : decode cX13_reset 7 = .ok (.bipush 25, 2) := dk_16 25 (dk_at dksX13_reset_0 7 rfl rfl)
theorem dX13_reset_9 : decode cX13_reset 9 = .ok (.if_icmp .ge 36, 3) := dk_162 0 36 (dk_at dksX13_reset_0 9 rfl rfl)
theorem dX13_reset_12 : decode cX13_reset 12 = .ok (.aload_n 0, 1) := dk_42 (dk_at dksX13_reset_0 12 rfl rfl)
theorem dX13_reset_13 : decode cX13_reset 13 = .ok (.getfield 7, 3) := dk_180 0 7 (dk_at dksX13_reset_0 13 rfl rfl)
theorem dX13_reset_16 : decode cX13_reset 16 = .ok (.bipush 93, 2) := dk_16 93 (dk_at dksX13_reset_0 16 rfl rfl)
theorem dX13_reset_18 : decode cX13_reset 18 = .ok (.iload_n 1, 1) := dk_27 (dk_at dksX13_reset_0 18 rfl rfl)
theorem dX13_reset_19 : decode cX13_reset 19 = .ok (.iadd, 1) := dk_96 (dk_at dksX13_reset_0 19 rfl rfl)
theorem dX13_reset_20 : decode cX13_reset 20 = .ok (.iload_n 1, 1) := dk_27 (dk_at dksX13_reset_0 20 rfl rfl)
theorem dX13_reset_21 : decode cX13_reset 21 = .ok (.aload_n 0, 1) := dk_42 (dk_at dksX13_reset_0 21 rfl rfl)
theorem dX13_reset_22 : decode cX13_reset 22 = .ok (.invokevirtual 61, 3) := dk_182 0 61 (dk_at dksX13_reset_1 0 rfl rfl)
theorem dX13_reset_25 : decode cX13_reset 25 = .ok (.if_icmp .ge 12, 3) := dk_162 0 12 (dk_at dksX13_reset_1 3 rfl rfl)
theorem dX13_reset_28 : decode cX13_reset 28 = .ok (.aload_n 0, 1) := dk_42 (dk_at dksX13_reset_1 6 rfl rfl)
theorem dX13_reset_29 : decode cX13_reset 29 = .ok (.getfield 22, 3) := dk_180 0 22 (dk_at dksX13_reset_1 7 rfl rfl)
theorem dX13_reset_32 : decode cX13_reset 32 = .ok (.iload_n 1, 1) := dk_27 (dk_at dksX13_reset_1 10 rfl rfl)
theorem dX13_reset_33 : decode cX13_reset 33 = .ok (.iaload, 1) := dk_46 (dk_at dksX13_reset_1 11 rfl rfl)
theorem dX13_reset_34 : decode cX13_reset 34 = .ok (.goto 4, 3) := dk_167 0 4 (dk_at dksX13_reset_1 12 rfl rfl)
theorem dX13_reset_37 : decode cX13_reset 37 = .ok (.iconst 0, 1) := dk_3 (dk_at dksX13_reset_1 15 rfl rfl)
theorem dX13_reset_38 : decode cX13_reset 38 = .ok (.iastore, 1) := dk_79 (dk_at dksX13_reset_1 16 rfl rfl)
theorem dX13_reset_39 : decode cX13_reset 39 = .ok (.iinc 1 1, 3) := dk_132 1 1 (dk_at dksX13_reset_1 17 rfl rfl)
theorem dX13_reset_42 : decode cX13_reset 42 = .ok (.goto (-36), 3) := dk_167 255 220 (dk_at dksX13_reset_1 20 rfl rfl)
theorem dX13_reset_45 : decode cX13_reset 45 = .ok (.return_, 1) := dk_177 (dk_at dksX13_reset_1 23 rfl rfl)
abbrev cX13_layFirst : ByteArray := prog_28_method_46_code
def yX13_layFirst : MethodName := ⟨RX13, "layFirst", "()V"⟩
def dkwX13_layFirst_2 : List UInt8 := [100, 79, 132, 1, 1, 167, 255, 205, 177]
abbrev dktX13_layFirst_2 : List UInt8 := dkwX13_layFirst_2 ++ []
def dkwX13_layFirst_1 : List UInt8 := [4, 160, 0, 13, 4, 42, 27, 182, 0, 99, 120, 167, 0, 14, 4, 42, 27, 182, 0, 121, 4, 96, 120, 5]
abbrev dktX13_layFirst_1 : List UInt8 := dkwX13_layFirst_1 ++ dktX13_layFirst_2
def dkwX13_layFirst_0 : List UInt8 := [3, 60, 27, 42, 182, 0, 61, 162, 0, 49, 42, 180, 0, 22, 27, 42, 180, 0, 7, 16, 58, 27, 96, 46]
abbrev dktX13_layFirst_0 : List UInt8 := dkwX13_layFirst_0 ++ dktX13_layFirst_1
theorem dksX13_layFirst_0 : cX13_layFirst.data.toList.drop 0 = dktX13_layFirst_0 := by decide +kernel
theorem dksX13_layFirst_1 : cX13_layFirst.data.toList.drop 24 = dktX13_layFirst_1 := dk_seg dksX13_layFirst_0 24 rfl rfl
theorem dksX13_layFirst_2 : cX13_layFirst.data.toList.drop 48 = dktX13_layFirst_2 := dk_seg dksX13_layFirst_1 24 rfl rfl
theorem dX13_layFirst_0 : decode cX13_layFirst 0 = .ok (.iconst 0, 1) := dk_3 (dk_at dksX13_layFirst_0 0 rfl rfl)
theorem dX13_layFirst_1 : decode cX13_layFirst 1 = .ok (.istore_n 1, 1) := dk_60 (dk_at dksX13_layFirst_0 1 rfl rfl)
theorem dX13_layFirst_2 : decode cX13_layFirst 2 = .ok (.iload_n 1, 1) := dk_27 (dk_at dksX13_layFirst_0 2 rfl rfl)
theorem dX13_layFirst_3 : decode cX13_layFirst 3 = .ok (.aload_n 0, 1) := dk_42 (dk_at dksX13_layFirst_0 3 rfl rfl)
theorem dX13_layFirst_4 : decode cX13_layFirst 4 = .ok (.invokevirtual 61, 3) := dk_182 0 61 (dk_at dksX13_layFirst_0 4 rfl rfl)
theorem dX13_layFirst_7 : decode cX13_layFirst 7 = .ok (.if_icmp .ge 49, 3) := dk_162 0 49 (dk_at dksX13_layFirst_0 7 rfl rfl)
theorem dX13_layFirst_10 : decode cX13_layFirst 10 = .ok (.aload_n 0, 1) := dk_42 (dk_at dksX13_layFirst_0 10 rfl rfl)
theorem dX13_layFirst_11 : decode cX13_layFirst 11 = .ok (.getfield 22, 3) := dk_180 0 22 (dk_at dksX13_layFirst_0 11 rfl rfl)
theorem dX13_layFirst_14 : decode cX13_layFirst 14 = .ok (.iload_n 1, 1) := dk_27 (dk_at dksX13_layFirst_0 14 rfl rfl)
theorem dX13_layFirst_15 : decode cX13_layFirst 15 = .ok (.aload_n 0, 1) := dk_42 (dk_at dksX13_layFirst_0 15 rfl rfl)
theorem dX13_layFirst_16 : decode cX13_layFirst 16 = .ok (.getfield 7, 3) := dk_180 0 7 (dk_at dksX13_layFirst_0 16 rfl rfl)
theorem dX13_layFirst_19 : decode cX13_layFirst 19 = .ok (.bipush 58, 2) := dk_16 58 (dk_at dksX13_layFirst_0 19 rfl rfl)
theorem dX13_layFirst_21 : decode cX13_layFirst 21 = .ok (.iload_n 1, 1) := dk_27 (dk_at dksX13_layFirst_0 21 rfl rfl)
theorem dX13_layFirst_22 : decode cX13_layFirst 22 = .ok (.iadd, 1) := dk_96 (dk_at dksX13_layFirst_0 22 rfl rfl)
theorem dX13_layFirst_23 : decode cX13_layFirst 23 = .ok (.iaload, 1) := dk_46 (dk_at dksX13_layFirst_0 23 rfl rfl)
theorem dX13_layFirst_24 : decode cX13_layFirst 24 = .ok (.iconst 1, 1) := dk_4 (dk_at dksX13_layFirst_1 0 rfl rfl)
theorem dX13_layFirst_25 : decode cX13_layFirst 25 = .ok (.if_icmp .ne 13, 3) := dk_160 0 13 (dk_at dksX13_layFirst_1 1 rfl rfl)
theorem dX13_layFirst_28 : decode cX13_layFirst 28 = .ok (.iconst 1, 1) := dk_4 (dk_at dksX13_layFirst_1 4 rfl rfl)
theorem dX13_layFirst_29 : decode cX13_layFirst 29 = .ok (.aload_n 0, 1) := dk_42 (dk_at dksX13_layFirst_1 5 rfl rfl)
theorem dX13_layFirst_30 : decode cX13_layFirst 30 = .ok (.iload_n 1, 1) := dk_27 (dk_at dksX13_layFirst_1 6 rfl rfl)
theorem dX13_layFirst_31 : decode cX13_layFirst 31 = .ok (.invokevirtual 99, 3) := dk_182 0 99 (dk_at dksX13_layFirst_1 7 rfl rfl)
theorem dX13_layFirst_34 : decode cX13_layFirst 34 = .ok (.ishl, 1) := dk_120 (dk_at dksX13_layFirst_1 10 rfl rfl)
theorem dX13_layFirst_35 : decode cX13_layFirst 35 = .ok (.goto 14, 3) := dk_167 0 14 (dk_at dksX13_layFirst_1 11 rfl rfl)
theorem dX13_layFirst_38 : decode cX13_layFirst 38 = .ok (.iconst 1, 1) := dk_4 (dk_at dksX13_layFirst_1 14 rfl rfl)
theorem dX13_layFirst_39 : decode cX13_layFirst 39 = .ok (.aload_n 0, 1) := dk_42 (dk_at dksX13_layFirst_1 15 rfl rfl)
theorem dX13_layFirst_40 : decode cX13_layFirst 40 = .ok (.iload_n 1, 1) := dk_27 (dk_at dksX13_layFirst_1 16 rfl rfl)
theorem dX13_layFirst_41 : decode cX13_layFirst 41 = .ok (.invokevirtual 121, 3) := dk_182 0 121 (dk_at dksX13_layFirst_1 17 rfl rfl)
theorem dX13_layFirst_44 : decode cX13_layFirst 44 = .ok (.iconst 1, 1) := dk_4 (dk_at dksX13_layFirst_1 20 rfl rfl)
theorem dX13_layFirst_45 : decode cX13_layFirst 45 = .ok (.iadd, 1) := dk_96 (dk_at dksX13_layFirst_1 21 rfl rfl)
theorem dX13_layFirst_46 : decode cX13_layFirst 46 = .ok (.ishl, 1) := dk_120 (dk_at dksX13_layFirst_1 22 rfl rfl)
theorem dX13_layFirst_47 : decode cX13_layFirst 47 = .ok (.iconst 2, 1) := dk_5 (dk_at dksX13_layFirst_1 23 rfl rfl)
theorem dX13_layFirst_48 : decode cX13_layFirst 48 = .ok (.isub, 1) := dk_100 (dk_at dksX13_layFirst_2 0 rfl rfl)
theorem dX13_layFirst_49 : decode cX13_layFirst 49 = .ok (.iastore, 1) := dk_79 (dk_at dksX13_layFirst_2 1 rfl rfl)
theorem dX13_layFirst_50 : decode cX13_layFirst 50 = .ok (.iinc 1 1, 3) := dk_132 1 1 (dk_at dksX13_layFirst_2 2 rfl rfl)
theorem dX13_layFirst_53 : decode cX13_layFirst 53 = .ok (.goto (-51), 3) := dk_167 255 205 (dk_at dksX13_layFirst_2 5 rfl rfl)
theorem dX13_layFirst_56 : decode cX13_layFirst 56 = .ok (.return_, 1) := dk_177 (dk_at dksX13_layFirst_2 8 rfl rfl)
abbrev cX13_cells : ByteArray := prog_28_method_11_code
def yX13_cells : MethodName := ⟨RX13, "cells", "()I"⟩
def dkwX13_cells_0 : List UInt8 := [42, 180, 0, 7, 3, 46, 42, 180, 0, 7, 4, 46, 104, 172]
abbrev dktX13_cells_0 : List UInt8 := dkwX13_cells_0 ++ []
theorem dksX13_cells_0 : cX13_cells.data.toList.drop 0 = dktX13_cells_0 := by decide +kernel
theorem dX13_cells_0 : decode cX13_cells 0 = .ok (.aload_n 0, 1) := dk_42 (dk_at dksX13_cells_0 0 rfl rfl)
theorem dX13_cells_1 : decode cX13_cells 1 = .ok (.getfield 7, 3) := dk_180 0 7 (dk_at dksX13_cells_0 1 rfl rfl)
theorem dX13_cells_4 : decode cX13_cells 4 = .ok (.iconst 0, 1) := dk_3 (dk_at dksX13_cells_0 4 rfl rfl)
theorem dX13_cells_5 : decode cX13_cells 5 = .ok (.iaload, 1) := dk_46 (dk_at dksX13_cells_0 5 rfl rfl)
theorem dX13_cells_6 : decode cX13_cells 6 = .ok (.aload_n 0, 1) := dk_42 (dk_at dksX13_cells_0 6 rfl rfl)
theorem dX13_cells_7 : decode cX13_cells 7 = .ok (.getfield 7, 3) := dk_180 0 7 (dk_at dksX13_cells_0 7 rfl rfl)
theorem dX13_cells_10 : decode cX13_cells 10 = .ok (.iconst 1, 1) := dk_4 (dk_at dksX13_cells_0 10 rfl rfl)
theorem dX13_cells_11 : decode cX13_cells 11 = .ok (.iaload, 1) := dk_46 (dk_at dksX13_cells_0 11 rfl rfl)
theorem dX13_cells_12 : decode cX13_cells 12 = .ok (.imul, 1) := dk_104 (dk_at dksX13_cells_0 12 rfl rfl)
theorem dX13_cells_13 : decode cX13_cells 13 = .ok (.ireturn, 1) := dk_172 (dk_at dksX13_cells_0 13 rfl rfl)
abbrev cX13_numberOf : ByteArray := prog_28_method_16_code
def yX13_numberOf : MethodName := ⟨RX13, "numberOf", "(I)I"⟩
def dkwX13_numberOf_0 : List UInt8 := [42, 180, 0, 7, 16, 33, 27, 96, 46, 172]
abbrev dktX13_numberOf_0 : List UInt8 := dkwX13_numberOf_0 ++ []
theorem dksX13_numberOf_0 : cX13_numberOf.data.toList.drop 0 = dktX13_numberOf_0 := by decide +kernel
theorem dX13_numberOf_0 : decode cX13_numberOf 0 = .ok (.aload_n 0, 1) := dk_42 (dk_at dksX13_numberOf_0 0 rfl rfl)
theorem dX13_numberOf_1 : decode cX13_numberOf 1 = .ok (.getfield 7, 3) := dk_180 0 7 (dk_at dksX13_numberOf_0 1 rfl rfl)
theorem dX13_numberOf_4 : decode cX13_numberOf 4 = .ok (.bipush 33, 2) := dk_16 33 (dk_at dksX13_numberOf_0 4 rfl rfl)
theorem dX13_numberOf_6 : decode cX13_numberOf 6 = .ok (.iload_n 1, 1) := dk_27 (dk_at dksX13_numberOf_0 6 rfl rfl)
theorem dX13_numberOf_7 : decode cX13_numberOf 7 = .ok (.iadd, 1) := dk_96 (dk_at dksX13_numberOf_0 7 rfl rfl)
theorem dX13_numberOf_8 : decode cX13_numberOf 8 = .ok (.iaload, 1) := dk_46 (dk_at dksX13_numberOf_0 8 rfl rfl)
theorem dX13_numberOf_9 : decode cX13_numberOf 9 = .ok (.ireturn, 1) := dk_172 (dk_at dksX13_numberOf_0 9 rfl rfl)
abbrev cX13_mostIn : ByteArray := prog_28_method_19_code
def yX13_mostIn : MethodName := ⟨RX13, "mostIn", "(I)I"⟩
def dkwX13_mostIn_0 : List UInt8 := [42, 42, 27, 182, 0, 72, 182, 0, 76, 172]
abbrev dktX13_mostIn_0 : List UInt8 := dkwX13_mostIn_0 ++ []
theorem dksX13_mostIn_0 : cX13_mostIn.data.toList.drop 0 = dktX13_mostIn_0 := by decide +kernel
theorem dX13_mostIn_0 : decode cX13_mostIn 0 = .ok (.aload_n 0, 1) := dk_42 (dk_at dksX13_mostIn_0 0 rfl rfl)
theorem dX13_mostIn_1 : decode cX13_mostIn 1 = .ok (.aload_n 0, 1) := dk_42 (dk_at dksX13_mostIn_0 1 rfl rfl)
theorem dX13_mostIn_2 : decode cX13_mostIn 2 = .ok (.iload_n 1, 1) := dk_27 (dk_at dksX13_mostIn_0 2 rfl rfl)
theorem dX13_mostIn_3 : decode cX13_mostIn 3 = .ok (.invokevirtual 72, 3) := dk_182 0 72 (dk_at dksX13_mostIn_0 3 rfl rfl)
theorem dX13_mostIn_6 : decode cX13_mostIn 6 = .ok (.invokevirtual 76, 3) := dk_182 0 76 (dk_at dksX13_mostIn_0 6 rfl rfl)
theorem dX13_mostIn_9 : decode cX13_mostIn 9 = .ok (.ireturn, 1) := dk_172 (dk_at dksX13_mostIn_0 9 rfl rfl)
abbrev cX13_blockOf : ByteArray := prog_28_method_15_code
def yX13_blockOf : MethodName := ⟨RX13, "blockOf", "(I)I"⟩
def dkwX13_blockOf_0 : List UInt8 := [42, 180, 0, 7, 16, 8, 27, 96, 46, 172]
abbrev dktX13_blockOf_0 : List UInt8 := dkwX13_blockOf_0 ++ []
theorem dksX13_blockOf_0 : cX13_blockOf.data.toList.drop 0 = dktX13_blockOf_0 := by decide +kernel
theorem dX13_blockOf_0 : decode cX13_blockOf 0 = .ok (.aload_n 0, 1) := dk_42 (dk_at dksX13_blockOf_0 0 rfl rfl)
theorem dX13_blockOf_1 : decode cX13_blockOf 1 = .ok (.getfield 7, 3) := dk_180 0 7 (dk_at dksX13_blockOf_0 1 rfl rfl)
theorem dX13_blockOf_4 : decode cX13_blockOf 4 = .ok (.bipush 8, 2) := dk_16 8 (dk_at dksX13_blockOf_0 4 rfl rfl)
theorem dX13_blockOf_6 : decode cX13_blockOf 6 = .ok (.iload_n 1, 1) := dk_27 (dk_at dksX13_blockOf_0 6 rfl rfl)
theorem dX13_blockOf_7 : decode cX13_blockOf 7 = .ok (.iadd, 1) := dk_96 (dk_at dksX13_blockOf_0 7 rfl rfl)
theorem dX13_blockOf_8 : decode cX13_blockOf 8 = .ok (.iaload, 1) := dk_46 (dk_at dksX13_blockOf_0 8 rfl rfl)
theorem dX13_blockOf_9 : decode cX13_blockOf 9 = .ok (.ireturn, 1) := dk_172 (dk_at dksX13_blockOf_0 9 rfl rfl)
abbrev cX13_blockSize : ByteArray := prog_28_method_18_code
def yX13_blockSize : MethodName := ⟨RX13, "blockSize", "(I)I"⟩
def dkwX13_blockSize_1 : List UInt8 := [167, 0, 4, 3, 96, 61, 132, 3, 1, 167, 255, 228, 28, 172]
abbrev dktX13_blockSize_1 : List UInt8 := dkwX13_blockSize_1 ++ []
def dkwX13_blockSize_0 : List UInt8 := [3, 61, 3, 62, 29, 42, 182, 0, 61, 162, 0, 26, 28, 42, 29, 182, 0, 72, 27, 160, 0, 7, 4]
abbrev dktX13_blockSize_0 : List UInt8 := dkwX13_blockSize_0 ++ dktX13_blockSize_1
theorem dksX13_blockSize_0 : cX13_blockSize.data.toList.drop 0 = dktX13_blockSize_0 := by decide +kernel
theorem dksX13_blockSize_1 : cX13_blockSize.data.toList.drop 23 = dktX13_blockSize_1 := dk_seg dksX13_blockSize_0 23 rfl rfl
theorem dX13_blockSize_0 : decode cX13_blockSize 0 = .ok (.iconst 0, 1) := dk_3 (dk_at dksX13_blockSize_0 0 rfl rfl)
theorem dX13_blockSize_1 : decode cX13_blockSize 1 = .ok (.istore_n 2, 1) := dk_61 (dk_at dksX13_blockSize_0 1 rfl rfl)
theorem dX13_blockSize_2 : decode cX13_blockSize 2 = .ok (.iconst 0, 1) := dk_3 (dk_at dksX13_blockSize_0 2 rfl rfl)
theorem dX13_blockSize_3 : decode cX13_blockSize 3 = .ok (.istore_n 3, 1) := dk_62 (dk_at dksX13_blockSize_0 3 rfl rfl)
theorem dX13_blockSize_4 : decode cX13_blockSize 4 = .ok (.iload_n 3, 1) := dk_29 (dk_at dksX13_blockSize_0 4 rfl rfl)
theorem dX13_blockSize_5 : decode cX13_blockSize 5 = .ok (.aload_n 0, 1) := dk_42 (dk_at dksX13_blockSize_0 5 rfl rfl)
theorem dX13_blockSize_6 : decode cX13_blockSize 6 = .ok (.invokevirtual 61, 3) := dk_182 0 61 (dk_at dksX13_blockSize_0 6 rfl rfl)
theorem dX13_blockSize_9 : decode cX13_blockSize 9 = .ok (.if_icmp .ge 26, 3) := dk_162 0 26 (dk_at dksX13_blockSize_0 9 rfl rfl)
theorem dX13_blockSize_12 : decode cX13_blockSize 12 = .ok (.iload_n 2, 1) := dk_28 (dk_at dksX13_blockSize_0 12 rfl rfl)
theorem dX13_blockSize_13 : decode cX13_blockSize 13 = .ok (.aload_n 0, 1) := dk_42 (dk_at dksX13_blockSize_0 13 rfl rfl)
theorem dX13_blockSize_14 : decode cX13_blockSize 14 = .ok (.iload_n 3, 1) := dk_29 (dk_at dksX13_blockSize_0 14 rfl rfl)
theorem dX13_blockSize_15 : decode cX13_blockSize 15 = .ok (.invokevirtual 72, 3) := dk_182 0 72 (dk_at dksX13_blockSize_0 15 rfl rfl)
theorem dX13_blockSize_18 : decode cX13_blockSize 18 = .ok (.iload_n 1, 1) := dk_27 (dk_at dksX13_blockSize_0 18 rfl rfl)
theorem dX13_blockSize_19 : decode cX13_blockSize 19 = .ok (.if_icmp .ne 7, 3) := dk_160 0 7 (dk_at dksX13_blockSize_0 19 rfl rfl)
theorem dX13_blockSize_22 : decode cX13_blockSize 22 = .ok (.iconst 1, 1) := dk_4 (dk_at dksX13_blockSize_0 22 rfl rfl)
theorem dX13_blockSize_23 : decode cX13_blockSize 23 = .ok (.goto 4, 3) := dk_167 0 4 (dk_at dksX13_blockSize_1 0 rfl rfl)
theorem dX13_blockSize_26 : decode cX13_blockSize 26 = .ok (.iconst 0, 1) := dk_3 (dk_at dksX13_blockSize_1 3 rfl rfl)
theorem dX13_blockSize_27 : decode cX13_blockSize 27 = .ok (.iadd, 1) := dk_96 (dk_at dksX13_blockSize_1 4 rfl rfl)
theorem dX13_blockSize_28 : decode cX13_blockSize 28 = .ok (.istore_n 2, 1) := dk_61 (dk_at dksX13_blockSize_1 5 rfl rfl)
theorem dX13_blockSize_29 : decode cX13_blockSize 29 = .ok (.iinc 3 1, 3) := dk_132 3 1 (dk_at dksX13_blockSize_1 6 rfl rfl)
theorem dX13_blockSize_32 : decode cX13_blockSize 32 = .ok (.goto (-28), 3) := dk_167 255 228 (dk_at dksX13_blockSize_1 9 rfl rfl)
theorem dX13_blockSize_35 : decode cX13_blockSize 35 = .ok (.iload_n 2, 1) := dk_28 (dk_at dksX13_blockSize_1 12 rfl rfl)
theorem dX13_blockSize_36 : decode cX13_blockSize 36 = .ok (.ireturn, 1) := dk_172 (dk_at dksX13_blockSize_1 13 rfl rfl)
abbrev cX13_setPage : ByteArray := prog_28_method_33_code
def yX13_setPage : MethodName := ⟨RX13, "setPage", "(II)I"⟩
def dkwX13_setPage_1 : List UInt8 := [172, 42, 182, 0, 102, 42, 27, 28, 182, 0, 47, 42, 182, 0, 51, 42, 182, 0, 105, 172]
abbrev dktX13_setPage_1 : List UInt8 := dkwX13_setPage_1 ++ []
def dkwX13_setPage_0 : List UInt8 := [42, 3, 181, 0, 43, 27, 5, 8, 184, 0, 65, 153, 0, 12, 28, 5, 8, 184, 0, 65, 154, 0, 5, 2]
abbrev dktX13_setPage_0 : List UInt8 := dkwX13_setPage_0 ++ dktX13_setPage_1
theorem dksX13_setPage_0 : cX13_setPage.data.toList.drop 0 = dktX13_setPage_0 := by decide +kernel
theorem dksX13_setPage_1 : cX13_setPage.data.toList.drop 24 = dktX13_setPage_1 := dk_seg dksX13_setPage_0 24 rfl rfl
theorem dX13_setPage_0 : decode cX13_setPage 0 = .ok (.aload_n 0, 1) := dk_42 (dk_at dksX13_setPage_0 0 rfl rfl)
theorem dX13_setPage_1 : decode cX13_setPage 1 = .ok (.iconst 0, 1) := dk_3 (dk_at dksX13_setPage_0 1 rfl rfl)
theorem dX13_setPage_2 : decode cX13_setPage 2 = .ok (.putfield 43, 3) := dk_181 0 43 (dk_at dksX13_setPage_0 2 rfl rfl)
theorem dX13_setPage_5 : decode cX13_setPage 5 = .ok (.iload_n 1, 1) := dk_27 (dk_at dksX13_setPage_0 5 rfl rfl)
theorem dX13_setPage_6 : decode cX13_setPage 6 = .ok (.iconst 2, 1) := dk_5 (dk_at dksX13_setPage_0 6 rfl rfl)
theorem dX13_setPage_7 : decode cX13_setPage 7 = .ok (.iconst 5, 1) := dk_8 (dk_at dksX13_setPage_0 7 rfl rfl)
theorem dX13_setPage_8 : decode cX13_setPage 8 = .ok (.invokestatic 65, 3) := dk_184 0 65 (dk_at dksX13_setPage_0 8 rfl rfl)
theorem dX13_setPage_11 : decode cX13_setPage 11 = .ok (.ifCond .eq 12, 3) := dk_153 0 12 (dk_at dksX13_setPage_0 11 rfl rfl)
theorem dX13_setPage_14 : decode cX13_setPage 14 = .ok (.iload_n 2, 1) := dk_28 (dk_at dksX13_setPage_0 14 rfl rfl)
theorem dX13_setPage_15 : decode cX13_setPage 15 = .ok (.iconst 2, 1) := dk_5 (dk_at dksX13_setPage_0 15 rfl rfl)
theorem dX13_setPage_16 : decode cX13_setPage 16 = .ok (.iconst 5, 1) := dk_8 (dk_at dksX13_setPage_0 16 rfl rfl)
theorem dX13_setPage_17 : decode cX13_setPage 17 = .ok (.invokestatic 65, 3) := dk_184 0 65 (dk_at dksX13_setPage_0 17 rfl rfl)
theorem dX13_setPage_20 : decode cX13_setPage 20 = .ok (.ifCond .ne 5, 3) := dk_154 0 5 (dk_at dksX13_setPage_0 20 rfl rfl)
theorem dX13_setPage_23 : decode cX13_setPage 23 = .ok (.iconst (-1), 1) := dk_2 (dk_at dksX13_setPage_0 23 rfl rfl)
theorem dX13_setPage_24 : decode cX13_setPage 24 = .ok (.ireturn, 1) := dk_172 (dk_at dksX13_setPage_1 0 rfl rfl)
theorem dX13_setPage_25 : decode cX13_setPage 25 = .ok (.aload_n 0, 1) := dk_42 (dk_at dksX13_setPage_1 1 rfl rfl)
theorem dX13_setPage_26 : decode cX13_setPage 26 = .ok (.invokevirtual 102, 3) := dk_182 0 102 (dk_at dksX13_setPage_1 2 rfl rfl)
theorem dX13_setPage_29 : decode cX13_setPage 29 = .ok (.aload_n 0, 1) := dk_42 (dk_at dksX13_setPage_1 5 rfl rfl)
theorem dX13_setPage_30 : decode cX13_setPage 30 = .ok (.iload_n 1, 1) := dk_27 (dk_at dksX13_setPage_1 6 rfl rfl)
theorem dX13_setPage_31 : decode cX13_setPage 31 = .ok (.iload_n 2, 1) := dk_28 (dk_at dksX13_setPage_1 7 rfl rfl)
theorem dX13_setPage_32 : decode cX13_setPage 32 = .ok (.invokevirtual 47, 3) := dk_182 0 47 (dk_at dksX13_setPage_1 8 rfl rfl)
theorem dX13_setPage_35 : decode cX13_setPage 35 = .ok (.aload_n 0, 1) := dk_42 (dk_at dksX13_setPage_1 11 rfl rfl)
theorem dX13_setPage_36 : decode cX13_setPage 36 = .ok (.invokevirtual 51, 3) := dk_182 0 51 (dk_at dksX13_setPage_1 12 rfl rfl)
theorem dX13_setPage_39 : decode cX13_setPage 39 = .ok (.aload_n 0, 1) := dk_42 (dk_at dksX13_setPage_1 15 rfl rfl)
theorem dX13_setPage_40 : decode cX13_setPage 40 = .ok (.invokevirtual 105, 3) := dk_182 0 105 (dk_at dksX13_setPage_1 16 rfl rfl)
theorem dX13_setPage_43 : decode cX13_setPage 43 = .ok (.ireturn, 1) := dk_172 (dk_at dksX13_setPage_1 19 rfl rfl)
abbrev cX13_in : ByteArray := prog_28_method_3_code
def yX13_in : MethodName := ⟨RX13, "in", "(III)Z"⟩
def dkwX13_in_0 : List UInt8 := [26, 27, 161, 0, 12, 26, 28, 163, 0, 7, 4, 167, 0, 4, 3, 172]
abbrev dktX13_in_0 : List UInt8 := dkwX13_in_0 ++ []
theorem dksX13_in_0 : cX13_in.data.toList.drop 0 = dktX13_in_0 := by decide +kernel
theorem dX13_in_0 : decode cX13_in 0 = .ok (.iload_n 0, 1) := dk_26 (dk_at dksX13_in_0 0 rfl rfl)
theorem dX13_in_1 : decode cX13_in 1 = .ok (.iload_n 1, 1) := dk_27 (dk_at dksX13_in_0 1 rfl rfl)
theorem dX13_in_2 : decode cX13_in 2 = .ok (.if_icmp .lt 12, 3) := dk_161 0 12 (dk_at dksX13_in_0 2 rfl rfl)
theorem dX13_in_5 : decode cX13_in 5 = .ok (.iload_n 0, 1) := dk_26 (dk_at dksX13_in_0 5 rfl rfl)
theorem dX13_in_6 : decode cX13_in 6 = .ok (.iload_n 2, 1) := dk_28 (dk_at dksX13_in_0 6 rfl rfl)
theorem dX13_in_7 : decode cX13_in 7 = .ok (.if_icmp .gt 7, 3) := dk_163 0 7 (dk_at dksX13_in_0 7 rfl rfl)
theorem dX13_in_10 : decode cX13_in 10 = .ok (.iconst 1, 1) := dk_4 (dk_at dksX13_in_0 10 rfl rfl)
theorem dX13_in_11 : decode cX13_in 11 = .ok (.goto 4, 3) := dk_167 0 4 (dk_at dksX13_in_0 11 rfl rfl)
theorem dX13_in_14 : decode cX13_in 14 = .ok (.iconst 0, 1) := dk_3 (dk_at dksX13_in_0 14 rfl rfl)
theorem dX13_in_15 : decode cX13_in 15 = .ok (.ireturn, 1) := dk_172 (dk_at dksX13_in_0 15 rfl rfl)
abbrev cX13_act : ByteArray := prog_28_method_10_code
def yX13_act : MethodName := ⟨RX13, "act", "()V"⟩
def dkwX13_act_4 : List UInt8 := [181, 0, 58, 177]
abbrev dktX13_act_4 : List UInt8 := dkwX13_act_4 ++ []
def dkwX13_act_3 : List UInt8 := [27, 96, 42, 180, 0, 7, 27, 46, 79, 132, 1, 1, 167, 255, 225, 42, 89, 180, 0, 58, 4, 96]
abbrev dktX13_act_3 : List UInt8 := dkwX13_act_3 ++ dktX13_act_4
def dkwX13_act_2 : List UInt8 := [181, 0, 58, 3, 60, 27, 17, 1, 100, 162, 0, 30, 42, 180, 0, 16, 17, 1, 100, 42, 180, 0, 58, 104]
abbrev dktX13_act_2 : List UInt8 := dkwX13_act_2 ++ dktX13_act_3
def dkwX13_act_1 : List UInt8 := [180, 0, 16, 27, 17, 1, 100, 96, 46, 79, 132, 1, 1, 167, 255, 230, 42, 89, 180, 0, 58, 4, 100]
abbrev dktX13_act_1 : List UInt8 := dkwX13_act_1 ++ dktX13_act_2
def dkwX13_act_0 : List UInt8 := [42, 180, 0, 58, 8, 160, 0, 44, 3, 60, 27, 17, 5, 144, 162, 0, 25, 42, 180, 0, 16, 27, 42]
abbrev dktX13_act_0 : List UInt8 := dkwX13_act_0 ++ dktX13_act_1
theorem dksX13_act_0 : cX13_act.data.toList.drop 0 = dktX13_act_0 := by decide +kernel
theorem dksX13_act_1 : cX13_act.data.toList.drop 23 = dktX13_act_1 := dk_seg dksX13_act_0 23 rfl rfl
theorem dksX13_act_2 : cX13_act.data.toList.drop 46 = dktX13_act_2 := dk_seg dksX13_act_1 23 rfl rfl
theorem dksX13_act_3 : cX13_act.data.toList.drop 70 = dktX13_act_3 := dk_seg dksX13_act_2 24 rfl rfl
theorem dksX13_act_4 : cX13_act.data.toList.drop 92 = dktX13_act_4 := dk_seg dksX13_act_3 22 rfl rfl
theorem dX13_act_0 : decode cX13_act 0 = .ok (.aload_n 0, 1) := dk_42 (dk_at dksX13_act_0 0 rfl rfl)
theorem dX13_act_1 : decode cX13_act 1 = .ok (.getfield 58, 3) := dk_180 0 58 (dk_at dksX13_act_0 1 rfl rfl)
theorem dX13_act_4 : decode cX13_act 4 = .ok (.iconst 5, 1) := dk_8 (dk_at dksX13_act_0 4 rfl rfl)
theorem dX13_act_5 : decode cX13_act 5 = .ok (.if_icmp .ne 44, 3) := dk_160 0 44 (dk_at dksX13_act_0 5 rfl rfl)
theorem dX13_act_8 : decode cX13_act 8 = .ok (.iconst 0, 1) := dk_3 (dk_at dksX13_act_0 8 rfl rfl)
theorem dX13_act_9 : decode cX13_act 9 = .ok (.istore_n 1, 1) := dk_60 (dk_at dksX13_act_0 9 rfl rfl)
theorem dX13_act_10 : decode cX13_act 10 = .ok (.iload_n 1, 1) := dk_27 (dk_at dksX13_act_0 10 rfl rfl)
theorem dX13_act_11 : decode cX13_act 11 = .ok (.sipush 1424, 3) := dk_17 5 144 (dk_at dksX13_act_0 11 rfl rfl)
theorem dX13_act_14 : decode cX13_act 14 = .ok (.if_icmp .ge 25, 3) := dk_162 0 25 (dk_at dksX13_act_0 14 rfl rfl)
theorem dX13_act_17 : decode cX13_act 17 = .ok (.aload_n 0, 1) := dk_42 (dk_at dksX13_act_0 17 rfl rfl)
theorem dX13_act_18 : decode cX13_act 18 = .ok (.getfield 16, 3) := dk_180 0 16 (dk_at dksX13_act_0 18 rfl rfl)
theorem dX13_act_21 : decode cX13_act 21 = .ok (.iload_n 1, 1) := dk_27 (dk_at dksX13_act_0 21 rfl rfl)
theorem dX13_act_22 : decode cX13_act 22 = .ok (.aload_n 0, 1) := dk_42 (dk_at dksX13_act_0 22 rfl rfl)
theorem dX13_act_23 : decode cX13_act 23 = .ok (.getfield 16, 3) := dk_180 0 16 (dk_at dksX13_act_1 0 rfl rfl)
theorem dX13_act_26 : decode cX13_act 26 = .ok (.iload_n 1, 1) := dk_27 (dk_at dksX13_act_1 3 rfl rfl)
theorem dX13_act_27 : decode cX13_act 27 = .ok (.sipush 356, 3) := dk_17 1 100 (dk_at dksX13_act_1 4 rfl rfl)
theorem dX13_act_30 : decode cX13_act 30 = .ok (.iadd, 1) := dk_96 (dk_at dksX13_act_1 7 rfl rfl)
theorem dX13_act_31 : decode cX13_act 31 = .ok (.iaload, 1) := dk_46 (dk_at dksX13_act_1 8 rfl rfl)
theorem dX13_act_32 : decode cX13_act 32 = .ok (.iastore, 1) := dk_79 (dk_at dksX13_act_1 9 rfl rfl)
theorem dX13_act_33 : decode cX13_act 33 = .ok (.iinc 1 1, 3) := dk_132 1 1 (dk_at dksX13_act_1 10 rfl rfl)
theorem dX13_act_36 : decode cX13_act 36 = .ok (.goto (-26), 3) := dk_167 255 230 (dk_at dksX13_act_1 13 rfl rfl)
theorem dX13_act_39 : decode cX13_act 39 = .ok (.aload_n 0, 1) := dk_42 (dk_at dksX13_act_1 16 rfl rfl)
theorem dX13_act_40 : decode cX13_act 40 = .ok (.dup, 1) := dk_89 (dk_at dksX13_act_1 17 rfl rfl)
theorem dX13_act_41 : decode cX13_act 41 = .ok (.getfield 58, 3) := dk_180 0 58 (dk_at dksX13_act_1 18 rfl rfl)
theorem dX13_act_44 : decode cX13_act 44 = .ok (.iconst 1, 1) := dk_4 (dk_at dksX13_act_1 21 rfl rfl)
theorem dX13_act_45 : decode cX13_act 45 = .ok (.isub, 1) := dk_100 (dk_at dksX13_act_1 22 rfl rfl)
theorem dX13_act_46 : decode cX13_act 46 = .ok (.putfield 58, 3) := dk_181 0 58 (dk_at dksX13_act_2 0 rfl rfl)
theorem dX13_act_49 : decode cX13_act 49 = .ok (.iconst 0, 1) := dk_3 (dk_at dksX13_act_2 3 rfl rfl)
theorem dX13_act_50 : decode cX13_act 50 = .ok (.istore_n 1, 1) := dk_60 (dk_at dksX13_act_2 4 rfl rfl)
theorem dX13_act_51 : decode cX13_act 51 = .ok (.iload_n 1, 1) := dk_27 (dk_at dksX13_act_2 5 rfl rfl)
theorem dX13_act_52 : decode cX13_act 52 = .ok (.sipush 356, 3) := dk_17 1 100 (dk_at dksX13_act_2 6 rfl rfl)
theorem dX13_act_55 : decode cX13_act 55 = .ok (.if_icmp .ge 30, 3) := dk_162 0 30 (dk_at dksX13_act_2 9 rfl rfl)
theorem dX13_act_58 : decode cX13_act 58 = .ok (.aload_n 0, 1) := dk_42 (dk_at dksX13_act_2 12 rfl rfl)
theorem dX13_act_59 : decode cX13_act 59 = .ok (.getfield 16, 3) := dk_180 0 16 (dk_at dksX13_act_2 13 rfl rfl)
theorem dX13_act_62 : decode cX13_act 62 = .ok (.sipush 356, 3) := dk_17 1 100 (dk_at dksX13_act_2 16 rfl rfl)
theorem dX13_act_65 : decode cX13_act 65 = .ok (.aload_n 0, 1) := dk_42 (dk_at dksX13_act_2 19 rfl rfl)
theorem dX13_act_66 : decode cX13_act 66 = .ok (.getfield 58, 3) := dk_180 0 58 (dk_at dksX13_act_2 20 rfl rfl)
theorem dX13_act_69 : decode cX13_act 69 = .ok (.imul, 1) := dk_104 (dk_at dksX13_act_2 23 rfl rfl)
theorem dX13_act_70 : decode cX13_act 70 = .ok (.iload_n 1, 1) := dk_27 (dk_at dksX13_act_3 0 rfl rfl)
theorem dX13_act_71 : decode cX13_act 71 = .ok (.iadd, 1) := dk_96 (dk_at dksX13_act_3 1 rfl rfl)
theorem dX13_act_72 : decode cX13_act 72 = .ok (.aload_n 0, 1) := dk_42 (dk_at dksX13_act_3 2 rfl rfl)
theorem dX13_act_73 : decode cX13_act 73 = .ok (.getfield 7, 3) := dk_180 0 7 (dk_at dksX13_act_3 3 rfl rfl)
theorem dX13_act_76 : decode cX13_act 76 = .ok (.iload_n 1, 1) := dk_27 (dk_at dksX13_act_3 6 rfl rfl)
theorem dX13_act_77 : decode cX13_act 77 = .ok (.iaload, 1) := dk_46 (dk_at dksX13_act_3 7 rfl rfl)
theorem dX13_act_78 : decode cX13_act 78 = .ok (.iastore, 1) := dk_79 (dk_at dksX13_act_3 8 rfl rfl)
theorem dX13_act_79 : decode cX13_act 79 = .ok (.iinc 1 1, 3) := dk_132 1 1 (dk_at dksX13_act_3 9 rfl rfl)
theorem dX13_act_82 : decode cX13_act 82 = .ok (.goto (-31), 3) := dk_167 255 225 (dk_at dksX13_act_3 12 rfl rfl)
theorem dX13_act_85 : decode cX13_act 85 = .ok (.aload_n 0, 1) := dk_42 (dk_at dksX13_act_3 15 rfl rfl)
theorem dX13_act_86 : decode cX13_act 86 = .ok (.dup, 1) := dk_89 (dk_at dksX13_act_3 16 rfl rfl)
theorem dX13_act_87 : decode cX13_act 87 = .ok (.getfield 58, 3) := dk_180 0 58 (dk_at dksX13_act_3 17 rfl rfl)
theorem dX13_act_90 : decode cX13_act 90 = .ok (.iconst 1, 1) := dk_4 (dk_at dksX13_act_3 20 rfl rfl)
theorem dX13_act_91 : decode cX13_act 91 = .ok (.iadd, 1) := dk_96 (dk_at dksX13_act_3 21 rfl rfl)
theorem dX13_act_92 : decode cX13_act 92 = .ok (.putfield 58, 3) := dk_181 0 58 (dk_at dksX13_act_4 0 rfl rfl)
theorem dX13_act_95 : decode cX13_act 95 = .ok (.return_, 1) := dk_177 (dk_at dksX13_act_4 3 rfl rfl)
abbrev cX13_blocks : ByteArray := prog_28_method_21_code
def yX13_blocks : MethodName := ⟨RX13, "blocks", "()I"⟩
def dkwX13_blocks_1 : List UInt8 := [132, 2, 1, 167, 255, 235, 27, 4, 96, 172]
abbrev dktX13_blocks_1 : List UInt8 := dkwX13_blocks_1 ++ []
def dkwX13_blocks_0 : List UInt8 := [3, 60, 3, 61, 28, 42, 182, 0, 61, 162, 0, 19, 27, 42, 28, 182, 0, 72, 184, 0, 79, 60]
abbrev dktX13_blocks_0 : List UInt8 := dkwX13_blocks_0 ++ dktX13_blocks_1
theorem dksX13_blocks_0 : cX13_blocks.data.toList.drop 0 = dktX13_blocks_0 := by decide +kernel
theorem dksX13_blocks_1 : cX13_blocks.data.toList.drop 22 = dktX13_blocks_1 := dk_seg dksX13_blocks_0 22 rfl rfl
theorem dX13_blocks_0 : decode cX13_blocks 0 = .ok (.iconst 0, 1) := dk_3 (dk_at dksX13_blocks_0 0 rfl rfl)
theorem dX13_blocks_1 : decode cX13_blocks 1 = .ok (.istore_n 1, 1) := dk_60 (dk_at dksX13_blocks_0 1 rfl rfl)
theorem dX13_blocks_2 : decode cX13_blocks 2 = .ok (.iconst 0, 1) := dk_3 (dk_at dksX13_blocks_0 2 rfl rfl)
theorem dX13_blocks_3 : decode cX13_blocks 3 = .ok (.istore_n 2, 1) := dk_61 (dk_at dksX13_blocks_0 3 rfl rfl)
theorem dX13_blocks_4 : decode cX13_blocks 4 = .ok (.iload_n 2, 1) := dk_28 (dk_at dksX13_blocks_0 4 rfl rfl)
theorem dX13_blocks_5 : decode cX13_blocks 5 = .ok (.aload_n 0, 1) := dk_42 (dk_at dksX13_blocks_0 5 rfl rfl)
theorem dX13_blocks_6 : decode cX13_blocks 6 = .ok (.invokevirtual 61, 3) := dk_182 0 61 (dk_at dksX13_blocks_0 6 rfl rfl)
theorem dX13_blocks_9 : decode cX13_blocks 9 = .ok (.if_icmp .ge 19, 3) := dk_162 0 19 (dk_at dksX13_blocks_0 9 rfl rfl)
theorem dX13_blocks_12 : decode cX13_blocks 12 = .ok (.iload_n 1, 1) := dk_27 (dk_at dksX13_blocks_0 12 rfl rfl)
theorem dX13_blocks_13 : decode cX13_blocks 13 = .ok (.aload_n 0, 1) := dk_42 (dk_at dksX13_blocks_0 13 rfl rfl)
theorem dX13_blocks_14 : decode cX13_blocks 14 = .ok (.iload_n 2, 1) := dk_28 (dk_at dksX13_blocks_0 14 rfl rfl)
theorem dX13_blocks_15 : decode cX13_blocks 15 = .ok (.invokevirtual 72, 3) := dk_182 0 72 (dk_at dksX13_blocks_0 15 rfl rfl)
theorem dX13_blocks_18 : decode cX13_blocks 18 = .ok (.invokestatic 79, 3) := dk_184 0 79 (dk_at dksX13_blocks_0 18 rfl rfl)
theorem dX13_blocks_21 : decode cX13_blocks 21 = .ok (.istore_n 1, 1) := dk_60 (dk_at dksX13_blocks_0 21 rfl rfl)
theorem dX13_blocks_22 : decode cX13_blocks 22 = .ok (.iinc 2 1, 3) := dk_132 2 1 (dk_at dksX13_blocks_1 0 rfl rfl)
theorem dX13_blocks_25 : decode cX13_blocks 25 = .ok (.goto (-21), 3) := dk_167 255 235 (dk_at dksX13_blocks_1 3 rfl rfl)
theorem dX13_blocks_28 : decode cX13_blocks 28 = .ok (.iload_n 1, 1) := dk_27 (dk_at dksX13_blocks_1 6 rfl rfl)
theorem dX13_blocks_29 : decode cX13_blocks 29 = .ok (.iconst 1, 1) := dk_4 (dk_at dksX13_blocks_1 7 rfl rfl)
theorem dX13_blocks_30 : decode cX13_blocks 30 = .ok (.iadd, 1) := dk_96 (dk_at dksX13_blocks_1 8 rfl rfl)
theorem dX13_blocks_31 : decode cX13_blocks 31 = .ok (.ireturn, 1) := dk_172 (dk_at dksX13_blocks_1 9 rfl rfl)
abbrev cX13_more : ByteArray := prog_28_method_5_code
def yX13_more : MethodName := ⟨RX13, "more", "(II)I"⟩
def dkwX13_more_0 : List UInt8 := [26, 27, 164, 0, 7, 26, 167, 0, 4, 27, 172]
abbrev dktX13_more_0 : List UInt8 := dkwX13_more_0 ++ []
theorem dksX13_more_0 : cX13_more.data.toList.drop 0 = dktX13_more_0 := by decide +kernel
theorem dX13_more_0 : decode cX13_more 0 = .ok (.iload_n 0, 1) := dk_26 (dk_at dksX13_more_0 0 rfl rfl)
theorem dX13_more_1 : decode cX13_more 1 = .ok (.iload_n 1, 1) := dk_27 (dk_at dksX13_more_0 1 rfl rfl)
theorem dX13_more_2 : decode cX13_more 2 = .ok (.if_icmp .le 7, 3) := dk_164 0 7 (dk_at dksX13_more_0 2 rfl rfl)
theorem dX13_more_5 : decode cX13_more 5 = .ok (.iload_n 0, 1) := dk_26 (dk_at dksX13_more_0 5 rfl rfl)
theorem dX13_more_6 : decode cX13_more 6 = .ok (.goto 4, 3) := dk_167 0 4 (dk_at dksX13_more_0 6 rfl rfl)
theorem dX13_more_9 : decode cX13_more 9 = .ok (.iload_n 1, 1) := dk_27 (dk_at dksX13_more_0 9 rfl rfl)
theorem dX13_more_10 : decode cX13_more 10 = .ok (.ireturn, 1) := dk_172 (dk_at dksX13_more_0 10 rfl rfl)
abbrev cX13_moveCell : ByteArray := prog_28_method_34_code
def yX13_moveCell : MethodName := ⟨RX13, "moveCell", "(II)I"⟩
def dkwX13_moveCell_4 : List UInt8 := [180, 0, 7, 16, 8, 27, 96, 21, 4, 79, 42, 182, 0, 118, 54, 5, 42, 182, 0, 51, 21, 5, 172]
abbrev dktX13_moveCell_4 : List UInt8 := dkwX13_moveCell_4 ++ []
def dkwX13_moveCell_3 : List UInt8 := [160, 0, 6, 16, 253, 172, 42, 182, 0, 102, 42, 29, 182, 0, 115, 42, 21, 4, 182, 0, 115, 42]
abbrev dktX13_moveCell_3 : List UInt8 := dkwX13_moveCell_3 ++ dktX13_moveCell_4
def dkwX13_moveCell_2 : List UInt8 := [159, 0, 12, 42, 29, 27, 182, 0, 112, 154, 0, 6, 16, 254, 172, 42, 21, 4, 182, 0, 76, 16, 6]
abbrev dktX13_moveCell_2 : List UInt8 := dkwX13_moveCell_2 ++ dktX13_moveCell_3
def dkwX13_moveCell_1 : List UInt8 := [182, 0, 83, 154, 0, 5, 2, 172, 42, 27, 182, 0, 72, 62, 42, 28, 182, 0, 72, 54, 4, 29, 21, 4]
abbrev dktX13_moveCell_1 : List UInt8 := dkwX13_moveCell_1 ++ dktX13_moveCell_2
def dkwX13_moveCell_0 : List UInt8 := [42, 3, 181, 0, 43, 42, 27, 182, 0, 108, 153, 0, 20, 42, 28, 182, 0, 108, 153, 0, 12, 42, 27, 28]
abbrev dktX13_moveCell_0 : List UInt8 := dkwX13_moveCell_0 ++ dktX13_moveCell_1
theorem dksX13_moveCell_0 : cX13_moveCell.data.toList.drop 0 = dktX13_moveCell_0 := by decide +kernel
theorem dksX13_moveCell_1 : cX13_moveCell.data.toList.drop 24 = dktX13_moveCell_1 := dk_seg dksX13_moveCell_0 24 rfl rfl
theorem dksX13_moveCell_2 : cX13_moveCell.data.toList.drop 48 = dktX13_moveCell_2 := dk_seg dksX13_moveCell_1 24 rfl rfl
theorem dksX13_moveCell_3 : cX13_moveCell.data.toList.drop 71 = dktX13_moveCell_3 := dk_seg dksX13_moveCell_2 23 rfl rfl
theorem dksX13_moveCell_4 : cX13_moveCell.data.toList.drop 93 = dktX13_moveCell_4 := dk_seg dksX13_moveCell_3 22 rfl rfl
theorem dX13_moveCell_0 : decode cX13_moveCell 0 = .ok (.aload_n 0, 1) := dk_42 (dk_at dksX13_moveCell_0 0 rfl rfl)
theorem dX13_moveCell_1 : decode cX13_moveCell 1 = .ok (.iconst 0, 1) := dk_3 (dk_at dksX13_moveCell_0 1 rfl rfl)
theorem dX13_moveCell_2 : decode cX13_moveCell 2 = .ok (.putfield 43, 3) := dk_181 0 43 (dk_at dksX13_moveCell_0 2 rfl rfl)
theorem dX13_moveCell_5 : decode cX13_moveCell 5 = .ok (.aload_n 0, 1) := dk_42 (dk_at dksX13_moveCell_0 5 rfl rfl)
theorem dX13_moveCell_6 : decode cX13_moveCell 6 = .ok (.iload_n 1, 1) := dk_27 (dk_at dksX13_moveCell_0 6 rfl rfl)
theorem dX13_moveCell_7 : decode cX13_moveCell 7 = .ok (.invokevirtual 108, 3) := dk_182 0 108 (dk_at dksX13_moveCell_0 7 rfl rfl)
theorem dX13_moveCell_10 : decode cX13_moveCell 10 = .ok (.ifCond .eq 20, 3) := dk_153 0 20 (dk_at dksX13_moveCell_0 10 rfl rfl)
theorem dX13_moveCell_13 : decode cX13_moveCell 13 = .ok (.aload_n 0, 1) := dk_42 (dk_at dksX13_moveCell_0 13 rfl rfl)
theorem dX13_moveCell_14 : decode cX13_moveCell 14 = .ok (.iload_n 2, 1) := dk_28 (dk_at dksX13_moveCell_0 14 rfl rfl)
theorem dX13_moveCell_15 : decode cX13_moveCell 15 = .ok (.invokevirtual 108, 3) := dk_182 0 108 (dk_at dksX13_moveCell_0 15 rfl rfl)
theorem dX13_moveCell_18 : decode cX13_moveCell 18 = .ok (.ifCond .eq 12, 3) := dk_153 0 12 (dk_at dksX13_moveCell_0 18 rfl rfl)
theorem dX13_moveCell_21 : decode cX13_moveCell 21 = .ok (.aload_n 0, 1) := dk_42 (dk_at dksX13_moveCell_0 21 rfl rfl)
theorem dX13_moveCell_22 : decode cX13_moveCell 22 = .ok (.iload_n 1, 1) := dk_27 (dk_at dksX13_moveCell_0 22 rfl rfl)
theorem dX13_moveCell_23 : decode cX13_moveCell 23 = .ok (.iload_n 2, 1) := dk_28 (dk_at dksX13_moveCell_0 23 rfl rfl)
theorem dX13_moveCell_24 : decode cX13_moveCell 24 = .ok (.invokevirtual 83, 3) := dk_182 0 83 (dk_at dksX13_moveCell_1 0 rfl rfl)
theorem dX13_moveCell_27 : decode cX13_moveCell 27 = .ok (.ifCond .ne 5, 3) := dk_154 0 5 (dk_at dksX13_moveCell_1 3 rfl rfl)
theorem dX13_moveCell_30 : decode cX13_moveCell 30 = .ok (.iconst (-1), 1) := dk_2 (dk_at dksX13_moveCell_1 6 rfl rfl)
theorem dX13_moveCell_31 : decode cX13_moveCell 31 = .ok (.ireturn, 1) := dk_172 (dk_at dksX13_moveCell_1 7 rfl rfl)
theorem dX13_moveCell_32 : decode cX13_moveCell 32 = .ok (.aload_n 0, 1) := dk_42 (dk_at dksX13_moveCell_1 8 rfl rfl)
theorem dX13_moveCell_33 : decode cX13_moveCell 33 = .ok (.iload_n 1, 1) := dk_27 (dk_at dksX13_moveCell_1 9 rfl rfl)
theorem dX13_moveCell_34 : decode cX13_moveCell 34 = .ok (.invokevirtual 72, 3) := dk_182 0 72 (dk_at dksX13_moveCell_1 10 rfl rfl)
theorem dX13_moveCell_37 : decode cX13_moveCell 37 = .ok (.istore_n 3, 1) := dk_62 (dk_at dksX13_moveCell_1 13 rfl rfl)
theorem dX13_moveCell_38 : decode cX13_moveCell 38 = .ok (.aload_n 0, 1) := dk_42 (dk_at dksX13_moveCell_1 14 rfl rfl)
theorem dX13_moveCell_39 : decode cX13_moveCell 39 = .ok (.iload_n 2, 1) := dk_28 (dk_at dksX13_moveCell_1 15 rfl rfl)
theorem dX13_moveCell_40 : decode cX13_moveCell 40 = .ok (.invokevirtual 72, 3) := dk_182 0 72 (dk_at dksX13_moveCell_1 16 rfl rfl)
theorem dX13_moveCell_43 : decode cX13_moveCell 43 = .ok (.istore 4, 2) := dk_54 4 (dk_at dksX13_moveCell_1 19 rfl rfl)
theorem dX13_moveCell_45 : decode cX13_moveCell 45 = .ok (.iload_n 3, 1) := dk_29 (dk_at dksX13_moveCell_1 21 rfl rfl)
theorem dX13_moveCell_46 : decode cX13_moveCell 46 = .ok (.iload 4, 2) := dk_21 4 (dk_at dksX13_moveCell_1 22 rfl rfl)
theorem dX13_moveCell_48 : decode cX13_moveCell 48 = .ok (.if_icmp .eq 12, 3) := dk_159 0 12 (dk_at dksX13_moveCell_2 0 rfl rfl)
theorem dX13_moveCell_51 : decode cX13_moveCell 51 = .ok (.aload_n 0, 1) := dk_42 (dk_at dksX13_moveCell_2 3 rfl rfl)
theorem dX13_moveCell_52 : decode cX13_moveCell 52 = .ok (.iload_n 3, 1) := dk_29 (dk_at dksX13_moveCell_2 4 rfl rfl)
theorem dX13_moveCell_53 : decode cX13_moveCell 53 = .ok (.iload_n 1, 1) := dk_27 (dk_at dksX13_moveCell_2 5 rfl rfl)
theorem dX13_moveCell_54 : decode cX13_moveCell 54 = .ok (.invokevirtual 112, 3) := dk_182 0 112 (dk_at dksX13_moveCell_2 6 rfl rfl)
theorem dX13_moveCell_57 : decode cX13_moveCell 57 = .ok (.ifCond .ne 6, 3) := dk_154 0 6 (dk_at dksX13_moveCell_2 9 rfl rfl)
theorem dX13_moveCell_60 : decode cX13_moveCell 60 = .ok (.bipush (-2), 2) := dk_16 254 (dk_at dksX13_moveCell_2 12 rfl rfl)
theorem dX13_moveCell_62 : decode cX13_moveCell 62 = .ok (.ireturn, 1) := dk_172 (dk_at dksX13_moveCell_2 14 rfl rfl)
theorem dX13_moveCell_63 : decode cX13_moveCell 63 = .ok (.aload_n 0, 1) := dk_42 (dk_at dksX13_moveCell_2 15 rfl rfl)
theorem dX13_moveCell_64 : decode cX13_moveCell 64 = .ok (.iload 4, 2) := dk_21 4 (dk_at dksX13_moveCell_2 16 rfl rfl)
theorem dX13_moveCell_66 : decode cX13_moveCell 66 = .ok (.invokevirtual 76, 3) := dk_182 0 76 (dk_at dksX13_moveCell_2 18 rfl rfl)
theorem dX13_moveCell_69 : decode cX13_moveCell 69 = .ok (.bipush 6, 2) := dk_16 6 (dk_at dksX13_moveCell_2 21 rfl rfl)
theorem dX13_moveCell_71 : decode cX13_moveCell 71 = .ok (.if_icmp .ne 6, 3) := dk_160 0 6 (dk_at dksX13_moveCell_3 0 rfl rfl)
theorem dX13_moveCell_74 : decode cX13_moveCell 74 = .ok (.bipush (-3), 2) := dk_16 253 (dk_at dksX13_moveCell_3 3 rfl rfl)
theorem dX13_moveCell_76 : decode cX13_moveCell 76 = .ok (.ireturn, 1) := dk_172 (dk_at dksX13_moveCell_3 5 rfl rfl)
theorem dX13_moveCell_77 : decode cX13_moveCell 77 = .ok (.aload_n 0, 1) := dk_42 (dk_at dksX13_moveCell_3 6 rfl rfl)
theorem dX13_moveCell_78 : decode cX13_moveCell 78 = .ok (.invokevirtual 102, 3) := dk_182 0 102 (dk_at dksX13_moveCell_3 7 rfl rfl)
theorem dX13_moveCell_81 : decode cX13_moveCell 81 = .ok (.aload_n 0, 1) := dk_42 (dk_at dksX13_moveCell_3 10 rfl rfl)
theorem dX13_moveCell_82 : decode cX13_moveCell 82 = .ok (.iload_n 3, 1) := dk_29 (dk_at dksX13_moveCell_3 11 rfl rfl)
theorem dX13_moveCell_83 : decode cX13_moveCell 83 = .ok (.invokevirtual 115, 3) := dk_182 0 115 (dk_at dksX13_moveCell_3 12 rfl rfl)
theorem dX13_moveCell_86 : decode cX13_moveCell 86 = .ok (.aload_n 0, 1) := dk_42 (dk_at dksX13_moveCell_3 15 rfl rfl)
theorem dX13_moveCell_87 : decode cX13_moveCell 87 = .ok (.iload 4, 2) := dk_21 4 (dk_at dksX13_moveCell_3 16 rfl rfl)
theorem dX13_moveCell_89 : decode cX13_moveCell 89 = .ok (.invokevirtual 115, 3) := dk_182 0 115 (dk_at dksX13_moveCell_3 18 rfl rfl)
theorem dX13_moveCell_92 : decode cX13_moveCell 92 = .ok (.aload_n 0, 1) := dk_42 (dk_at dksX13_moveCell_3 21 rfl rfl)
theorem dX13_moveCell_93 : decode cX13_moveCell 93 = .ok (.getfield 7, 3) := dk_180 0 7 (dk_at dksX13_moveCell_4 0 rfl rfl)
theorem dX13_moveCell_96 : decode cX13_moveCell 96 = .ok (.bipush 8, 2) := dk_16 8 (dk_at dksX13_moveCell_4 3 rfl rfl)
theorem dX13_moveCell_98 : decode cX13_moveCell 98 = .ok (.iload_n 1, 1) := dk_27 (dk_at dksX13_moveCell_4 5 rfl rfl)
theorem dX13_moveCell_99 : decode cX13_moveCell 99 = .ok (.iadd, 1) := dk_96 (dk_at dksX13_moveCell_4 6 rfl rfl)
theorem dX13_moveCell_100 : decode cX13_moveCell 100 = .ok (.iload 4, 2) := dk_21 4 (dk_at dksX13_moveCell_4 7 rfl rfl)
theorem dX13_moveCell_102 : decode cX13_moveCell 102 = .ok (.iastore, 1) := dk_79 (dk_at dksX13_moveCell_4 9 rfl rfl)
theorem dX13_moveCell_103 : decode cX13_moveCell 103 = .ok (.aload_n 0, 1) := dk_42 (dk_at dksX13_moveCell_4 10 rfl rfl)
theorem dX13_moveCell_104 : decode cX13_moveCell 104 = .ok (.invokevirtual 118, 3) := dk_182 0 118 (dk_at dksX13_moveCell_4 11 rfl rfl)
theorem dX13_moveCell_107 : decode cX13_moveCell 107 = .ok (.istore 5, 2) := dk_54 5 (dk_at dksX13_moveCell_4 14 rfl rfl)
theorem dX13_moveCell_109 : decode cX13_moveCell 109 = .ok (.aload_n 0, 1) := dk_42 (dk_at dksX13_moveCell_4 16 rfl rfl)
theorem dX13_moveCell_110 : decode cX13_moveCell 110 = .ok (.invokevirtual 51, 3) := dk_182 0 51 (dk_at dksX13_moveCell_4 17 rfl rfl)
theorem dX13_moveCell_113 : decode cX13_moveCell 113 = .ok (.iload 5, 2) := dk_21 5 (dk_at dksX13_moveCell_4 20 rfl rfl)
theorem dX13_moveCell_115 : decode cX13_moveCell 115 = .ok (.ireturn, 1) := dk_172 (dk_at dksX13_moveCell_4 22 rfl rfl)
abbrev cX13_isCell : ByteArray := prog_28_method_13_code
def yX13_isCell : MethodName := ⟨RX13, "isCell", "(I)Z"⟩
def dkwX13_isCell_0 : List UInt8 := [27, 3, 42, 182, 0, 61, 4, 100, 184, 0, 65, 172]
abbrev dktX13_isCell_0 : List UInt8 := dkwX13_isCell_0 ++ []
theorem dksX13_isCell_0 : cX13_isCell.data.toList.drop 0 = dktX13_isCell_0 := by decide +kernel
theorem dX13_isCell_0 : decode cX13_isCell 0 = .ok (.iload_n 1, 1) := dk_27 (dk_at dksX13_isCell_0 0 rfl rfl)
theorem dX13_isCell_1 : decode cX13_isCell 1 = .ok (.iconst 0, 1) := dk_3 (dk_at dksX13_isCell_0 1 rfl rfl)
theorem dX13_isCell_2 : decode cX13_isCell 2 = .ok (.aload_n 0, 1) := dk_42 (dk_at dksX13_isCell_0 2 rfl rfl)
theorem dX13_isCell_3 : decode cX13_isCell 3 = .ok (.invokevirtual 61, 3) := dk_182 0 61 (dk_at dksX13_isCell_0 3 rfl rfl)
theorem dX13_isCell_6 : decode cX13_isCell 6 = .ok (.iconst 1, 1) := dk_4 (dk_at dksX13_isCell_0 6 rfl rfl)
theorem dX13_isCell_7 : decode cX13_isCell 7 = .ok (.isub, 1) := dk_100 (dk_at dksX13_isCell_0 7 rfl rfl)
theorem dX13_isCell_8 : decode cX13_isCell 8 = .ok (.invokestatic 65, 3) := dk_184 0 65 (dk_at dksX13_isCell_0 8 rfl rfl)
theorem dX13_isCell_11 : decode cX13_isCell 11 = .ok (.ireturn, 1) := dk_172 (dk_at dksX13_isCell_0 11 rfl rfl)
abbrev cX13_areNeighbors : ByteArray := prog_28_method_17_code
def yX13_areNeighbors : MethodName := ⟨RX13, "areNeighbors", "(II)Z"⟩
def dkwX13_areNeighbors_1 : List UInt8 := [54, 5, 21, 4, 21, 4, 104, 21, 5, 21, 5, 104, 96, 4, 160, 0, 7, 4, 167, 0, 4, 3, 172]
abbrev dktX13_areNeighbors_1 : List UInt8 := dkwX13_areNeighbors_1 ++ []
def dkwX13_areNeighbors_0 : List UInt8 := [42, 180, 0, 7, 4, 46, 62, 27, 29, 108, 28, 29, 108, 100, 54, 4, 27, 29, 112, 28, 29, 112, 100]
abbrev dktX13_areNeighbors_0 : List UInt8 := dkwX13_areNeighbors_0 ++ dktX13_areNeighbors_1
theorem dksX13_areNeighbors_0 : cX13_areNeighbors.data.toList.drop 0 = dktX13_areNeighbors_0 := by decide +kernel
theorem dksX13_areNeighbors_1 : cX13_areNeighbors.data.toList.drop 23 = dktX13_areNeighbors_1 := dk_seg dksX13_areNeighbors_0 23 rfl rfl
theorem dX13_areNeighbors_0 : decode cX13_areNeighbors 0 = .ok (.aload_n 0, 1) := dk_42 (dk_at dksX13_areNeighbors_0 0 rfl rfl)
theorem dX13_areNeighbors_1 : decode cX13_areNeighbors 1 = .ok (.getfield 7, 3) := dk_180 0 7 (dk_at dksX13_areNeighbors_0 1 rfl rfl)
theorem dX13_areNeighbors_4 : decode cX13_areNeighbors 4 = .ok (.iconst 1, 1) := dk_4 (dk_at dksX13_areNeighbors_0 4 rfl rfl)
theorem dX13_areNeighbors_5 : decode cX13_areNeighbors 5 = .ok (.iaload, 1) := dk_46 (dk_at dksX13_areNeighbors_0 5 rfl rfl)
theorem dX13_areNeighbors_6 : decode cX13_areNeighbors 6 = .ok (.istore_n 3, 1) := dk_62 (dk_at dksX13_areNeighbors_0 6 rfl rfl)
theorem dX13_areNeighbors_7 : decode cX13_areNeighbors 7 = .ok (.iload_n 1, 1) := dk_27 (dk_at dksX13_areNeighbors_0 7 rfl rfl)
theorem dX13_areNeighbors_8 : decode cX13_areNeighbors 8 = .ok (.iload_n 3, 1) := dk_29 (dk_at dksX13_areNeighbors_0 8 rfl rfl)
theorem dX13_areNeighbors_9 : decode cX13_areNeighbors 9 = .ok (.idiv, 1) := dk_108 (dk_at dksX13_areNeighbors_0 9 rfl rfl)
theorem dX13_areNeighbors_10 : decode cX13_areNeighbors 10 = .ok (.iload_n 2, 1) := dk_28 (dk_at dksX13_areNeighbors_0 10 rfl rfl)
theorem dX13_areNeighbors_11 : decode cX13_areNeighbors 11 = .ok (.iload_n 3, 1) := dk_29 (dk_at dksX13_areNeighbors_0 11 rfl rfl)
theorem dX13_areNeighbors_12 : decode cX13_areNeighbors 12 = .ok (.idiv, 1) := dk_108 (dk_at dksX13_areNeighbors_0 12 rfl rfl)
theorem dX13_areNeighbors_13 : decode cX13_areNeighbors 13 = .ok (.isub, 1) := dk_100 (dk_at dksX13_areNeighbors_0 13 rfl rfl)
theorem dX13_areNeighbors_14 : decode cX13_areNeighbors 14 = .ok (.istore 4, 2) := dk_54 4 (dk_at dksX13_areNeighbors_0 14 rfl rfl)
theorem dX13_areNeighbors_16 : decode cX13_areNeighbors 16 = .ok (.iload_n 1, 1) := dk_27 (dk_at dksX13_areNeighbors_0 16 rfl rfl)
theorem dX13_areNeighbors_17 : decode cX13_areNeighbors 17 = .ok (.iload_n 3, 1) := dk_29 (dk_at dksX13_areNeighbors_0 17 rfl rfl)
theorem dX13_areNeighbors_18 : decode cX13_areNeighbors 18 = .ok (.irem, 1) := dk_112 (dk_at dksX13_areNeighbors_0 18 rfl rfl)
theorem dX13_areNeighbors_19 : decode cX13_areNeighbors 19 = .ok (.iload_n 2, 1) := dk_28 (dk_at dksX13_areNeighbors_0 19 rfl rfl)
theorem dX13_areNeighbors_20 : decode cX13_areNeighbors 20 = .ok (.iload_n 3, 1) := dk_29 (dk_at dksX13_areNeighbors_0 20 rfl rfl)
theorem dX13_areNeighbors_21 : decode cX13_areNeighbors 21 = .ok (.irem, 1) := dk_112 (dk_at dksX13_areNeighbors_0 21 rfl rfl)
theorem dX13_areNeighbors_22 : decode cX13_areNeighbors 22 = .ok (.isub, 1) := dk_100 (dk_at dksX13_areNeighbors_0 22 rfl rfl)
theorem dX13_areNeighbors_23 : decode cX13_areNeighbors 23 = .ok (.istore 5, 2) := dk_54 5 (dk_at dksX13_areNeighbors_1 0 rfl rfl)
theorem dX13_areNeighbors_25 : decode cX13_areNeighbors 25 = .ok (.iload 4, 2) := dk_21 4 (dk_at dksX13_areNeighbors_1 2 rfl rfl)
theorem dX13_areNeighbors_27 : decode cX13_areNeighbors 27 = .ok (.iload 4, 2) := dk_21 4 (dk_at dksX13_areNeighbors_1 4 rfl rfl)
theorem dX13_areNeighbors_29 : decode cX13_areNeighbors 29 = .ok (.imul, 1) := dk_104 (dk_at dksX13_areNeighbors_1 6 rfl rfl)
theorem dX13_areNeighbors_30 : decode cX13_areNeighbors 30 = .ok (.iload 5, 2) := dk_21 5 (dk_at dksX13_areNeighbors_1 7 rfl rfl)
theorem dX13_areNeighbors_32 : decode cX13_areNeighbors 32 = .ok (.iload 5, 2) := dk_21 5 (dk_at dksX13_areNeighbors_1 9 rfl rfl)
theorem dX13_areNeighbors_34 : decode cX13_areNeighbors 34 = .ok (.imul, 1) := dk_104 (dk_at dksX13_areNeighbors_1 11 rfl rfl)
theorem dX13_areNeighbors_35 : decode cX13_areNeighbors 35 = .ok (.iadd, 1) := dk_96 (dk_at dksX13_areNeighbors_1 12 rfl rfl)
theorem dX13_areNeighbors_36 : decode cX13_areNeighbors 36 = .ok (.iconst 1, 1) := dk_4 (dk_at dksX13_areNeighbors_1 13 rfl rfl)
theorem dX13_areNeighbors_37 : decode cX13_areNeighbors 37 = .ok (.if_icmp .ne 7, 3) := dk_160 0 7 (dk_at dksX13_areNeighbors_1 14 rfl rfl)
theorem dX13_areNeighbors_40 : decode cX13_areNeighbors 40 = .ok (.iconst 1, 1) := dk_4 (dk_at dksX13_areNeighbors_1 17 rfl rfl)
theorem dX13_areNeighbors_41 : decode cX13_areNeighbors 41 = .ok (.goto 4, 3) := dk_167 0 4 (dk_at dksX13_areNeighbors_1 18 rfl rfl)
theorem dX13_areNeighbors_44 : decode cX13_areNeighbors 44 = .ok (.iconst 0, 1) := dk_3 (dk_at dksX13_areNeighbors_1 21 rfl rfl)
theorem dX13_areNeighbors_45 : decode cX13_areNeighbors 45 = .ok (.ireturn, 1) := dk_172 (dk_at dksX13_areNeighbors_1 22 rfl rfl)
abbrev cX13_isConnected : ByteArray := prog_28_method_22_code
def yX13_isConnected : MethodName := ⟨RX13, "isConnected", "(II)Z"⟩
def dkwX13_isConnected_10 : List UInt8 := [3, 54, 5, 132, 6, 1, 167, 255, 205, 21, 5, 172]
abbrev dktX13_isConnected_10 : List UInt8 := dkwX13_isConnected_10 ++ []
def dkwX13_isConnected_9 : List UInt8 := [21, 6, 182, 0, 72, 27, 160, 0, 14, 42, 180, 0, 31, 21, 6, 46, 4, 160, 0, 7, 4, 167, 0, 4]
abbrev dktX13_isConnected_9 : List UInt8 := dkwX13_isConnected_9 ++ dktX13_isConnected_10
def dkwX13_isConnected_8 : List UInt8 := [54, 6, 21, 6, 42, 182, 0, 61, 162, 0, 48, 21, 5, 153, 0, 34, 21, 6, 28, 159, 0, 24, 42]
abbrev dktX13_isConnected_8 : List UInt8 := dkwX13_isConnected_8 ++ dktX13_isConnected_9
def dkwX13_isConnected_7 : List UInt8 := [4, 79, 4, 54, 4, 132, 6, 1, 167, 255, 185, 132, 5, 1, 167, 255, 167, 167, 255, 153, 4, 54, 5, 3]
abbrev dktX13_isConnected_7 : List UInt8 := dkwX13_isConnected_7 ++ dktX13_isConnected_8
def dkwX13_isConnected_6 : List UInt8 := [21, 6, 46, 4, 160, 0, 25, 42, 21, 5, 21, 6, 182, 0, 83, 153, 0, 14, 42, 180, 0, 31, 21, 5]
abbrev dktX13_isConnected_6 : List UInt8 := dkwX13_isConnected_6 ++ dktX13_isConnected_7
def dkwX13_isConnected_5 : List UInt8 := [154, 0, 58, 21, 5, 28, 159, 0, 52, 42, 21, 5, 182, 0, 72, 27, 160, 0, 42, 42, 180, 0, 31]
abbrev dktX13_isConnected_5 : List UInt8 := dkwX13_isConnected_5 ++ dktX13_isConnected_6
def dkwX13_isConnected_4 : List UInt8 := [162, 0, 86, 3, 54, 6, 21, 6, 42, 182, 0, 61, 162, 0, 68, 42, 180, 0, 31, 21, 5, 46]
abbrev dktX13_isConnected_4 : List UInt8 := dkwX13_isConnected_4 ++ dktX13_isConnected_5
def dkwX13_isConnected_3 : List UInt8 := [4, 79, 4, 54, 4, 21, 4, 153, 0, 104, 3, 54, 4, 3, 54, 5, 21, 5, 42, 182, 0, 61]
abbrev dktX13_isConnected_3 : List UInt8 := dkwX13_isConnected_3 ++ dktX13_isConnected_4
def dkwX13_isConnected_2 : List UInt8 := [167, 0, 4, 29, 62, 132, 4, 1, 167, 255, 207, 29, 16, 157, 160, 0, 5, 4, 172, 42, 180, 0, 31, 29]
abbrev dktX13_isConnected_2 : List UInt8 := dkwX13_isConnected_2 ++ dktX13_isConnected_3
def dkwX13_isConnected_1 : List UInt8 := [16, 157, 160, 0, 24, 21, 4, 28, 159, 0, 18, 42, 21, 4, 182, 0, 72, 27, 160, 0, 8, 21, 4]
abbrev dktX13_isConnected_1 : List UInt8 := dkwX13_isConnected_1 ++ dktX13_isConnected_2
def dkwX13_isConnected_0 : List UInt8 := [16, 157, 62, 3, 54, 4, 21, 4, 42, 182, 0, 61, 162, 0, 46, 42, 180, 0, 31, 21, 4, 3, 79, 29]
abbrev dktX13_isConnected_0 : List UInt8 := dkwX13_isConnected_0 ++ dktX13_isConnected_1
theorem dksX13_isConnected_0 : cX13_isConnected.data.toList.drop 0 = dktX13_isConnected_0 := by decide +kernel
theorem dksX13_isConnected_1 : cX13_isConnected.data.toList.drop 24 = dktX13_isConnected_1 := dk_seg dksX13_isConnected_0 24 rfl rfl
theorem dksX13_isConnected_2 : cX13_isConnected.data.toList.drop 47 = dktX13_isConnected_2 := dk_seg dksX13_isConnected_1 23 rfl rfl
theorem dksX13_isConnected_3 : cX13_isConnected.data.toList.drop 71 = dktX13_isConnected_3 := dk_seg dksX13_isConnected_2 24 rfl rfl
theorem dksX13_isConnected_4 : cX13_isConnected.data.toList.drop 93 = dktX13_isConnected_4 := dk_seg dksX13_isConnected_3 22 rfl rfl
theorem dksX13_isConnected_5 : cX13_isConnected.data.toList.drop 115 = dktX13_isConnected_5 := dk_seg dksX13_isConnected_4 22 rfl rfl
theorem dksX13_isConnected_6 : cX13_isConnected.data.toList.drop 138 = dktX13_isConnected_6 := dk_seg dksX13_isConnected_5 23 rfl rfl
theorem dksX13_isConnected_7 : cX13_isConnected.data.toList.drop 162 = dktX13_isConnected_7 := dk_seg dksX13_isConnected_6 24 rfl rfl
theorem dksX13_isConnected_8 : cX13_isConnected.data.toList.drop 186 = dktX13_isConnected_8 := dk_seg dksX13_isConnected_7 24 rfl rfl
theorem dksX13_isConnected_9 : cX13_isConnected.data.toList.drop 209 = dktX13_isConnected_9 := dk_seg dksX13_isConnected_8 23 rfl rfl
theorem dksX13_isConnected_10 : cX13_isConnected.data.toList.drop 233 = dktX13_isConnected_10 := dk_seg dksX13_isConnected_9 24 rfl rfl
theorem dX13_isConnected_0 : decode cX13_isConnected 0 = .ok (.bipush (-99), 2) := dk_16 157 (dk_at dksX13_isConnected_0 0 rfl rfl)
theorem dX13_isConnected_2 : decode cX13_isConnected 2 = .ok (.istore_n 3, 1) := dk_62 (dk_at dksX13_isConnected_0 2 rfl rfl)
theorem dX13_isConnected_3 : decode cX13_isConnected 3 = .ok (.iconst 0, 1) := dk_3 (dk_at dksX13_isConnected_0 3 rfl rfl)
theorem dX13_isConnected_4 : decode cX13_isConnected 4 = .ok (.istore 4, 2) := dk_54 4 (dk_at dksX13_isConnected_0 4 rfl rfl)
theorem dX13_isConnected_6 : decode cX13_isConnected 6 = .ok (.iload 4, 2) := dk_21 4 (dk_at dksX13_isConnected_0 6 rfl rfl)
theorem dX13_isConnected_8 : decode cX13_isConnected 8 = .ok (.aload_n 0, 1) := dk_42 (dk_at dksX13_isConnected_0 8 rfl rfl)
theorem dX13_isConnected_9 : decode cX13_isConnected 9 = .ok (.invokevirtual 61, 3) := dk_182 0 61 (dk_at dksX13_isConnected_0 9 rfl rfl)
theorem dX13_isConnected_12 : decode cX13_isConnected 12 = .ok (.if_icmp .ge 46, 3) := dk_162 0 46 (dk_at dksX13_isConnected_0 12 rfl rfl)
theorem dX13_isConnected_15 : decode cX13_isConnected 15 = .ok (.aload_n 0, 1) := dk_42 (dk_at dksX13_isConnected_0 15 rfl rfl)
theorem dX13_isConnected_16 : decode cX13_isConnected 16 = .ok (.getfield 31, 3) := dk_180 0 31 (dk_at dksX13_isConnected_0 16 rfl rfl)
theorem dX13_isConnected_19 : decode cX13_isConnected 19 = .ok (.iload 4, 2) := dk_21 4 (dk_at dksX13_isConnected_0 19 rfl rfl)
theorem dX13_isConnected_21 : decode cX13_isConnected 21 = .ok (.iconst 0, 1) := dk_3 (dk_at dksX13_isConnected_0 21 rfl rfl)
theorem dX13_isConnected_22 : decode cX13_isConnected 22 = .ok (.iastore, 1) := dk_79 (dk_at dksX13_isConnected_0 22 rfl rfl)
theorem dX13_isConnected_23 : decode cX13_isConnected 23 = .ok (.iload_n 3, 1) := dk_29 (dk_at dksX13_isConnected_0 23 rfl rfl)
theorem dX13_isConnected_24 : decode cX13_isConnected 24 = .ok (.bipush (-99), 2) := dk_16 157 (dk_at dksX13_isConnected_1 0 rfl rfl)
theorem dX13_isConnected_26 : decode cX13_isConnected 26 = .ok (.if_icmp .ne 24, 3) := dk_160 0 24 (dk_at dksX13_isConnected_1 2 rfl rfl)
theorem dX13_isConnected_29 : decode cX13_isConnected 29 = .ok (.iload 4, 2) := dk_21 4 (dk_at dksX13_isConnected_1 5 rfl rfl)
theorem dX13_isConnected_31 : decode cX13_isConnected 31 = .ok (.iload_n 2, 1) := dk_28 (dk_at dksX13_isConnected_1 7 rfl rfl)
theorem dX13_isConnected_32 : decode cX13_isConnected 32 = .ok (.if_icmp .eq 18, 3) := dk_159 0 18 (dk_at dksX13_isConnected_1 8 rfl rfl)
theorem dX13_isConnected_35 : decode cX13_isConnected 35 = .ok (.aload_n 0, 1) := dk_42 (dk_at dksX13_isConnected_1 11 rfl rfl)
theorem dX13_isConnected_36 : decode cX13_isConnected 36 = .ok (.iload 4, 2) := dk_21 4 (dk_at dksX13_isConnected_1 12 rfl rfl)
theorem dX13_isConnected_38 : decode cX13_isConnected 38 = .ok (.invokevirtual 72, 3) := dk_182 0 72 (dk_at dksX13_isConnected_1 14 rfl rfl)
theorem dX13_isConnected_41 : decode cX13_isConnected 41 = .ok (.iload_n 1, 1) := dk_27 (dk_at dksX13_isConnected_1 17 rfl rfl)
theorem dX13_isConnected_42 : decode cX13_isConnected 42 = .ok (.if_icmp .ne 8, 3) := dk_160 0 8 (dk_at dksX13_isConnected_1 18 rfl rfl)
theorem dX13_isConnected_45 : decode cX13_isConnected 45 = .ok (.iload 4, 2) := dk_21 4 (dk_at dksX13_isConnected_1 21 rfl rfl)
theorem dX13_isConnected_47 : decode cX13_isConnected 47 = .ok (.goto 4, 3) := dk_167 0 4 (dk_at dksX13_isConnected_2 0 rfl rfl)
theorem dX13_isConnected_50 : decode cX13_isConnected 50 = .ok (.iload_n 3, 1) := dk_29 (dk_at dksX13_isConnected_2 3 rfl rfl)
theorem dX13_isConnected_51 : decode cX13_isConnected 51 = .ok (.istore_n 3, 1) := dk_62 (dk_at dksX13_isConnected_2 4 rfl rfl)
theorem dX13_isConnected_52 : decode cX13_isConnected 52 = .ok (.iinc 4 1, 3) := dk_132 4 1 (dk_at dksX13_isConnected_2 5 rfl rfl)
theorem dX13_isConnected_55 : decode cX13_isConnected 55 = .ok (.goto (-49), 3) := dk_167 255 207 (dk_at dksX13_isConnected_2 8 rfl rfl)
theorem dX13_isConnected_58 : decode cX13_isConnected 58 = .ok (.iload_n 3, 1) := dk_29 (dk_at dksX13_isConnected_2 11 rfl rfl)
theorem dX13_isConnected_59 : decode cX13_isConnected 59 = .ok (.bipush (-99), 2) := dk_16 157 (dk_at dksX13_isConnected_2 12 rfl rfl)
theorem dX13_isConnected_61 : decode cX13_isConnected 61 = .ok (.if_icmp .ne 5, 3) := dk_160 0 5 (dk_at dksX13_isConnected_2 14 rfl rfl)
theorem dX13_isConnected_64 : decode cX13_isConnected 64 = .ok (.iconst 1, 1) := dk_4 (dk_at dksX13_isConnected_2 17 rfl rfl)
theorem dX13_isConnected_65 : decode cX13_isConnected 65 = .ok (.ireturn, 1) := dk_172 (dk_at dksX13_isConnected_2 18 rfl rfl)
theorem dX13_isConnected_66 : decode cX13_isConnected 66 = .ok (.aload_n 0, 1) := dk_42 (dk_at dksX13_isConnected_2 19 rfl rfl)
theorem dX13_isConnected_67 : decode cX13_isConnected 67 = .ok (.getfield 31, 3) := dk_180 0 31 (dk_at dksX13_isConnected_2 20 rfl rfl)
theorem dX13_isConnected_70 : decode cX13_isConnected 70 = .ok (.iload_n 3, 1) := dk_29 (dk_at dksX13_isConnected_2 23 rfl rfl)
theorem dX13_isConnected_71 : decode cX13_isConnected 71 = .ok (.iconst 1, 1) := dk_4 (dk_at dksX13_isConnected_3 0 rfl rfl)
theorem dX13_isConnected_72 : decode cX13_isConnected 72 = .ok (.iastore, 1) := dk_79 (dk_at dksX13_isConnected_3 1 rfl rfl)
theorem dX13_isConnected_73 : decode cX13_isConnected 73 = .ok (.iconst 1, 1) := dk_4 (dk_at dksX13_isConnected_3 2 rfl rfl)
theorem dX13_isConnected_74 : decode cX13_isConnected 74 = .ok (.istore 4, 2) := dk_54 4 (dk_at dksX13_isConnected_3 3 rfl rfl)
theorem dX13_isConnected_76 : decode cX13_isConnected 76 = .ok (.iload 4, 2) := dk_21 4 (dk_at dksX13_isConnected_3 5 rfl rfl)
theorem dX13_isConnected_78 : decode cX13_isConnected 78 = .ok (.ifCond .eq 104, 3) := dk_153 0 104 (dk_at dksX13_isConnected_3 7 rfl rfl)
theorem dX13_isConnected_81 : decode cX13_isConnected 81 = .ok (.iconst 0, 1) := dk_3 (dk_at dksX13_isConnected_3 10 rfl rfl)
theorem dX13_isConnected_82 : decode cX13_isConnected 82 = .ok (.istore 4, 2) := dk_54 4 (dk_at dksX13_isConnected_3 11 rfl rfl)
theorem dX13_isConnected_84 : decode cX13_isConnected 84 = .ok (.iconst 0, 1) := dk_3 (dk_at dksX13_isConnected_3 13 rfl rfl)
theorem dX13_isConnected_85 : decode cX13_isConnected 85 = .ok (.istore 5, 2) := dk_54 5 (dk_at dksX13_isConnected_3 14 rfl rfl)
theorem dX13_isConnected_87 : decode cX13_isConnected 87 = .ok (.iload 5, 2) := dk_21 5 (dk_at dksX13_isConnected_3 16 rfl rfl)
theorem dX13_isConnected_89 : decode cX13_isConnected 89 = .ok (.aload_n 0, 1) := dk_42 (dk_at dksX13_isConnected_3 18 rfl rfl)
theorem dX13_isConnected_90 : decode cX13_isConnected 90 = .ok (.invokevirtual 61, 3) := dk_182 0 61 (dk_at dksX13_isConnected_3 19 rfl rfl)
theorem dX13_isConnected_93 : decode cX13_isConnected 93 = .ok (.if_icmp .ge 86, 3) := dk_162 0 86 (dk_at dksX13_isConnected_4 0 rfl rfl)
theorem dX13_isConnected_96 : decode cX13_isConnected 96 = .ok (.iconst 0, 1) := dk_3 (dk_at dksX13_isConnected_4 3 rfl rfl)
theorem dX13_isConnected_97 : decode cX13_isConnected 97 = .ok (.istore 6, 2) := dk_54 6 (dk_at dksX13_isConnected_4 4 rfl rfl)
theorem dX13_isConnected_99 : decode cX13_isConnected 99 = .ok (.iload 6, 2) := dk_21 6 (dk_at dksX13_isConnected_4 6 rfl rfl)
theorem dX13_isConnected_101 : decode cX13_isConnected 101 = .ok (.aload_n 0, 1) := dk_42 (dk_at dksX13_isConnected_4 8 rfl rfl)
theorem dX13_isConnected_102 : decode cX13_isConnected 102 = .ok (.invokevirtual 61, 3) := dk_182 0 61 (dk_at dksX13_isConnected_4 9 rfl rfl)
theorem dX13_isConnected_105 : decode cX13_isConnected 105 = .ok (.if_icmp .ge 68, 3) := dk_162 0 68 (dk_at dksX13_isConnected_4 12 rfl rfl)
theorem dX13_isConnected_108 : decode cX13_isConnected 108 = .ok (.aload_n 0, 1) := dk_42 (dk_at dksX13_isConnected_4 15 rfl rfl)
theorem dX13_isConnected_109 : decode cX13_isConnected 109 = .ok (.getfield 31, 3) := dk_180 0 31 (dk_at dksX13_isConnected_4 16 rfl rfl)
theorem dX13_isConnected_112 : decode cX13_isConnected 112 = .ok (.iload 5, 2) := dk_21 5 (dk_at dksX13_isConnected_4 19 rfl rfl)
theorem dX13_isConnected_114 : decode cX13_isConnected 114 = .ok (.iaload, 1) := dk_46 (dk_at dksX13_isConnected_4 21 rfl rfl)
theorem dX13_isConnected_115 : decode cX13_isConnected 115 = .ok (.ifCond .ne 58, 3) := dk_154 0 58 (dk_at dksX13_isConnected_5 0 rfl rfl)
theorem dX13_isConnected_118 : decode cX13_isConnected 118 = .ok (.iload 5, 2) := dk_21 5 (dk_at dksX13_isConnected_5 3 rfl rfl)
theorem dX13_isConnected_120 : decode cX13_isConnected 120 = .ok (.iload_n 2, 1) := dk_28 (dk_at dksX13_isConnected_5 5 rfl rfl)
theorem dX13_isConnected_121 : decode cX13_isConnected 121 = .ok (.if_icmp .eq 52, 3) := dk_159 0 52 (dk_at dksX13_isConnected_5 6 rfl rfl)
theorem dX13_isConnected_124 : decode cX13_isConnected 124 = .ok (.aload_n 0, 1) := dk_42 (dk_at dksX13_isConnected_5 9 rfl rfl)
theorem dX13_isConnected_125 : decode cX13_isConnected 125 = .ok (.iload 5, 2) := dk_21 5 (dk_at dksX13_isConnected_5 10 rfl rfl)
theorem dX13_isConnected_127 : decode cX13_isConnected 127 = .ok (.invokevirtual 72, 3) := dk_182 0 72 (dk_at dksX13_isConnected_5 12 rfl rfl)
theorem dX13_isConnected_130 : decode cX13_isConnected 130 = .ok (.iload_n 1, 1) := dk_27 (dk_at dksX13_isConnected_5 15 rfl rfl)
theorem dX13_isConnected_131 : decode cX13_isConnected 131 = .ok (.if_icmp .ne 42, 3) := dk_160 0 42 (dk_at dksX13_isConnected_5 16 rfl rfl)
theorem dX13_isConnected_134 : decode cX13_isConnected 134 = .ok (.aload_n 0, 1) := dk_42 (dk_at dksX13_isConnected_5 19 rfl rfl)
theorem dX13_isConnected_135 : decode cX13_isConnected 135 = .ok (.getfield 31, 3) := dk_180 0 31 (dk_at dksX13_isConnected_5 20 rfl rfl)
theorem dX13_isConnected_138 : decode cX13_isConnected 138 = .ok (.iload 6, 2) := dk_21 6 (dk_at dksX13_isConnected_6 0 rfl rfl)
theorem dX13_isConnected_140 : decode cX13_isConnected 140 = .ok (.iaload, 1) := dk_46 (dk_at dksX13_isConnected_6 2 rfl rfl)
theorem dX13_isConnected_141 : decode cX13_isConnected 141 = .ok (.iconst 1, 1) := dk_4 (dk_at dksX13_isConnected_6 3 rfl rfl)
theorem dX13_isConnected_142 : decode cX13_isConnected 142 = .ok (.if_icmp .ne 25, 3) := dk_160 0 25 (dk_at dksX13_isConnected_6 4 rfl rfl)
theorem dX13_isConnected_145 : decode cX13_isConnected 145 = .ok (.aload_n 0, 1) := dk_42 (dk_at dksX13_isConnected_6 7 rfl rfl)
theorem dX13_isConnected_146 : decode cX13_isConnected 146 = .ok (.iload 5, 2) := dk_21 5 (dk_at dksX13_isConnected_6 8 rfl rfl)
theorem dX13_isConnected_148 : decode cX13_isConnected 148 = .ok (.iload 6, 2) := dk_21 6 (dk_at dksX13_isConnected_6 10 rfl rfl)
theorem dX13_isConnected_150 : decode cX13_isConnected 150 = .ok (.invokevirtual 83, 3) := dk_182 0 83 (dk_at dksX13_isConnected_6 12 rfl rfl)
theorem dX13_isConnected_153 : decode cX13_isConnected 153 = .ok (.ifCond .eq 14, 3) := dk_153 0 14 (dk_at dksX13_isConnected_6 15 rfl rfl)
theorem dX13_isConnected_156 : decode cX13_isConnected 156 = .ok (.aload_n 0, 1) := dk_42 (dk_at dksX13_isConnected_6 18 rfl rfl)
theorem dX13_isConnected_157 : decode cX13_isConnected 157 = .ok (.getfield 31, 3) := dk_180 0 31 (dk_at dksX13_isConnected_6 19 rfl rfl)
theorem dX13_isConnected_160 : decode cX13_isConnected 160 = .ok (.iload 5, 2) := dk_21 5 (dk_at dksX13_isConnected_6 22 rfl rfl)
theorem dX13_isConnected_162 : decode cX13_isConnected 162 = .ok (.iconst 1, 1) := dk_4 (dk_at dksX13_isConnected_7 0 rfl rfl)
theorem dX13_isConnected_163 : decode cX13_isConnected 163 = .ok (.iastore, 1) := dk_79 (dk_at dksX13_isConnected_7 1 rfl rfl)
theorem dX13_isConnected_164 : decode cX13_isConnected 164 = .ok (.iconst 1, 1) := dk_4 (dk_at dksX13_isConnected_7 2 rfl rfl)
theorem dX13_isConnected_165 : decode cX13_isConnected 165 = .ok (.istore 4, 2) := dk_54 4 (dk_at dksX13_isConnected_7 3 rfl rfl)
theorem dX13_isConnected_167 : decode cX13_isConnected 167 = .ok (.iinc 6 1, 3) := dk_132 6 1 (dk_at dksX13_isConnected_7 5 rfl rfl)
theorem dX13_isConnected_170 : decode cX13_isConnected 170 = .ok (.goto (-71), 3) := dk_167 255 185 (dk_at dksX13_isConnected_7 8 rfl rfl)
theorem dX13_isConnected_173 : decode cX13_isConnected 173 = .ok (.iinc 5 1, 3) := dk_132 5 1 (dk_at dksX13_isConnected_7 11 rfl rfl)
theorem dX13_isConnected_176 : decode cX13_isConnected 176 = .ok (.goto (-89), 3) := dk_167 255 167 (dk_at dksX13_isConnected_7 14 rfl rfl)
theorem dX13_isConnected_179 : decode cX13_isConnected 179 = .ok (.goto (-103), 3) := dk_167 255 153 (dk_at dksX13_isConnected_7 17 rfl rfl)
theorem dX13_isConnected_182 : decode cX13_isConnected 182 = .ok (.iconst 1, 1) := dk_4 (dk_at dksX13_isConnected_7 20 rfl rfl)
theorem dX13_isConnected_183 : decode cX13_isConnected 183 = .ok (.istore 5, 2) := dk_54 5 (dk_at dksX13_isConnected_7 21 rfl rfl)
theorem dX13_isConnected_185 : decode cX13_isConnected 185 = .ok (.iconst 0, 1) := dk_3 (dk_at dksX13_isConnected_7 23 rfl rfl)
theorem dX13_isConnected_186 : decode cX13_isConnected 186 = .ok (.istore 6, 2) := dk_54 6 (dk_at dksX13_isConnected_8 0 rfl rfl)
theorem dX13_isConnected_188 : decode cX13_isConnected 188 = .ok (.iload 6, 2) := dk_21 6 (dk_at dksX13_isConnected_8 2 rfl rfl)
theorem dX13_isConnected_190 : decode cX13_isConnected 190 = .ok (.aload_n 0, 1) := dk_42 (dk_at dksX13_isConnected_8 4 rfl rfl)
theorem dX13_isConnected_191 : decode cX13_isConnected 191 = .ok (.invokevirtual 61, 3) := dk_182 0 61 (dk_at dksX13_isConnected_8 5 rfl rfl)
theorem dX13_isConnected_194 : decode cX13_isConnected 194 = .ok (.if_icmp .ge 48, 3) := dk_162 0 48 (dk_at dksX13_isConnected_8 8 rfl rfl)
theorem dX13_isConnected_197 : decode cX13_isConnected 197 = .ok (.iload 5, 2) := dk_21 5 (dk_at dksX13_isConnected_8 11 rfl rfl)
theorem dX13_isConnected_199 : decode cX13_isConnected 199 = .ok (.ifCond .eq 34, 3) := dk_153 0 34 (dk_at dksX13_isConnected_8 13 rfl rfl)
theorem dX13_isConnected_202 : decode cX13_isConnected 202 = .ok (.iload 6, 2) := dk_21 6 (dk_at dksX13_isConnected_8 16 rfl rfl)
theorem dX13_isConnected_204 : decode cX13_isConnected 204 = .ok (.iload_n 2, 1) := dk_28 (dk_at dksX13_isConnected_8 18 rfl rfl)
theorem dX13_isConnected_205 : decode cX13_isConnected 205 = .ok (.if_icmp .eq 24, 3) := dk_159 0 24 (dk_at dksX13_isConnected_8 19 rfl rfl)
theorem dX13_isConnected_208 : decode cX13_isConnected 208 = .ok (.aload_n 0, 1) := dk_42 (dk_at dksX13_isConnected_8 22 rfl rfl)
theorem dX13_isConnected_209 : decode cX13_isConnected 209 = .ok (.iload 6, 2) := dk_21 6 (dk_at dksX13_isConnected_9 0 rfl rfl)
theorem dX13_isConnected_211 : decode cX13_isConnected 211 = .ok (.invokevirtual 72, 3) := dk_182 0 72 (dk_at dksX13_isConnected_9 2 rfl rfl)
theorem dX13_isConnected_214 : decode cX13_isConnected 214 = .ok (.iload_n 1, 1) := dk_27 (dk_at dksX13_isConnected_9 5 rfl rfl)
theorem dX13_isConnected_215 : decode cX13_isConnected 215 = .ok (.if_icmp .ne 14, 3) := dk_160 0 14 (dk_at dksX13_isConnected_9 6 rfl rfl)
theorem dX13_isConnected_218 : decode cX13_isConnected 218 = .ok (.aload_n 0, 1) := dk_42 (dk_at dksX13_isConnected_9 9 rfl rfl)
theorem dX13_isConnected_219 : decode cX13_isConnected 219 = .ok (.getfield 31, 3) := dk_180 0 31 (dk_at dksX13_isConnected_9 10 rfl rfl)
theorem dX13_isConnected_222 : decode cX13_isConnected 222 = .ok (.iload 6, 2) := dk_21 6 (dk_at dksX13_isConnected_9 13 rfl rfl)
theorem dX13_isConnected_224 : decode cX13_isConnected 224 = .ok (.iaload, 1) := dk_46 (dk_at dksX13_isConnected_9 15 rfl rfl)
theorem dX13_isConnected_225 : decode cX13_isConnected 225 = .ok (.iconst 1, 1) := dk_4 (dk_at dksX13_isConnected_9 16 rfl rfl)
theorem dX13_isConnected_226 : decode cX13_isConnected 226 = .ok (.if_icmp .ne 7, 3) := dk_160 0 7 (dk_at dksX13_isConnected_9 17 rfl rfl)
theorem dX13_isConnected_229 : decode cX13_isConnected 229 = .ok (.iconst 1, 1) := dk_4 (dk_at dksX13_isConnected_9 20 rfl rfl)
theorem dX13_isConnected_230 : decode cX13_isConnected 230 = .ok (.goto 4, 3) := dk_167 0 4 (dk_at dksX13_isConnected_9 21 rfl rfl)
theorem dX13_isConnected_233 : decode cX13_isConnected 233 = .ok (.iconst 0, 1) := dk_3 (dk_at dksX13_isConnected_10 0 rfl rfl)
theorem dX13_isConnected_234 : decode cX13_isConnected 234 = .ok (.istore 5, 2) := dk_54 5 (dk_at dksX13_isConnected_10 1 rfl rfl)
theorem dX13_isConnected_236 : decode cX13_isConnected 236 = .ok (.iinc 6 1, 3) := dk_132 6 1 (dk_at dksX13_isConnected_10 3 rfl rfl)
theorem dX13_isConnected_239 : decode cX13_isConnected 239 = .ok (.goto (-51), 3) := dk_167 255 205 (dk_at dksX13_isConnected_10 6 rfl rfl)
theorem dX13_isConnected_242 : decode cX13_isConnected 242 = .ok (.iload 5, 2) := dk_21 5 (dk_at dksX13_isConnected_10 9 rfl rfl)
theorem dX13_isConnected_244 : decode cX13_isConnected 244 = .ok (.ireturn, 1) := dk_172 (dk_at dksX13_isConnected_10 11 rfl rfl)
abbrev cX13_emptyBlock : ByteArray := prog_28_method_26_code
def yX13_emptyBlock : MethodName := ⟨RX13, "emptyBlock", "(I)V"⟩
def dkwX13_emptyBlock_1 : List UInt8 := [132, 2, 1, 167, 255, 231, 177]
abbrev dktX13_emptyBlock_1 : List UInt8 := dkwX13_emptyBlock_1 ++ []
def dkwX13_emptyBlock_0 : List UInt8 := [3, 61, 28, 42, 182, 0, 61, 162, 0, 23, 42, 28, 182, 0, 72, 27, 160, 0, 8, 42, 28, 182, 0, 89]
abbrev dktX13_emptyBlock_0 : List UInt8 := dkwX13_emptyBlock_0 ++ dktX13_emptyBlock_1
theorem dksX13_emptyBlock_0 : cX13_emptyBlock.data.toList.drop 0 = dktX13_emptyBlock_0 := by decide +kernel
theorem dksX13_emptyBlock_1 : cX13_emptyBlock.data.toList.drop 24 = dktX13_emptyBlock_1 := dk_seg dksX13_emptyBlock_0 24 rfl rfl
theorem dX13_emptyBlock_0 : decode cX13_emptyBlock 0 = .ok (.iconst 0, 1) := dk_3 (dk_at dksX13_emptyBlock_0 0 rfl rfl)
theorem dX13_emptyBlock_1 : decode cX13_emptyBlock 1 = .ok (.istore_n 2, 1) := dk_61 (dk_at dksX13_emptyBlock_0 1 rfl rfl)
theorem dX13_emptyBlock_2 : decode cX13_emptyBlock 2 = .ok (.iload_n 2, 1) := dk_28 (dk_at dksX13_emptyBlock_0 2 rfl rfl)
theorem dX13_emptyBlock_3 : decode cX13_emptyBlock 3 = .ok (.aload_n 0, 1) := dk_42 (dk_at dksX13_emptyBlock_0 3 rfl rfl)
theorem dX13_emptyBlock_4 : decode cX13_emptyBlock 4 = .ok (.invokevirtual 61, 3) := dk_182 0 61 (dk_at dksX13_emptyBlock_0 4 rfl rfl)
theorem dX13_emptyBlock_7 : decode cX13_emptyBlock 7 = .ok (.if_icmp .ge 23, 3) := dk_162 0 23 (dk_at dksX13_emptyBlock_0 7 rfl rfl)
theorem dX13_emptyBlock_10 : decode cX13_emptyBlock 10 = .ok (.aload_n 0, 1) := dk_42 (dk_at dksX13_emptyBlock_0 10 rfl rfl)
theorem dX13_emptyBlock_11 : decode cX13_emptyBlock 11 = .ok (.iload_n 2, 1) := dk_28 (dk_at dksX13_emptyBlock_0 11 rfl rfl)
theorem dX13_emptyBlock_12 : decode cX13_emptyBlock 12 = .ok (.invokevirtual 72, 3) := dk_182 0 72 (dk_at dksX13_emptyBlock_0 12 rfl rfl)
theorem dX13_emptyBlock_15 : decode cX13_emptyBlock 15 = .ok (.iload_n 1, 1) := dk_27 (dk_at dksX13_emptyBlock_0 15 rfl rfl)
theorem dX13_emptyBlock_16 : decode cX13_emptyBlock 16 = .ok (.if_icmp .ne 8, 3) := dk_160 0 8 (dk_at dksX13_emptyBlock_0 16 rfl rfl)
theorem dX13_emptyBlock_19 : decode cX13_emptyBlock 19 = .ok (.aload_n 0, 1) := dk_42 (dk_at dksX13_emptyBlock_0 19 rfl rfl)
theorem dX13_emptyBlock_20 : decode cX13_emptyBlock 20 = .ok (.iload_n 2, 1) := dk_28 (dk_at dksX13_emptyBlock_0 20 rfl rfl)
theorem dX13_emptyBlock_21 : decode cX13_emptyBlock 21 = .ok (.invokevirtual 89, 3) := dk_182 0 89 (dk_at dksX13_emptyBlock_0 21 rfl rfl)
theorem dX13_emptyBlock_24 : decode cX13_emptyBlock 24 = .ok (.iinc 2 1, 3) := dk_132 2 1 (dk_at dksX13_emptyBlock_1 0 rfl rfl)
theorem dX13_emptyBlock_27 : decode cX13_emptyBlock 27 = .ok (.goto (-25), 3) := dk_167 255 231 (dk_at dksX13_emptyBlock_1 3 rfl rfl)
theorem dX13_emptyBlock_30 : decode cX13_emptyBlock 30 = .ok (.return_, 1) := dk_177 (dk_at dksX13_emptyBlock_1 6 rfl rfl)
abbrev cX13_empty : ByteArray := prog_28_method_25_code
def yX13_empty : MethodName := ⟨RX13, "empty", "(I)V"⟩
def dkwX13_empty_2 : List UInt8 := [46, 96, 27, 42, 180, 0, 7, 4, 46, 112, 96, 3, 79, 177]
abbrev dktX13_empty_2 : List UInt8 := dkwX13_empty_2 ++ []
def dkwX13_empty_1 : List UInt8 := [16, 83, 27, 42, 180, 0, 7, 4, 46, 108, 96, 3, 79, 42, 180, 0, 7, 16, 83, 42, 180, 0, 7, 3]
abbrev dktX13_empty_1 : List UInt8 := dkwX13_empty_1 ++ dktX13_empty_2
def dkwX13_empty_0 : List UInt8 := [42, 180, 0, 7, 16, 33, 27, 96, 3, 79, 42, 180, 0, 7, 16, 58, 27, 96, 3, 79, 42, 180, 0, 7]
abbrev dktX13_empty_0 : List UInt8 := dkwX13_empty_0 ++ dktX13_empty_1
theorem dksX13_empty_0 : cX13_empty.data.toList.drop 0 = dktX13_empty_0 := by decide +kernel
theorem dksX13_empty_1 : cX13_empty.data.toList.drop 24 = dktX13_empty_1 := dk_seg dksX13_empty_0 24 rfl rfl
theorem dksX13_empty_2 : cX13_empty.data.toList.drop 48 = dktX13_empty_2 := dk_seg dksX13_empty_1 24 rfl rfl
theorem dX13_empty_0 : decode cX13_empty 0 = .ok (.aload_n 0, 1) := dk_42 (dk_at dksX13_empty_0 0 rfl rfl)
theorem dX13_empty_1 : decode cX13_empty 1 = .ok (.getfield 7, 3) := dk_180 0 7 (dk_at dksX13_empty_0 1 rfl rfl)
theorem dX13_empty_4 : decode cX13_empty 4 = .ok (.bipush 33, 2) := dk_16 33 (dk_at dksX13_empty_0 4 rfl rfl)
theorem dX13_empty_6 : decode cX13_empty 6 = .ok (.iload_n 1, 1) := dk_27 (dk_at dksX13_empty_0 6 rfl rfl)
theorem dX13_empty_7 : decode cX13_empty 7 = .ok (.iadd, 1) := dk_96 (dk_at dksX13_empty_0 7 rfl rfl)
theorem dX13_empty_8 : decode cX13_empty 8 = .ok (.iconst 0, 1) := dk_3 (dk_at dksX13_empty_0 8 rfl rfl)
theorem dX13_empty_9 : decode cX13_empty 9 = .ok (.iastore, 1) := dk_79 (dk_at dksX13_empty_0 9 rfl rfl)
theorem dX13_empty_10 : decode cX13_empty 10 = .ok (.aload_n 0, 1) := dk_42 (dk_at dksX13_empty_0 10 rfl rfl)
theorem dX13_empty_11 : decode cX13_empty 11 = .ok (.getfield 7, 3) := dk_180 0 7 (dk_at dksX13_empty_0 11 rfl rfl)
theorem dX13_empty_14 : decode cX13_empty 14 = .ok (.bipush 58, 2) := dk_16 58 (dk_at dksX13_empty_0 14 rfl rfl)
theorem dX13_empty_16 : decode cX13_empty 16 = .ok (.iload_n 1, 1) := dk_27 (dk_at dksX13_empty_0 16 rfl rfl)
theorem dX13_empty_17 : decode cX13_empty 17 = .ok (.iadd, 1) := dk_96 (dk_at dksX13_empty_0 17 rfl rfl)
theorem dX13_empty_18 : decode cX13_empty 18 = .ok (.iconst 0, 1) := dk_3 (dk_at dksX13_empty_0 18 rfl rfl)
theorem dX13_empty_19 : decode cX13_empty 19 = .ok (.iastore, 1) := dk_79 (dk_at dksX13_empty_0 19 rfl rfl)
theorem dX13_empty_20 : decode cX13_empty 20 = .ok (.aload_n 0, 1) := dk_42 (dk_at dksX13_empty_0 20 rfl rfl)
theorem dX13_empty_21 : decode cX13_empty 21 = .ok (.getfield 7, 3) := dk_180 0 7 (dk_at dksX13_empty_0 21 rfl rfl)
theorem dX13_empty_24 : decode cX13_empty 24 = .ok (.bipush 83, 2) := dk_16 83 (dk_at dksX13_empty_1 0 rfl rfl)
theorem dX13_empty_26 : decode cX13_empty 26 = .ok (.iload_n 1, 1) := dk_27 (dk_at dksX13_empty_1 2 rfl rfl)
theorem dX13_empty_27 : decode cX13_empty 27 = .ok (.aload_n 0, 1) := dk_42 (dk_at dksX13_empty_1 3 rfl rfl)
theorem dX13_empty_28 : decode cX13_empty 28 = .ok (.getfield 7, 3) := dk_180 0 7 (dk_at dksX13_empty_1 4 rfl rfl)
theorem dX13_empty_31 : decode cX13_empty 31 = .ok (.iconst 1, 1) := dk_4 (dk_at dksX13_empty_1 7 rfl rfl)
theorem dX13_empty_32 : decode cX13_empty 32 = .ok (.iaload, 1) := dk_46 (dk_at dksX13_empty_1 8 rfl rfl)
theorem dX13_empty_33 : decode cX13_empty 33 = .ok (.idiv, 1) := dk_108 (dk_at dksX13_empty_1 9 rfl rfl)
theorem dX13_empty_34 : decode cX13_empty 34 = .ok (.iadd, 1) := dk_96 (dk_at dksX13_empty_1 10 rfl rfl)
theorem dX13_empty_35 : decode cX13_empty 35 = .ok (.iconst 0, 1) := dk_3 (dk_at dksX13_empty_1 11 rfl rfl)
theorem dX13_empty_36 : decode cX13_empty 36 = .ok (.iastore, 1) := dk_79 (dk_at dksX13_empty_1 12 rfl rfl)
theorem dX13_empty_37 : decode cX13_empty 37 = .ok (.aload_n 0, 1) := dk_42 (dk_at dksX13_empty_1 13 rfl rfl)
theorem dX13_empty_38 : decode cX13_empty 38 = .ok (.getfield 7, 3) := dk_180 0 7 (dk_at dksX13_empty_1 14 rfl rfl)
theorem dX13_empty_41 : decode cX13_empty 41 = .ok (.bipush 83, 2) := dk_16 83 (dk_at dksX13_empty_1 17 rfl rfl)
theorem dX13_empty_43 : decode cX13_empty 43 = .ok (.aload_n 0, 1) := dk_42 (dk_at dksX13_empty_1 19 rfl rfl)
theorem dX13_empty_44 : decode cX13_empty 44 = .ok (.getfield 7, 3) := dk_180 0 7 (dk_at dksX13_empty_1 20 rfl rfl)
theorem dX13_empty_47 : decode cX13_empty 47 = .ok (.iconst 0, 1) := dk_3 (dk_at dksX13_empty_1 23 rfl rfl)
theorem dX13_empty_48 : decode cX13_empty 48 = .ok (.iaload, 1) := dk_46 (dk_at dksX13_empty_2 0 rfl rfl)
theorem dX13_empty_49 : decode cX13_empty 49 = .ok (.iadd, 1) := dk_96 (dk_at dksX13_empty_2 1 rfl rfl)
theorem dX13_empty_50 : decode cX13_empty 50 = .ok (.iload_n 1, 1) := dk_27 (dk_at dksX13_empty_2 2 rfl rfl)
theorem dX13_empty_51 : decode cX13_empty 51 = .ok (.aload_n 0, 1) := dk_42 (dk_at dksX13_empty_2 3 rfl rfl)
theorem dX13_empty_52 : decode cX13_empty 52 = .ok (.getfield 7, 3) := dk_180 0 7 (dk_at dksX13_empty_2 4 rfl rfl)
theorem dX13_empty_55 : decode cX13_empty 55 = .ok (.iconst 1, 1) := dk_4 (dk_at dksX13_empty_2 7 rfl rfl)
theorem dX13_empty_56 : decode cX13_empty 56 = .ok (.iaload, 1) := dk_46 (dk_at dksX13_empty_2 8 rfl rfl)
theorem dX13_empty_57 : decode cX13_empty 57 = .ok (.irem, 1) := dk_112 (dk_at dksX13_empty_2 9 rfl rfl)
theorem dX13_empty_58 : decode cX13_empty 58 = .ok (.iadd, 1) := dk_96 (dk_at dksX13_empty_2 10 rfl rfl)
theorem dX13_empty_59 : decode cX13_empty 59 = .ok (.iconst 0, 1) := dk_3 (dk_at dksX13_empty_2 11 rfl rfl)
theorem dX13_empty_60 : decode cX13_empty 60 = .ok (.iastore, 1) := dk_79 (dk_at dksX13_empty_2 12 rfl rfl)
theorem dX13_empty_61 : decode cX13_empty 61 = .ok (.return_, 1) := dk_177 (dk_at dksX13_empty_2 13 rfl rfl)
abbrev cX13_renumber : ByteArray := prog_28_method_20_code
def yX13_renumber : MethodName := ⟨RX13, "renumber", "()I"⟩
def dkwX13_renumber_4 : List UInt8 := [96, 27, 79, 132, 3, 1, 167, 255, 213, 132, 1, 1, 132, 2, 1, 167, 255, 185, 27, 172]
abbrev dktX13_renumber_4 : List UInt8 := dkwX13_renumber_4 ++ []
def dkwX13_renumber_3 : List UInt8 := [46, 42, 180, 0, 28, 28, 46, 160, 0, 20, 42, 180, 0, 31, 29, 4, 79, 42, 180, 0, 7, 16, 8, 29]
abbrev dktX13_renumber_3 : List UInt8 := dkwX13_renumber_3 ++ dktX13_renumber_4
def dkwX13_renumber_2 : List UInt8 := [42, 180, 0, 31, 28, 46, 154, 0, 54, 28, 62, 29, 42, 182, 0, 61, 162, 0, 41, 42, 180, 0, 28, 29]
abbrev dktX13_renumber_2 : List UInt8 := dkwX13_renumber_2 ++ dktX13_renumber_3
def dkwX13_renumber_1 : List UInt8 := [180, 0, 31, 27, 3, 79, 132, 1, 1, 167, 255, 227, 3, 60, 3, 61, 28, 42, 182, 0, 61, 162, 0, 69]
abbrev dktX13_renumber_1 : List UInt8 := dkwX13_renumber_1 ++ dktX13_renumber_2
def dkwX13_renumber_0 : List UInt8 := [3, 60, 27, 42, 182, 0, 61, 162, 0, 27, 42, 180, 0, 28, 27, 42, 27, 182, 0, 72, 79, 42]
abbrev dktX13_renumber_0 : List UInt8 := dkwX13_renumber_0 ++ dktX13_renumber_1
theorem dksX13_renumber_0 : cX13_renumber.data.toList.drop 0 = dktX13_renumber_0 := by decide +kernel
theorem dksX13_renumber_1 : cX13_renumber.data.toList.drop 22 = dktX13_renumber_1 := dk_seg dksX13_renumber_0 22 rfl rfl
theorem dksX13_renumber_2 : cX13_renumber.data.toList.drop 46 = dktX13_renumber_2 := dk_seg dksX13_renumber_1 24 rfl rfl
theorem dksX13_renumber_3 : cX13_renumber.data.toList.drop 70 = dktX13_renumber_3 := dk_seg dksX13_renumber_2 24 rfl rfl
theorem dksX13_renumber_4 : cX13_renumber.data.toList.drop 94 = dktX13_renumber_4 := dk_seg dksX13_renumber_3 24 rfl rfl
theorem dX13_renumber_0 : decode cX13_renumber 0 = .ok (.iconst 0, 1) := dk_3 (dk_at dksX13_renumber_0 0 rfl rfl)
theorem dX13_renumber_1 : decode cX13_renumber 1 = .ok (.istore_n 1, 1) := dk_60 (dk_at dksX13_renumber_0 1 rfl rfl)
theorem dX13_renumber_2 : decode cX13_renumber 2 = .ok (.iload_n 1, 1) := dk_27 (dk_at dksX13_renumber_0 2 rfl rfl)
theorem dX13_renumber_3 : decode cX13_renumber 3 = .ok (.aload_n 0, 1) := dk_42 (dk_at dksX13_renumber_0 3 rfl rfl)
theorem dX13_renumber_4 : decode cX13_renumber 4 = .ok (.invokevirtual 61, 3) := dk_182 0 61 (dk_at dksX13_renumber_0 4 rfl rfl)
theorem dX13_renumber_7 : decode cX13_renumber 7 = .ok (.if_icmp .ge 27, 3) := dk_162 0 27 (dk_at dksX13_renumber_0 7 rfl rfl)
theorem dX13_renumber_10 : decode cX13_renumber 10 = .ok (.aload_n 0, 1) := dk_42 (dk_at dksX13_renumber_0 10 rfl rfl)
theorem dX13_renumber_11 : decode cX13_renumber 11 = .ok (.getfield 28, 3) := dk_180 0 28 (dk_at dksX13_renumber_0 11 rfl rfl)
theorem dX13_renumber_14 : decode cX13_renumber 14 = .ok (.iload_n 1, 1) := dk_27 (dk_at dksX13_renumber_0 14 rfl rfl)
theorem dX13_renumber_15 : decode cX13_renumber 15 = .ok (.aload_n 0, 1) := dk_42 (dk_at dksX13_renumber_0 15 rfl rfl)
theorem dX13_renumber_16 : decode cX13_renumber 16 = .ok (.iload_n 1, 1) := dk_27 (dk_at dksX13_renumber_0 16 rfl rfl)
theorem dX13_renumber_17 : decode cX13_renumber 17 = .ok (.invokevirtual 72, 3) := dk_182 0 72 (dk_at dksX13_renumber_0 17 rfl rfl)
theorem dX13_renumber_20 : decode cX13_renumber 20 = .ok (.iastore, 1) := dk_79 (dk_at dksX13_renumber_0 20 rfl rfl)
theorem dX13_renumber_21 : decode cX13_renumber 21 = .ok (.aload_n 0, 1) := dk_42 (dk_at dksX13_renumber_0 21 rfl rfl)
theorem dX13_renumber_22 : decode cX13_renumber 22 = .ok (.getfield 31, 3) := dk_180 0 31 (dk_at dksX13_renumber_1 0 rfl rfl)
theorem dX13_renumber_25 : decode cX13_renumber 25 = .ok (.iload_n 1, 1) := dk_27 (dk_at dksX13_renumber_1 3 rfl rfl)
theorem dX13_renumber_26 : decode cX13_renumber 26 = .ok (.iconst 0, 1) := dk_3 (dk_at dksX13_renumber_1 4 rfl rfl)
theorem dX13_renumber_27 : decode cX13_renumber 27 = .ok (.iastore, 1) := dk_79 (dk_at dksX13_renumber_1 5 rfl rfl)
theorem dX13_renumber_28 : decode cX13_renumber 28 = .ok (.iinc 1 1, 3) := dk_132 1 1 (dk_at dksX13_renumber_1 6 rfl rfl)
theorem dX13_renumber_31 : decode cX13_renumber 31 = .ok (.goto (-29), 3) := dk_167 255 227 (dk_at dksX13_renumber_1 9 rfl rfl)
theorem dX13_renumber_34 : decode cX13_renumber 34 = .ok (.iconst 0, 1) := dk_3 (dk_at dksX13_renumber_1 12 rfl rfl)
theorem dX13_renumber_35 : decode cX13_renumber 35 = .ok (.istore_n 1, 1) := dk_60 (dk_at dksX13_renumber_1 13 rfl rfl)
theorem dX13_renumber_36 : decode cX13_renumber 36 = .ok (.iconst 0, 1) := dk_3 (dk_at dksX13_renumber_1 14 rfl rfl)
theorem dX13_renumber_37 : decode cX13_renumber 37 = .ok (.istore_n 2, 1) := dk_61 (dk_at dksX13_renumber_1 15 rfl rfl)
theorem dX13_renumber_38 : decode cX13_renumber 38 = .ok (.iload_n 2, 1) := dk_28 (dk_at dksX13_renumber_1 16 rfl rfl)
theorem dX13_renumber_39 : decode cX13_renumber 39 = .ok (.aload_n 0, 1) := dk_42 (dk_at dksX13_renumber_1 17 rfl rfl)
theorem dX13_renumber_40 : decode cX13_renumber 40 = .ok (.invokevirtual 61, 3) := dk_182 0 61 (dk_at dksX13_renumber_1 18 rfl rfl)
theorem dX13_renumber_43 : decode cX13_renumber 43 = .ok (.if_icmp .ge 69, 3) := dk_162 0 69 (dk_at dksX13_renumber_1 21 rfl rfl)
theorem dX13_renumber_46 : decode cX13_renumber 46 = .ok (.aload_n 0, 1) := dk_42 (dk_at dksX13_renumber_2 0 rfl rfl)
theorem dX13_renumber_47 : decode cX13_renumber 47 = .ok (.getfield 31, 3) := dk_180 0 31 (dk_at dksX13_renumber_2 1 rfl rfl)
theorem dX13_renumber_50 : decode cX13_renumber 50 = .ok (.iload_n 2, 1) := dk_28 (dk_at dksX13_renumber_2 4 rfl rfl)
theorem dX13_renumber_51 : decode cX13_renumber 51 = .ok (.iaload, 1) := dk_46 (dk_at dksX13_renumber_2 5 rfl rfl)
theorem dX13_renumber_52 : decode cX13_renumber 52 = .ok (.ifCond .ne 54, 3) := dk_154 0 54 (dk_at dksX13_renumber_2 6 rfl rfl)
theorem dX13_renumber_55 : decode cX13_renumber 55 = .ok (.iload_n 2, 1) := dk_28 (dk_at dksX13_renumber_2 9 rfl rfl)
theorem dX13_renumber_56 : decode cX13_renumber 56 = .ok (.istore_n 3, 1) := dk_62 (dk_at dksX13_renumber_2 10 rfl rfl)
theorem dX13_renumber_57 : decode cX13_renumber 57 = .ok (.iload_n 3, 1) := dk_29 (dk_at dksX13_renumber_2 11 rfl rfl)
theorem dX13_renumber_58 : decode cX13_renumber 58 = .ok (.aload_n 0, 1) := dk_42 (dk_at dksX13_renumber_2 12 rfl rfl)
theorem dX13_renumber_59 : decode cX13_renumber 59 = .ok (.invokevirtual 61, 3) := dk_182 0 61 (dk_at dksX13_renumber_2 13 rfl rfl)
theorem dX13_renumber_62 : decode cX13_renumber 62 = .ok (.if_icmp .ge 41, 3) := dk_162 0 41 (dk_at dksX13_renumber_2 16 rfl rfl)
theorem dX13_renumber_65 : decode cX13_renumber 65 = .ok (.aload_n 0, 1) := dk_42 (dk_at dksX13_renumber_2 19 rfl rfl)
theorem dX13_renumber_66 : decode cX13_renumber 66 = .ok (.getfield 28, 3) := dk_180 0 28 (dk_at dksX13_renumber_2 20 rfl rfl)
theorem dX13_renumber_69 : decode cX13_renumber 69 = .ok (.iload_n 3, 1) := dk_29 (dk_at dksX13_renumber_2 23 rfl rfl)
theorem dX13_renumber_70 : decode cX13_renumber 70 = .ok (.iaload, 1) := dk_46 (dk_at dksX13_renumber_3 0 rfl rfl)
theorem dX13_renumber_71 : decode cX13_renumber 71 = .ok (.aload_n 0, 1) := dk_42 (dk_at dksX13_renumber_3 1 rfl rfl)
theorem dX13_renumber_72 : decode cX13_renumber 72 = .ok (.getfield 28, 3) := dk_180 0 28 (dk_at dksX13_renumber_3 2 rfl rfl)
theorem dX13_renumber_75 : decode cX13_renumber 75 = .ok (.iload_n 2, 1) := dk_28 (dk_at dksX13_renumber_3 5 rfl rfl)
theorem dX13_renumber_76 : decode cX13_renumber 76 = .ok (.iaload, 1) := dk_46 (dk_at dksX13_renumber_3 6 rfl rfl)
theorem dX13_renumber_77 : decode cX13_renumber 77 = .ok (.if_icmp .ne 20, 3) := dk_160 0 20 (dk_at dksX13_renumber_3 7 rfl rfl)
theorem dX13_renumber_80 : decode cX13_renumber 80 = .ok (.aload_n 0, 1) := dk_42 (dk_at dksX13_renumber_3 10 rfl rfl)
theorem dX13_renumber_81 : decode cX13_renumber 81 = .ok (.getfield 31, 3) := dk_180 0 31 (dk_at dksX13_renumber_3 11 rfl rfl)
theorem dX13_renumber_84 : decode cX13_renumber 84 = .ok (.iload_n 3, 1) := dk_29 (dk_at dksX13_renumber_3 14 rfl rfl)
theorem dX13_renumber_85 : decode cX13_renumber 85 = .ok (.iconst 1, 1) := dk_4 (dk_at dksX13_renumber_3 15 rfl rfl)
theorem dX13_renumber_86 : decode cX13_renumber 86 = .ok (.iastore, 1) := dk_79 (dk_at dksX13_renumber_3 16 rfl rfl)
theorem dX13_renumber_87 : decode cX13_renumber 87 = .ok (.aload_n 0, 1) := dk_42 (dk_at dksX13_renumber_3 17 rfl rfl)
theorem dX13_renumber_88 : decode cX13_renumber 88 = .ok (.getfield 7, 3) := dk_180 0 7 (dk_at dksX13_renumber_3 18 rfl rfl)
theorem dX13_renumber_91 : decode cX13_renumber 91 = .ok (.bipush 8, 2) := dk_16 8 (dk_at dksX13_renumber_3 21 rfl rfl)
theorem dX13_renumber_93 : decode cX13_renumber 93 = .ok (.iload_n 3, 1) := dk_29 (dk_at dksX13_renumber_3 23 rfl rfl)
theorem dX13_renumber_94 : decode cX13_renumber 94 = .ok (.iadd, 1) := dk_96 (dk_at dksX13_renumber_4 0 rfl rfl)
theorem dX13_renumber_95 : decode cX13_renumber 95 = .ok (.iload_n 1, 1) := dk_27 (dk_at dksX13_renumber_4 1 rfl rfl)
theorem dX13_renumber_96 : decode cX13_renumber 96 = .ok (.iastore, 1) := dk_79 (dk_at dksX13_renumber_4 2 rfl rfl)
theorem dX13_renumber_97 : decode cX13_renumber 97 = .ok (.iinc 3 1, 3) := dk_132 3 1 (dk_at dksX13_renumber_4 3 rfl rfl)
theorem dX13_renumber_100 : decode cX13_renumber 100 = .ok (.goto (-43), 3) := dk_167 255 213 (dk_at dksX13_renumber_4 6 rfl rfl)
theorem dX13_renumber_103 : decode cX13_renumber 103 = .ok (.iinc 1 1, 3) := dk_132 1 1 (dk_at dksX13_renumber_4 9 rfl rfl)
theorem dX13_renumber_106 : decode cX13_renumber 106 = .ok (.iinc 2 1, 3) := dk_132 2 1 (dk_at dksX13_renumber_4 12 rfl rfl)
theorem dX13_renumber_109 : decode cX13_renumber 109 = .ok (.goto (-71), 3) := dk_167 255 185 (dk_at dksX13_renumber_4 15 rfl rfl)
theorem dX13_renumber_112 : decode cX13_renumber 112 = .ok (.iload_n 1, 1) := dk_27 (dk_at dksX13_renumber_4 18 rfl rfl)
theorem dX13_renumber_113 : decode cX13_renumber 113 = .ok (.ireturn, 1) := dk_172 (dk_at dksX13_renumber_4 19 rfl rfl)
abbrev cX13_splitCell : ByteArray := prog_28_method_35_code
def yX13_splitCell : MethodName := ⟨RX13, "splitCell", "(I)I"⟩
def dkwX13_splitCell_3 : List UInt8 := [182, 0, 51, 28, 172]
abbrev dktX13_splitCell_3 : List UInt8 := dkwX13_splitCell_3 ++ []
def dkwX13_splitCell_2 : List UInt8 := [182, 0, 72, 182, 0, 115, 42, 180, 0, 7, 16, 8, 27, 96, 16, 25, 79, 42, 182, 0, 118, 61, 42]
abbrev dktX13_splitCell_2 : List UInt8 := dkwX13_splitCell_2 ++ dktX13_splitCell_3
def dkwX13_splitCell_1 : List UInt8 := [42, 42, 27, 182, 0, 72, 27, 182, 0, 112, 154, 0, 6, 16, 254, 172, 42, 182, 0, 102, 42, 42, 27]
abbrev dktX13_splitCell_1 : List UInt8 := dkwX13_splitCell_1 ++ dktX13_splitCell_2
def dkwX13_splitCell_0 : List UInt8 := [42, 3, 181, 0, 43, 42, 27, 182, 0, 108, 154, 0, 5, 2, 172, 42, 27, 182, 0, 121, 4, 159, 0, 16]
abbrev dktX13_splitCell_0 : List UInt8 := dkwX13_splitCell_0 ++ dktX13_splitCell_1
theorem dksX13_splitCell_0 : cX13_splitCell.data.toList.drop 0 = dktX13_splitCell_0 := by decide +kernel
theorem dksX13_splitCell_1 : cX13_splitCell.data.toList.drop 24 = dktX13_splitCell_1 := dk_seg dksX13_splitCell_0 24 rfl rfl
theorem dksX13_splitCell_2 : cX13_splitCell.data.toList.drop 47 = dktX13_splitCell_2 := dk_seg dksX13_splitCell_1 23 rfl rfl
theorem dksX13_splitCell_3 : cX13_splitCell.data.toList.drop 70 = dktX13_splitCell_3 := dk_seg dksX13_splitCell_2 23 rfl rfl
theorem dX13_splitCell_0 : decode cX13_splitCell 0 = .ok (.aload_n 0, 1) := dk_42 (dk_at dksX13_splitCell_0 0 rfl rfl)
theorem dX13_splitCell_1 : decode cX13_splitCell 1 = .ok (.iconst 0, 1) := dk_3 (dk_at dksX13_splitCell_0 1 rfl rfl)
theorem dX13_splitCell_2 : decode cX13_splitCell 2 = .ok (.putfield 43, 3) := dk_181 0 43 (dk_at dksX13_splitCell_0 2 rfl rfl)
theorem dX13_splitCell_5 : decode cX13_splitCell 5 = .ok (.aload_n 0, 1) := dk_42 (dk_at dksX13_splitCell_0 5 rfl rfl)
theorem dX13_splitCell_6 : decode cX13_splitCell 6 = .ok (.iload_n 1, 1) := dk_27 (dk_at dksX13_splitCell_0 6 rfl rfl)
theorem dX13_splitCell_7 : decode cX13_splitCell 7 = .ok (.invokevirtual 108, 3) := dk_182 0 108 (dk_at dksX13_splitCell_0 7 rfl rfl)
theorem dX13_splitCell_10 : decode cX13_splitCell 10 = .ok (.ifCond .ne 5, 3) := dk_154 0 5 (dk_at dksX13_splitCell_0 10 rfl rfl)
theorem dX13_splitCell_13 : decode cX13_splitCell 13 = .ok (.iconst (-1), 1) := dk_2 (dk_at dksX13_splitCell_0 13 rfl rfl)
theorem dX13_splitCell_14 : decode cX13_splitCell 14 = .ok (.ireturn, 1) := dk_172 (dk_at dksX13_splitCell_0 14 rfl rfl)
theorem dX13_splitCell_15 : decode cX13_splitCell 15 = .ok (.aload_n 0, 1) := dk_42 (dk_at dksX13_splitCell_0 15 rfl rfl)
theorem dX13_splitCell_16 : decode cX13_splitCell 16 = .ok (.iload_n 1, 1) := dk_27 (dk_at dksX13_splitCell_0 16 rfl rfl)
theorem dX13_splitCell_17 : decode cX13_splitCell 17 = .ok (.invokevirtual 121, 3) := dk_182 0 121 (dk_at dksX13_splitCell_0 17 rfl rfl)
theorem dX13_splitCell_20 : decode cX13_splitCell 20 = .ok (.iconst 1, 1) := dk_4 (dk_at dksX13_splitCell_0 20 rfl rfl)
theorem dX13_splitCell_21 : decode cX13_splitCell 21 = .ok (.if_icmp .eq 16, 3) := dk_159 0 16 (dk_at dksX13_splitCell_0 21 rfl rfl)
theorem dX13_splitCell_24 : decode cX13_splitCell 24 = .ok (.aload_n 0, 1) := dk_42 (dk_at dksX13_splitCell_1 0 rfl rfl)
theorem dX13_splitCell_25 : decode cX13_splitCell 25 = .ok (.aload_n 0, 1) := dk_42 (dk_at dksX13_splitCell_1 1 rfl rfl)
theorem dX13_splitCell_26 : decode cX13_splitCell 26 = .ok (.iload_n 1, 1) := dk_27 (dk_at dksX13_splitCell_1 2 rfl rfl)
theorem dX13_splitCell_27 : decode cX13_splitCell 27 = .ok (.invokevirtual 72, 3) := dk_182 0 72 (dk_at dksX13_splitCell_1 3 rfl rfl)
theorem dX13_splitCell_30 : decode cX13_splitCell 30 = .ok (.iload_n 1, 1) := dk_27 (dk_at dksX13_splitCell_1 6 rfl rfl)
theorem dX13_splitCell_31 : decode cX13_splitCell 31 = .ok (.invokevirtual 112, 3) := dk_182 0 112 (dk_at dksX13_splitCell_1 7 rfl rfl)
theorem dX13_splitCell_34 : decode cX13_splitCell 34 = .ok (.ifCond .ne 6, 3) := dk_154 0 6 (dk_at dksX13_splitCell_1 10 rfl rfl)
theorem dX13_splitCell_37 : decode cX13_splitCell 37 = .ok (.bipush (-2), 2) := dk_16 254 (dk_at dksX13_splitCell_1 13 rfl rfl)
theorem dX13_splitCell_39 : decode cX13_splitCell 39 = .ok (.ireturn, 1) := dk_172 (dk_at dksX13_splitCell_1 15 rfl rfl)
theorem dX13_splitCell_40 : decode cX13_splitCell 40 = .ok (.aload_n 0, 1) := dk_42 (dk_at dksX13_splitCell_1 16 rfl rfl)
theorem dX13_splitCell_41 : decode cX13_splitCell 41 = .ok (.invokevirtual 102, 3) := dk_182 0 102 (dk_at dksX13_splitCell_1 17 rfl rfl)
theorem dX13_splitCell_44 : decode cX13_splitCell 44 = .ok (.aload_n 0, 1) := dk_42 (dk_at dksX13_splitCell_1 20 rfl rfl)
theorem dX13_splitCell_45 : decode cX13_splitCell 45 = .ok (.aload_n 0, 1) := dk_42 (dk_at dksX13_splitCell_1 21 rfl rfl)
theorem dX13_splitCell_46 : decode cX13_splitCell 46 = .ok (.iload_n 1, 1) := dk_27 (dk_at dksX13_splitCell_1 22 rfl rfl)
theorem dX13_splitCell_47 : decode cX13_splitCell 47 = .ok (.invokevirtual 72, 3) := dk_182 0 72 (dk_at dksX13_splitCell_2 0 rfl rfl)
theorem dX13_splitCell_50 : decode cX13_splitCell 50 = .ok (.invokevirtual 115, 3) := dk_182 0 115 (dk_at dksX13_splitCell_2 3 rfl rfl)
theorem dX13_splitCell_53 : decode cX13_splitCell 53 = .ok (.aload_n 0, 1) := dk_42 (dk_at dksX13_splitCell_2 6 rfl rfl)
theorem dX13_splitCell_54 : decode cX13_splitCell 54 = .ok (.getfield 7, 3) := dk_180 0 7 (dk_at dksX13_splitCell_2 7 rfl rfl)
theorem dX13_splitCell_57 : decode cX13_splitCell 57 = .ok (.bipush 8, 2) := dk_16 8 (dk_at dksX13_splitCell_2 10 rfl rfl)
theorem dX13_splitCell_59 : decode cX13_splitCell 59 = .ok (.iload_n 1, 1) := dk_27 (dk_at dksX13_splitCell_2 12 rfl rfl)
theorem dX13_splitCell_60 : decode cX13_splitCell 60 = .ok (.iadd, 1) := dk_96 (dk_at dksX13_splitCell_2 13 rfl rfl)
theorem dX13_splitCell_61 : decode cX13_splitCell 61 = .ok (.bipush 25, 2) := dk_16 25 (dk_at dksX13_splitCell_2 14 rfl rfl)
theorem dX13_splitCell_63 : decode cX13_splitCell 63 = .ok (.iastore, 1) := dk_79 (dk_at dksX13_splitCell_2 16 rfl rfl)
theorem dX13_splitCell_64 : decode cX13_splitCell 64 = .ok (.aload_n 0, 1) := dk_42 (dk_at dksX13_splitCell_2 17 rfl rfl)
theorem dX13_splitCell_65 : decode cX13_splitCell 65 = .ok (.invokevirtual 118, 3) := dk_182 0 118 (dk_at dksX13_splitCell_2 18 rfl rfl)
theorem dX13_splitCell_68 : decode cX13_splitCell 68 = .ok (.istore_n 2, 1) := dk_61 (dk_at dksX13_splitCell_2 21 rfl rfl)
theorem dX13_splitCell_69 : decode cX13_splitCell 69 = .ok (.aload_n 0, 1) := dk_42 (dk_at dksX13_splitCell_2 22 rfl rfl)
theorem dX13_splitCell_70 : decode cX13_splitCell 70 = .ok (.invokevirtual 51, 3) := dk_182 0 51 (dk_at dksX13_splitCell_3 0 rfl rfl)
theorem dX13_splitCell_73 : decode cX13_splitCell 73 = .ok (.iload_n 2, 1) := dk_28 (dk_at dksX13_splitCell_3 3 rfl rfl)
theorem dX13_splitCell_74 : decode cX13_splitCell 74 = .ok (.ireturn, 1) := dk_172 (dk_at dksX13_splitCell_3 4 rfl rfl)
abbrev cX13_mirror : ByteArray := prog_28_method_38_code
def yX13_mirror : MethodName := ⟨RX13, "mirror", "()I"⟩
def dkwX13_mirror_5 : List UInt8 := [46, 27, 182, 0, 127, 42, 182, 0, 118, 61, 42, 182, 0, 51, 28, 172]
abbrev dktX13_mirror_5 : List UInt8 := dkwX13_mirror_5 ++ []
def dkwX13_mirror_4 : List UInt8 := [3, 46, 104, 27, 96, 4, 100, 28, 100, 96, 46, 79, 132, 2, 1, 167, 255, 200, 42, 42, 180, 0, 7, 3]
abbrev dktX13_mirror_4 : List UInt8 := dkwX13_mirror_4 ++ dktX13_mirror_5
def dkwX13_mirror_3 : List UInt8 := [180, 0, 7, 16, 83, 28, 42, 180, 0, 7, 3, 46, 162, 0, 7, 28, 167, 0, 17, 5, 42, 180, 0, 7]
abbrev dktX13_mirror_3 : List UInt8 := dkwX13_mirror_3 ++ dktX13_mirror_4
def dkwX13_mirror_2 : List UInt8 := [167, 255, 227, 3, 61, 28, 42, 182, 0, 69, 162, 0, 54, 42, 180, 0, 37, 16, 83, 28, 96, 42]
abbrev dktX13_mirror_2 : List UInt8 := dkwX13_mirror_2 ++ dktX13_mirror_3
def dkwX13_mirror_1 : List UInt8 := [162, 0, 27, 42, 28, 28, 27, 108, 27, 104, 27, 96, 4, 100, 28, 27, 112, 100, 182, 0, 124, 132, 2, 1]
abbrev dktX13_mirror_1 : List UInt8 := dkwX13_mirror_1 ++ dktX13_mirror_2
def dkwX13_mirror_0 : List UInt8 := [42, 3, 181, 0, 43, 42, 182, 0, 102, 42, 180, 0, 7, 4, 46, 60, 3, 61, 28, 42, 182, 0, 61]
abbrev dktX13_mirror_0 : List UInt8 := dkwX13_mirror_0 ++ dktX13_mirror_1
theorem dksX13_mirror_0 : cX13_mirror.data.toList.drop 0 = dktX13_mirror_0 := by decide +kernel
theorem dksX13_mirror_1 : cX13_mirror.data.toList.drop 23 = dktX13_mirror_1 := dk_seg dksX13_mirror_0 23 rfl rfl
theorem dksX13_mirror_2 : cX13_mirror.data.toList.drop 47 = dktX13_mirror_2 := dk_seg dksX13_mirror_1 24 rfl rfl
theorem dksX13_mirror_3 : cX13_mirror.data.toList.drop 69 = dktX13_mirror_3 := dk_seg dksX13_mirror_2 22 rfl rfl
theorem dksX13_mirror_4 : cX13_mirror.data.toList.drop 93 = dktX13_mirror_4 := dk_seg dksX13_mirror_3 24 rfl rfl
theorem dksX13_mirror_5 : cX13_mirror.data.toList.drop 117 = dktX13_mirror_5 := dk_seg dksX13_mirror_4 24 rfl rfl
theorem dX13_mirror_0 : decode cX13_mirror 0 = .ok (.aload_n 0, 1) := dk_42 (dk_at dksX13_mirror_0 0 rfl rfl)
theorem dX13_mirror_1 : decode cX13_mirror 1 = .ok (.iconst 0, 1) := dk_3 (dk_at dksX13_mirror_0 1 rfl rfl)
theorem dX13_mirror_2 : decode cX13_mirror 2 = .ok (.putfield 43, 3) := dk_181 0 43 (dk_at dksX13_mirror_0 2 rfl rfl)
theorem dX13_mirror_5 : decode cX13_mirror 5 = .ok (.aload_n 0, 1) := dk_42 (dk_at dksX13_mirror_0 5 rfl rfl)
theorem dX13_mirror_6 : decode cX13_mirror 6 = .ok (.invokevirtual 102, 3) := dk_182 0 102 (dk_at dksX13_mirror_0 6 rfl rfl)
theorem dX13_mirror_9 : decode cX13_mirror 9 = .ok (.aload_n 0, 1) := dk_42 (dk_at dksX13_mirror_0 9 rfl rfl)
theorem dX13_mirror_10 : decode cX13_mirror 10 = .ok (.getfield 7, 3) := dk_180 0 7 (dk_at dksX13_mirror_0 10 rfl rfl)
theorem dX13_mirror_13 : decode cX13_mirror 13 = .ok (.iconst 1, 1) := dk_4 (dk_at dksX13_mirror_0 13 rfl rfl)
theorem dX13_mirror_14 : decode cX13_mirror 14 = .ok (.iaload, 1) := dk_46 (dk_at dksX13_mirror_0 14 rfl rfl)
theorem dX13_mirror_15 : decode cX13_mirror 15 = .ok (.istore_n 1, 1) := dk_60 (dk_at dksX13_mirror_0 15 rfl rfl)
theorem dX13_mirror_16 : decode cX13_mirror 16 = .ok (.iconst 0, 1) := dk_3 (dk_at dksX13_mirror_0 16 rfl rfl)
theorem dX13_mirror_17 : decode cX13_mirror 17 = .ok (.istore_n 2, 1) := dk_61 (dk_at dksX13_mirror_0 17 rfl rfl)
theorem dX13_mirror_18 : decode cX13_mirror 18 = .ok (.iload_n 2, 1) := dk_28 (dk_at dksX13_mirror_0 18 rfl rfl)
theorem dX13_mirror_19 : decode cX13_mirror 19 = .ok (.aload_n 0, 1) := dk_42 (dk_at dksX13_mirror_0 19 rfl rfl)
theorem dX13_mirror_20 : decode cX13_mirror 20 = .ok (.invokevirtual 61, 3) := dk_182 0 61 (dk_at dksX13_mirror_0 20 rfl rfl)
theorem dX13_mirror_23 : decode cX13_mirror 23 = .ok (.if_icmp .ge 27, 3) := dk_162 0 27 (dk_at dksX13_mirror_1 0 rfl rfl)
theorem dX13_mirror_26 : decode cX13_mirror 26 = .ok (.aload_n 0, 1) := dk_42 (dk_at dksX13_mirror_1 3 rfl rfl)
theorem dX13_mirror_27 : decode cX13_mirror 27 = .ok (.iload_n 2, 1) := dk_28 (dk_at dksX13_mirror_1 4 rfl rfl)
theorem dX13_mirror_28 : decode cX13_mirror 28 = .ok (.iload_n 2, 1) := dk_28 (dk_at dksX13_mirror_1 5 rfl rfl)
theorem dX13_mirror_29 : decode cX13_mirror 29 = .ok (.iload_n 1, 1) := dk_27 (dk_at dksX13_mirror_1 6 rfl rfl)
theorem dX13_mirror_30 : decode cX13_mirror 30 = .ok (.idiv, 1) := dk_108 (dk_at dksX13_mirror_1 7 rfl rfl)
theorem dX13_mirror_31 : decode cX13_mirror 31 = .ok (.iload_n 1, 1) := dk_27 (dk_at dksX13_mirror_1 8 rfl rfl)
theorem dX13_mirror_32 : decode cX13_mirror 32 = .ok (.imul, 1) := dk_104 (dk_at dksX13_mirror_1 9 rfl rfl)
theorem dX13_mirror_33 : decode cX13_mirror 33 = .ok (.iload_n 1, 1) := dk_27 (dk_at dksX13_mirror_1 10 rfl rfl)
theorem dX13_mirror_34 : decode cX13_mirror 34 = .ok (.iadd, 1) := dk_96 (dk_at dksX13_mirror_1 11 rfl rfl)
theorem dX13_mirror_35 : decode cX13_mirror 35 = .ok (.iconst 1, 1) := dk_4 (dk_at dksX13_mirror_1 12 rfl rfl)
theorem dX13_mirror_36 : decode cX13_mirror 36 = .ok (.isub, 1) := dk_100 (dk_at dksX13_mirror_1 13 rfl rfl)
theorem dX13_mirror_37 : decode cX13_mirror 37 = .ok (.iload_n 2, 1) := dk_28 (dk_at dksX13_mirror_1 14 rfl rfl)
theorem dX13_mirror_38 : decode cX13_mirror 38 = .ok (.iload_n 1, 1) := dk_27 (dk_at dksX13_mirror_1 15 rfl rfl)
theorem dX13_mirror_39 : decode cX13_mirror 39 = .ok (.irem, 1) := dk_112 (dk_at dksX13_mirror_1 16 rfl rfl)
theorem dX13_mirror_40 : decode cX13_mirror 40 = .ok (.isub, 1) := dk_100 (dk_at dksX13_mirror_1 17 rfl rfl)
theorem dX13_mirror_41 : decode cX13_mirror 41 = .ok (.invokevirtual 124, 3) := dk_182 0 124 (dk_at dksX13_mirror_1 18 rfl rfl)
theorem dX13_mirror_44 : decode cX13_mirror 44 = .ok (.iinc 2 1, 3) := dk_132 2 1 (dk_at dksX13_mirror_1 21 rfl rfl)
theorem dX13_mirror_47 : decode cX13_mirror 47 = .ok (.goto (-29), 3) := dk_167 255 227 (dk_at dksX13_mirror_2 0 rfl rfl)
theorem dX13_mirror_50 : decode cX13_mirror 50 = .ok (.iconst 0, 1) := dk_3 (dk_at dksX13_mirror_2 3 rfl rfl)
theorem dX13_mirror_51 : decode cX13_mirror 51 = .ok (.istore_n 2, 1) := dk_61 (dk_at dksX13_mirror_2 4 rfl rfl)
theorem dX13_mirror_52 : decode cX13_mirror 52 = .ok (.iload_n 2, 1) := dk_28 (dk_at dksX13_mirror_2 5 rfl rfl)
theorem dX13_mirror_53 : decode cX13_mirror 53 = .ok (.aload_n 0, 1) := dk_42 (dk_at dksX13_mirror_2 6 rfl rfl)
theorem dX13_mirror_54 : decode cX13_mirror 54 = .ok (.invokevirtual 69, 3) := dk_182 0 69 (dk_at dksX13_mirror_2 7 rfl rfl)
theorem dX13_mirror_57 : decode cX13_mirror 57 = .ok (.if_icmp .ge 54, 3) := dk_162 0 54 (dk_at dksX13_mirror_2 10 rfl rfl)
theorem dX13_mirror_60 : decode cX13_mirror 60 = .ok (.aload_n 0, 1) := dk_42 (dk_at dksX13_mirror_2 13 rfl rfl)
theorem dX13_mirror_61 : decode cX13_mirror 61 = .ok (.getfield 37, 3) := dk_180 0 37 (dk_at dksX13_mirror_2 14 rfl rfl)
theorem dX13_mirror_64 : decode cX13_mirror 64 = .ok (.bipush 83, 2) := dk_16 83 (dk_at dksX13_mirror_2 17 rfl rfl)
theorem dX13_mirror_66 : decode cX13_mirror 66 = .ok (.iload_n 2, 1) := dk_28 (dk_at dksX13_mirror_2 19 rfl rfl)
theorem dX13_mirror_67 : decode cX13_mirror 67 = .ok (.iadd, 1) := dk_96 (dk_at dksX13_mirror_2 20 rfl rfl)
theorem dX13_mirror_68 : decode cX13_mirror 68 = .ok (.aload_n 0, 1) := dk_42 (dk_at dksX13_mirror_2 21 rfl rfl)
theorem dX13_mirror_69 : decode cX13_mirror 69 = .ok (.getfield 7, 3) := dk_180 0 7 (dk_at dksX13_mirror_3 0 rfl rfl)
theorem dX13_mirror_72 : decode cX13_mirror 72 = .ok (.bipush 83, 2) := dk_16 83 (dk_at dksX13_mirror_3 3 rfl rfl)
theorem dX13_mirror_74 : decode cX13_mirror 74 = .ok (.iload_n 2, 1) := dk_28 (dk_at dksX13_mirror_3 5 rfl rfl)
theorem dX13_mirror_75 : decode cX13_mirror 75 = .ok (.aload_n 0, 1) := dk_42 (dk_at dksX13_mirror_3 6 rfl rfl)
theorem dX13_mirror_76 : decode cX13_mirror 76 = .ok (.getfield 7, 3) := dk_180 0 7 (dk_at dksX13_mirror_3 7 rfl rfl)
theorem dX13_mirror_79 : decode cX13_mirror 79 = .ok (.iconst 0, 1) := dk_3 (dk_at dksX13_mirror_3 10 rfl rfl)
theorem dX13_mirror_80 : decode cX13_mirror 80 = .ok (.iaload, 1) := dk_46 (dk_at dksX13_mirror_3 11 rfl rfl)
theorem dX13_mirror_81 : decode cX13_mirror 81 = .ok (.if_icmp .ge 7, 3) := dk_162 0 7 (dk_at dksX13_mirror_3 12 rfl rfl)
theorem dX13_mirror_84 : decode cX13_mirror 84 = .ok (.iload_n 2, 1) := dk_28 (dk_at dksX13_mirror_3 15 rfl rfl)
theorem dX13_mirror_85 : decode cX13_mirror 85 = .ok (.goto 17, 3) := dk_167 0 17 (dk_at dksX13_mirror_3 16 rfl rfl)
theorem dX13_mirror_88 : decode cX13_mirror 88 = .ok (.iconst 2, 1) := dk_5 (dk_at dksX13_mirror_3 19 rfl rfl)
theorem dX13_mirror_89 : decode cX13_mirror 89 = .ok (.aload_n 0, 1) := dk_42 (dk_at dksX13_mirror_3 20 rfl rfl)
theorem dX13_mirror_90 : decode cX13_mirror 90 = .ok (.getfield 7, 3) := dk_180 0 7 (dk_at dksX13_mirror_3 21 rfl rfl)
theorem dX13_mirror_93 : decode cX13_mirror 93 = .ok (.iconst 0, 1) := dk_3 (dk_at dksX13_mirror_4 0 rfl rfl)
theorem dX13_mirror_94 : decode cX13_mirror 94 = .ok (.iaload, 1) := dk_46 (dk_at dksX13_mirror_4 1 rfl rfl)
theorem dX13_mirror_95 : decode cX13_mirror 95 = .ok (.imul, 1) := dk_104 (dk_at dksX13_mirror_4 2 rfl rfl)
theorem dX13_mirror_96 : decode cX13_mirror 96 = .ok (.iload_n 1, 1) := dk_27 (dk_at dksX13_mirror_4 3 rfl rfl)
theorem dX13_mirror_97 : decode cX13_mirror 97 = .ok (.iadd, 1) := dk_96 (dk_at dksX13_mirror_4 4 rfl rfl)
theorem dX13_mirror_98 : decode cX13_mirror 98 = .ok (.iconst 1, 1) := dk_4 (dk_at dksX13_mirror_4 5 rfl rfl)
theorem dX13_mirror_99 : decode cX13_mirror 99 = .ok (.isub, 1) := dk_100 (dk_at dksX13_mirror_4 6 rfl rfl)
theorem dX13_mirror_100 : decode cX13_mirror 100 = .ok (.iload_n 2, 1) := dk_28 (dk_at dksX13_mirror_4 7 rfl rfl)
theorem dX13_mirror_101 : decode cX13_mirror 101 = .ok (.isub, 1) := dk_100 (dk_at dksX13_mirror_4 8 rfl rfl)
theorem dX13_mirror_102 : decode cX13_mirror 102 = .ok (.iadd, 1) := dk_96 (dk_at dksX13_mirror_4 9 rfl rfl)
theorem dX13_mirror_103 : decode cX13_mirror 103 = .ok (.iaload, 1) := dk_46 (dk_at dksX13_mirror_4 10 rfl rfl)
theorem dX13_mirror_104 : decode cX13_mirror 104 = .ok (.iastore, 1) := dk_79 (dk_at dksX13_mirror_4 11 rfl rfl)
theorem dX13_mirror_105 : decode cX13_mirror 105 = .ok (.iinc 2 1, 3) := dk_132 2 1 (dk_at dksX13_mirror_4 12 rfl rfl)
theorem dX13_mirror_108 : decode cX13_mirror 108 = .ok (.goto (-56), 3) := dk_167 255 200 (dk_at dksX13_mirror_4 15 rfl rfl)
theorem dX13_mirror_111 : decode cX13_mirror 111 = .ok (.aload_n 0, 1) := dk_42 (dk_at dksX13_mirror_4 18 rfl rfl)
theorem dX13_mirror_112 : decode cX13_mirror 112 = .ok (.aload_n 0, 1) := dk_42 (dk_at dksX13_mirror_4 19 rfl rfl)
theorem dX13_mirror_113 : decode cX13_mirror 113 = .ok (.getfield 7, 3) := dk_180 0 7 (dk_at dksX13_mirror_4 20 rfl rfl)
theorem dX13_mirror_116 : decode cX13_mirror 116 = .ok (.iconst 0, 1) := dk_3 (dk_at dksX13_mirror_4 23 rfl rfl)
theorem dX13_mirror_117 : decode cX13_mirror 117 = .ok (.iaload, 1) := dk_46 (dk_at dksX13_mirror_5 0 rfl rfl)
theorem dX13_mirror_118 : decode cX13_mirror 118 = .ok (.iload_n 1, 1) := dk_27 (dk_at dksX13_mirror_5 1 rfl rfl)
theorem dX13_mirror_119 : decode cX13_mirror 119 = .ok (.invokevirtual 127, 3) := dk_182 0 127 (dk_at dksX13_mirror_5 2 rfl rfl)
theorem dX13_mirror_122 : decode cX13_mirror 122 = .ok (.aload_n 0, 1) := dk_42 (dk_at dksX13_mirror_5 5 rfl rfl)
theorem dX13_mirror_123 : decode cX13_mirror 123 = .ok (.invokevirtual 118, 3) := dk_182 0 118 (dk_at dksX13_mirror_5 6 rfl rfl)
theorem dX13_mirror_126 : decode cX13_mirror 126 = .ok (.istore_n 2, 1) := dk_61 (dk_at dksX13_mirror_5 9 rfl rfl)
theorem dX13_mirror_127 : decode cX13_mirror 127 = .ok (.aload_n 0, 1) := dk_42 (dk_at dksX13_mirror_5 10 rfl rfl)
theorem dX13_mirror_128 : decode cX13_mirror 128 = .ok (.invokevirtual 51, 3) := dk_182 0 51 (dk_at dksX13_mirror_5 11 rfl rfl)
theorem dX13_mirror_131 : decode cX13_mirror 131 = .ok (.iload_n 2, 1) := dk_28 (dk_at dksX13_mirror_5 14 rfl rfl)
theorem dX13_mirror_132 : decode cX13_mirror 132 = .ok (.ireturn, 1) := dk_172 (dk_at dksX13_mirror_5 15 rfl rfl)
abbrev cX13_bring : ByteArray := prog_28_method_36_code
def yX13_bring : MethodName := ⟨RX13, "bring", "(II)V"⟩
def dkwX13_bring_2 : List UInt8 := [16, 58, 28, 96, 46, 79, 177]
abbrev dktX13_bring_2 : List UInt8 := dkwX13_bring_2 ++ []
def dkwX13_bring_1 : List UInt8 := [27, 96, 42, 180, 0, 7, 16, 33, 28, 96, 46, 79, 42, 180, 0, 37, 16, 58, 27, 96, 42, 180, 0, 7]
abbrev dktX13_bring_1 : List UInt8 := dkwX13_bring_1 ++ dktX13_bring_2
def dkwX13_bring_0 : List UInt8 := [42, 180, 0, 37, 16, 8, 27, 96, 42, 180, 0, 7, 16, 8, 28, 96, 46, 79, 42, 180, 0, 37, 16, 33]
abbrev dktX13_bring_0 : List UInt8 := dkwX13_bring_0 ++ dktX13_bring_1
theorem dksX13_bring_0 : cX13_bring.data.toList.drop 0 = dktX13_bring_0 := by decide +kernel
theorem dksX13_bring_1 : cX13_bring.data.toList.drop 24 = dktX13_bring_1 := dk_seg dksX13_bring_0 24 rfl rfl
theorem dksX13_bring_2 : cX13_bring.data.toList.drop 48 = dktX13_bring_2 := dk_seg dksX13_bring_1 24 rfl rfl
theorem dX13_bring_0 : decode cX13_bring 0 = .ok (.aload_n 0, 1) := dk_42 (dk_at dksX13_bring_0 0 rfl rfl)
theorem dX13_bring_1 : decode cX13_bring 1 = .ok (.getfield 37, 3) := dk_180 0 37 (dk_at dksX13_bring_0 1 rfl rfl)
theorem dX13_bring_4 : decode cX13_bring 4 = .ok (.bipush 8, 2) := dk_16 8 (dk_at dksX13_bring_0 4 rfl rfl)
theorem dX13_bring_6 : decode cX13_bring 6 = .ok (.iload_n 1, 1) := dk_27 (dk_at dksX13_bring_0 6 rfl rfl)
theorem dX13_bring_7 : decode cX13_bring 7 = .ok (.iadd, 1) := dk_96 (dk_at dksX13_bring_0 7 rfl rfl)
theorem dX13_bring_8 : decode cX13_bring 8 = .ok (.aload_n 0, 1) := dk_42 (dk_at dksX13_bring_0 8 rfl rfl)
theorem dX13_bring_9 : decode cX13_bring 9 = .ok (.getfield 7, 3) := dk_180 0 7 (dk_at dksX13_bring_0 9 rfl rfl)
theorem dX13_bring_12 : decode cX13_bring 12 = .ok (.bipush 8, 2) := dk_16 8 (dk_at dksX13_bring_0 12 rfl rfl)
theorem dX13_bring_14 : decode cX13_bring 14 = .ok (.iload_n 2, 1) := dk_28 (dk_at dksX13_bring_0 14 rfl rfl)
theorem dX13_bring_15 : decode cX13_bring 15 = .ok (.iadd, 1) := dk_96 (dk_at dksX13_bring_0 15 rfl rfl)
theorem dX13_bring_16 : decode cX13_bring 16 = .ok (.iaload, 1) := dk_46 (dk_at dksX13_bring_0 16 rfl rfl)
theorem dX13_bring_17 : decode cX13_bring 17 = .ok (.iastore, 1) := dk_79 (dk_at dksX13_bring_0 17 rfl rfl)
theorem dX13_bring_18 : decode cX13_bring 18 = .ok (.aload_n 0, 1) := dk_42 (dk_at dksX13_bring_0 18 rfl rfl)
theorem dX13_bring_19 : decode cX13_bring 19 = .ok (.getfield 37, 3) := dk_180 0 37 (dk_at dksX13_bring_0 19 rfl rfl)
theorem dX13_bring_22 : decode cX13_bring 22 = .ok (.bipush 33, 2) := dk_16 33 (dk_at dksX13_bring_0 22 rfl rfl)
theorem dX13_bring_24 : decode cX13_bring 24 = .ok (.iload_n 1, 1) := dk_27 (dk_at dksX13_bring_1 0 rfl rfl)
theorem dX13_bring_25 : decode cX13_bring 25 = .ok (.iadd, 1) := dk_96 (dk_at dksX13_bring_1 1 rfl rfl)
theorem dX13_bring_26 : decode cX13_bring 26 = .ok (.aload_n 0, 1) := dk_42 (dk_at dksX13_bring_1 2 rfl rfl)
theorem dX13_bring_27 : decode cX13_bring 27 = .ok (.getfield 7, 3) := dk_180 0 7 (dk_at dksX13_bring_1 3 rfl rfl)
theorem dX13_bring_30 : decode cX13_bring 30 = .ok (.bipush 33, 2) := dk_16 33 (dk_at dksX13_bring_1 6 rfl rfl)
theorem dX13_bring_32 : decode cX13_bring 32 = .ok (.iload_n 2, 1) := dk_28 (dk_at dksX13_bring_1 8 rfl rfl)
theorem dX13_bring_33 : decode cX13_bring 33 = .ok (.iadd, 1) := dk_96 (dk_at dksX13_bring_1 9 rfl rfl)
theorem dX13_bring_34 : decode cX13_bring 34 = .ok (.iaload, 1) := dk_46 (dk_at dksX13_bring_1 10 rfl rfl)
theorem dX13_bring_35 : decode cX13_bring 35 = .ok (.iastore, 1) := dk_79 (dk_at dksX13_bring_1 11 rfl rfl)
theorem dX13_bring_36 : decode cX13_bring 36 = .ok (.aload_n 0, 1) := dk_42 (dk_at dksX13_bring_1 12 rfl rfl)
theorem dX13_bring_37 : decode cX13_bring 37 = .ok (.getfield 37, 3) := dk_180 0 37 (dk_at dksX13_bring_1 13 rfl rfl)
theorem dX13_bring_40 : decode cX13_bring 40 = .ok (.bipush 58, 2) := dk_16 58 (dk_at dksX13_bring_1 16 rfl rfl)
theorem dX13_bring_42 : decode cX13_bring 42 = .ok (.iload_n 1, 1) := dk_27 (dk_at dksX13_bring_1 18 rfl rfl)
theorem dX13_bring_43 : decode cX13_bring 43 = .ok (.iadd, 1) := dk_96 (dk_at dksX13_bring_1 19 rfl rfl)
theorem dX13_bring_44 : decode cX13_bring 44 = .ok (.aload_n 0, 1) := dk_42 (dk_at dksX13_bring_1 20 rfl rfl)
theorem dX13_bring_45 : decode cX13_bring 45 = .ok (.getfield 7, 3) := dk_180 0 7 (dk_at dksX13_bring_1 21 rfl rfl)
theorem dX13_bring_48 : decode cX13_bring 48 = .ok (.bipush 58, 2) := dk_16 58 (dk_at dksX13_bring_2 0 rfl rfl)
theorem dX13_bring_50 : decode cX13_bring 50 = .ok (.iload_n 2, 1) := dk_28 (dk_at dksX13_bring_2 2 rfl rfl)
theorem dX13_bring_51 : decode cX13_bring 51 = .ok (.iadd, 1) := dk_96 (dk_at dksX13_bring_2 3 rfl rfl)
theorem dX13_bring_52 : decode cX13_bring 52 = .ok (.iaload, 1) := dk_46 (dk_at dksX13_bring_2 4 rfl rfl)
theorem dX13_bring_53 : decode cX13_bring 53 = .ok (.iastore, 1) := dk_79 (dk_at dksX13_bring_2 5 rfl rfl)
theorem dX13_bring_54 : decode cX13_bring 54 = .ok (.return_, 1) := dk_177 (dk_at dksX13_bring_2 6 rfl rfl)
abbrev cX13_lines : ByteArray := prog_28_method_12_code
def yX13_lines : MethodName := ⟨RX13, "lines", "()I"⟩
def dkwX13_lines_0 : List UInt8 := [42, 180, 0, 7, 3, 46, 42, 180, 0, 7, 4, 46, 96, 172]
abbrev dktX13_lines_0 : List UInt8 := dkwX13_lines_0 ++ []
theorem dksX13_lines_0 : cX13_lines.data.toList.drop 0 = dktX13_lines_0 := by decide +kernel
theorem dX13_lines_0 : decode cX13_lines 0 = .ok (.aload_n 0, 1) := dk_42 (dk_at dksX13_lines_0 0 rfl rfl)
theorem dX13_lines_1 : decode cX13_lines 1 = .ok (.getfield 7, 3) := dk_180 0 7 (dk_at dksX13_lines_0 1 rfl rfl)
theorem dX13_lines_4 : decode cX13_lines 4 = .ok (.iconst 0, 1) := dk_3 (dk_at dksX13_lines_0 4 rfl rfl)
theorem dX13_lines_5 : decode cX13_lines 5 = .ok (.iaload, 1) := dk_46 (dk_at dksX13_lines_0 5 rfl rfl)
theorem dX13_lines_6 : decode cX13_lines 6 = .ok (.aload_n 0, 1) := dk_42 (dk_at dksX13_lines_0 6 rfl rfl)
theorem dX13_lines_7 : decode cX13_lines 7 = .ok (.getfield 7, 3) := dk_180 0 7 (dk_at dksX13_lines_0 7 rfl rfl)
theorem dX13_lines_10 : decode cX13_lines 10 = .ok (.iconst 1, 1) := dk_4 (dk_at dksX13_lines_0 10 rfl rfl)
theorem dX13_lines_11 : decode cX13_lines 11 = .ok (.iaload, 1) := dk_46 (dk_at dksX13_lines_0 11 rfl rfl)
theorem dX13_lines_12 : decode cX13_lines 12 = .ok (.iadd, 1) := dk_96 (dk_at dksX13_lines_0 12 rfl rfl)
theorem dX13_lines_13 : decode cX13_lines 13 = .ok (.ireturn, 1) := dk_172 (dk_at dksX13_lines_0 13 rfl rfl)
abbrev cX13_takeOther : ByteArray := prog_28_method_37_code
def yX13_takeOther : MethodName := ⟨RX13, "takeOther", "(II)V"⟩
def dkwX13_takeOther_4 : List UInt8 := [46, 79, 132, 3, 1, 167, 255, 228, 42, 180, 0, 7, 3, 27, 79, 42, 180, 0, 7, 4, 28, 79, 177]
abbrev dktX13_takeOther_4 : List UInt8 := dkwX13_takeOther_4 ++ []
def dkwX13_takeOther_3 : List UInt8 := [62, 29, 27, 28, 96, 162, 0, 27, 42, 180, 0, 7, 16, 83, 29, 96, 42, 180, 0, 37, 16, 83, 29, 96]
abbrev dktX13_takeOther_3 : List UInt8 := dkwX13_takeOther_3 ++ dktX13_takeOther_4
def dkwX13_takeOther_2 : List UInt8 := [180, 0, 7, 16, 58, 29, 96, 42, 180, 0, 37, 16, 58, 29, 96, 46, 79, 132, 3, 1, 167, 255, 192, 3]
abbrev dktX13_takeOther_2 : List UInt8 := dkwX13_takeOther_2 ++ dktX13_takeOther_3
def dkwX13_takeOther_1 : List UInt8 := [96, 46, 79, 42, 180, 0, 7, 16, 33, 29, 96, 42, 180, 0, 37, 16, 33, 29, 96, 46, 79, 42]
abbrev dktX13_takeOther_1 : List UInt8 := dkwX13_takeOther_1 ++ dktX13_takeOther_2
def dkwX13_takeOther_0 : List UInt8 := [3, 62, 29, 27, 28, 104, 162, 0, 63, 42, 180, 0, 7, 16, 8, 29, 96, 42, 180, 0, 37, 16, 8, 29]
abbrev dktX13_takeOther_0 : List UInt8 := dkwX13_takeOther_0 ++ dktX13_takeOther_1
theorem dksX13_takeOther_0 : cX13_takeOther.data.toList.drop 0 = dktX13_takeOther_0 := by decide +kernel
theorem dksX13_takeOther_1 : cX13_takeOther.data.toList.drop 24 = dktX13_takeOther_1 := dk_seg dksX13_takeOther_0 24 rfl rfl
theorem dksX13_takeOther_2 : cX13_takeOther.data.toList.drop 46 = dktX13_takeOther_2 := dk_seg dksX13_takeOther_1 22 rfl rfl
theorem dksX13_takeOther_3 : cX13_takeOther.data.toList.drop 70 = dktX13_takeOther_3 := dk_seg dksX13_takeOther_2 24 rfl rfl
theorem dksX13_takeOther_4 : cX13_takeOther.data.toList.drop 94 = dktX13_takeOther_4 := dk_seg dksX13_takeOther_3 24 rfl rfl
theorem dX13_takeOther_0 : decode cX13_takeOther 0 = .ok (.iconst 0, 1) := dk_3 (dk_at dksX13_takeOther_0 0 rfl rfl)
theorem dX13_takeOther_1 : decode cX13_takeOther 1 = .ok (.istore_n 3, 1) := dk_62 (dk_at dksX13_takeOther_0 1 rfl rfl)
theorem dX13_takeOther_2 : decode cX13_takeOther 2 = .ok (.iload_n 3, 1) := dk_29 (dk_at dksX13_takeOther_0 2 rfl rfl)
theorem dX13_takeOther_3 : decode cX13_takeOther 3 = .ok (.iload_n 1, 1) := dk_27 (dk_at dksX13_takeOther_0 3 rfl rfl)
theorem dX13_takeOther_4 : decode cX13_takeOther 4 = .ok (.iload_n 2, 1) := dk_28 (dk_at dksX13_takeOther_0 4 rfl rfl)
theorem dX13_takeOther_5 : decode cX13_takeOther 5 = .ok (.imul, 1) := dk_104 (dk_at dksX13_takeOther_0 5 rfl rfl)
theorem dX13_takeOther_6 : decode cX13_takeOther 6 = .ok (.if_icmp .ge 63, 3) := dk_162 0 63 (dk_at dksX13_takeOther_0 6 rfl rfl)
theorem dX13_takeOther_9 : decode cX13_takeOther 9 = .ok (.aload_n 0, 1) := dk_42 (dk_at dksX13_takeOther_0 9 rfl rfl)
theorem dX13_takeOther_10 : decode cX13_takeOther 10 = .ok (.getfield 7, 3) := dk_180 0 7 (dk_at dksX13_takeOther_0 10 rfl rfl)
theorem dX13_takeOther_13 : decode cX13_takeOther 13 = .ok (.bipush 8, 2) := dk_16 8 (dk_at dksX13_takeOther_0 13 rfl rfl)
theorem dX13_takeOther_15 : decode cX13_takeOther 15 = .ok (.iload_n 3, 1) := dk_29 (dk_at dksX13_takeOther_0 15 rfl rfl)
theorem dX13_takeOther_16 : decode cX13_takeOther 16 = .ok (.iadd, 1) := dk_96 (dk_at dksX13_takeOther_0 16 rfl rfl)
theorem dX13_takeOther_17 : decode cX13_takeOther 17 = .ok (.aload_n 0, 1) := dk_42 (dk_at dksX13_takeOther_0 17 rfl rfl)
theorem dX13_takeOther_18 : decode cX13_takeOther 18 = .ok (.getfield 37, 3) := dk_180 0 37 (dk_at dksX13_takeOther_0 18 rfl rfl)
theorem dX13_takeOther_21 : decode cX13_takeOther 21 = .ok (.bipush 8, 2) := dk_16 8 (dk_at dksX13_takeOther_0 21 rfl rfl)
theorem dX13_takeOther_23 : decode cX13_takeOther 23 = .ok (.iload_n 3, 1) := dk_29 (dk_at dksX13_takeOther_0 23 rfl rfl)
theorem dX13_takeOther_24 : decode cX13_takeOther 24 = .ok (.iadd, 1) := dk_96 (dk_at dksX13_takeOther_1 0 rfl rfl)
theorem dX13_takeOther_25 : decode cX13_takeOther 25 = .ok (.iaload, 1) := dk_46 (dk_at dksX13_takeOther_1 1 rfl rfl)
theorem dX13_takeOther_26 : decode cX13_takeOther 26 = .ok (.iastore, 1) := dk_79 (dk_at dksX13_takeOther_1 2 rfl rfl)
theorem dX13_takeOther_27 : decode cX13_takeOther 27 = .ok (.aload_n 0, 1) := dk_42 (dk_at dksX13_takeOther_1 3 rfl rfl)
theorem dX13_takeOther_28 : decode cX13_takeOther 28 = .ok (.getfield 7, 3) := dk_180 0 7 (dk_at dksX13_takeOther_1 4 rfl rfl)
theorem dX13_takeOther_31 : decode cX13_takeOther 31 = .ok (.bipush 33, 2) := dk_16 33 (dk_at dksX13_takeOther_1 7 rfl rfl)
theorem dX13_takeOther_33 : decode cX13_takeOther 33 = .ok (.iload_n 3, 1) := dk_29 (dk_at dksX13_takeOther_1 9 rfl rfl)
theorem dX13_takeOther_34 : decode cX13_takeOther 34 = .ok (.iadd, 1) := dk_96 (dk_at dksX13_takeOther_1 10 rfl rfl)
theorem dX13_takeOther_35 : decode cX13_takeOther 35 = .ok (.aload_n 0, 1) := dk_42 (dk_at dksX13_takeOther_1 11 rfl rfl)
theorem dX13_takeOther_36 : decode cX13_takeOther 36 = .ok (.getfield 37, 3) := dk_180 0 37 (dk_at dksX13_takeOther_1 12 rfl rfl)
theorem dX13_takeOther_39 : decode cX13_takeOther 39 = .ok (.bipush 33, 2) := dk_16 33 (dk_at dksX13_takeOther_1 15 rfl rfl)
theorem dX13_takeOther_41 : decode cX13_takeOther 41 = .ok (.iload_n 3, 1) := dk_29 (dk_at dksX13_takeOther_1 17 rfl rfl)
theorem dX13_takeOther_42 : decode cX13_takeOther 42 = .ok (.iadd, 1) := dk_96 (dk_at dksX13_takeOther_1 18 rfl rfl)
theorem dX13_takeOther_43 : decode cX13_takeOther 43 = .ok (.iaload, 1) := dk_46 (dk_at dksX13_takeOther_1 19 rfl rfl)
theorem dX13_takeOther_44 : decode cX13_takeOther 44 = .ok (.iastore, 1) := dk_79 (dk_at dksX13_takeOther_1 20 rfl rfl)
theorem dX13_takeOther_45 : decode cX13_takeOther 45 = .ok (.aload_n 0, 1) := dk_42 (dk_at dksX13_takeOther_1 21 rfl rfl)
theorem dX13_takeOther_46 : decode cX13_takeOther 46 = .ok (.getfield 7, 3) := dk_180 0 7 (dk_at dksX13_takeOther_2 0 rfl rfl)
theorem dX13_takeOther_49 : decode cX13_takeOther 49 = .ok (.bipush 58, 2) := dk_16 58 (dk_at dksX13_takeOther_2 3 rfl rfl)
theorem dX13_takeOther_51 : decode cX13_takeOther 51 = .ok (.iload_n 3, 1) := dk_29 (dk_at dksX13_takeOther_2 5 rfl rfl)
theorem dX13_takeOther_52 : decode cX13_takeOther 52 = .ok (.iadd, 1) := dk_96 (dk_at dksX13_takeOther_2 6 rfl rfl)
theorem dX13_takeOther_53 : decode cX13_takeOther 53 = .ok (.aload_n 0, 1) := dk_42 (dk_at dksX13_takeOther_2 7 rfl rfl)
theorem dX13_takeOther_54 : decode cX13_takeOther 54 = .ok (.getfield 37, 3) := dk_180 0 37 (dk_at dksX13_takeOther_2 8 rfl rfl)
theorem dX13_takeOther_57 : decode cX13_takeOther 57 = .ok (.bipush 58, 2) := dk_16 58 (dk_at dksX13_takeOther_2 11 rfl rfl)
theorem dX13_takeOther_59 : decode cX13_takeOther 59 = .ok (.iload_n 3, 1) := dk_29 (dk_at dksX13_takeOther_2 13 rfl rfl)
theorem dX13_takeOther_60 : decode cX13_takeOther 60 = .ok (.iadd, 1) := dk_96 (dk_at dksX13_takeOther_2 14 rfl rfl)
theorem dX13_takeOther_61 : decode cX13_takeOther 61 = .ok (.iaload, 1) := dk_46 (dk_at dksX13_takeOther_2 15 rfl rfl)
theorem dX13_takeOther_62 : decode cX13_takeOther 62 = .ok (.iastore, 1) := dk_79 (dk_at dksX13_takeOther_2 16 rfl rfl)
theorem dX13_takeOther_63 : decode cX13_takeOther 63 = .ok (.iinc 3 1, 3) := dk_132 3 1 (dk_at dksX13_takeOther_2 17 rfl rfl)
theorem dX13_takeOther_66 : decode cX13_takeOther 66 = .ok (.goto (-64), 3) := dk_167 255 192 (dk_at dksX13_takeOther_2 20 rfl rfl)
theorem dX13_takeOther_69 : decode cX13_takeOther 69 = .ok (.iconst 0, 1) := dk_3 (dk_at dksX13_takeOther_2 23 rfl rfl)
theorem dX13_takeOther_70 : decode cX13_takeOther 70 = .ok (.istore_n 3, 1) := dk_62 (dk_at dksX13_takeOther_3 0 rfl rfl)
theorem dX13_takeOther_71 : decode cX13_takeOther 71 = .ok (.iload_n 3, 1) := dk_29 (dk_at dksX13_takeOther_3 1 rfl rfl)
theorem dX13_takeOther_72 : decode cX13_takeOther 72 = .ok (.iload_n 1, 1) := dk_27 (dk_at dksX13_takeOther_3 2 rfl rfl)
theorem dX13_takeOther_73 : decode cX13_takeOther 73 = .ok (.iload_n 2, 1) := dk_28 (dk_at dksX13_takeOther_3 3 rfl rfl)
theorem dX13_takeOther_74 : decode cX13_takeOther 74 = .ok (.iadd, 1) := dk_96 (dk_at dksX13_takeOther_3 4 rfl rfl)
theorem dX13_takeOther_75 : decode cX13_takeOther 75 = .ok (.if_icmp .ge 27, 3) := dk_162 0 27 (dk_at dksX13_takeOther_3 5 rfl rfl)
theorem dX13_takeOther_78 : decode cX13_takeOther 78 = .ok (.aload_n 0, 1) := dk_42 (dk_at dksX13_takeOther_3 8 rfl rfl)
theorem dX13_takeOther_79 : decode cX13_takeOther 79 = .ok (.getfield 7, 3) := dk_180 0 7 (dk_at dksX13_takeOther_3 9 rfl rfl)
theorem dX13_takeOther_82 : decode cX13_takeOther 82 = .ok (.bipush 83, 2) := dk_16 83 (dk_at dksX13_takeOther_3 12 rfl rfl)
theorem dX13_takeOther_84 : decode cX13_takeOther 84 = .ok (.iload_n 3, 1) := dk_29 (dk_at dksX13_takeOther_3 14 rfl rfl)
theorem dX13_takeOther_85 : decode cX13_takeOther 85 = .ok (.iadd, 1) := dk_96 (dk_at dksX13_takeOther_3 15 rfl rfl)
theorem dX13_takeOther_86 : decode cX13_takeOther 86 = .ok (.aload_n 0, 1) := dk_42 (dk_at dksX13_takeOther_3 16 rfl rfl)
theorem dX13_takeOther_87 : decode cX13_takeOther 87 = .ok (.getfield 37, 3) := dk_180 0 37 (dk_at dksX13_takeOther_3 17 rfl rfl)
theorem dX13_takeOther_90 : decode cX13_takeOther 90 = .ok (.bipush 83, 2) := dk_16 83 (dk_at dksX13_takeOther_3 20 rfl rfl)
theorem dX13_takeOther_92 : decode cX13_takeOther 92 = .ok (.iload_n 3, 1) := dk_29 (dk_at dksX13_takeOther_3 22 rfl rfl)
theorem dX13_takeOther_93 : decode cX13_takeOther 93 = .ok (.iadd, 1) := dk_96 (dk_at dksX13_takeOther_3 23 rfl rfl)
theorem dX13_takeOther_94 : decode cX13_takeOther 94 = .ok (.iaload, 1) := dk_46 (dk_at dksX13_takeOther_4 0 rfl rfl)
theorem dX13_takeOther_95 : decode cX13_takeOther 95 = .ok (.iastore, 1) := dk_79 (dk_at dksX13_takeOther_4 1 rfl rfl)
theorem dX13_takeOther_96 : decode cX13_takeOther 96 = .ok (.iinc 3 1, 3) := dk_132 3 1 (dk_at dksX13_takeOther_4 2 rfl rfl)
theorem dX13_takeOther_99 : decode cX13_takeOther 99 = .ok (.goto (-28), 3) := dk_167 255 228 (dk_at dksX13_takeOther_4 5 rfl rfl)
theorem dX13_takeOther_102 : decode cX13_takeOther 102 = .ok (.aload_n 0, 1) := dk_42 (dk_at dksX13_takeOther_4 8 rfl rfl)
theorem dX13_takeOther_103 : decode cX13_takeOther 103 = .ok (.getfield 7, 3) := dk_180 0 7 (dk_at dksX13_takeOther_4 9 rfl rfl)
theorem dX13_takeOther_106 : decode cX13_takeOther 106 = .ok (.iconst 0, 1) := dk_3 (dk_at dksX13_takeOther_4 12 rfl rfl)
theorem dX13_takeOther_107 : decode cX13_takeOther 107 = .ok (.iload_n 1, 1) := dk_27 (dk_at dksX13_takeOther_4 13 rfl rfl)
theorem dX13_takeOther_108 : decode cX13_takeOther 108 = .ok (.iastore, 1) := dk_79 (dk_at dksX13_takeOther_4 14 rfl rfl)
theorem dX13_takeOther_109 : decode cX13_takeOther 109 = .ok (.aload_n 0, 1) := dk_42 (dk_at dksX13_takeOther_4 15 rfl rfl)
theorem dX13_takeOther_110 : decode cX13_takeOther 110 = .ok (.getfield 7, 3) := dk_180 0 7 (dk_at dksX13_takeOther_4 16 rfl rfl)
theorem dX13_takeOther_113 : decode cX13_takeOther 113 = .ok (.iconst 1, 1) := dk_4 (dk_at dksX13_takeOther_4 19 rfl rfl)
theorem dX13_takeOther_114 : decode cX13_takeOther 114 = .ok (.iload_n 2, 1) := dk_28 (dk_at dksX13_takeOther_4 20 rfl rfl)
theorem dX13_takeOther_115 : decode cX13_takeOther 115 = .ok (.iastore, 1) := dk_79 (dk_at dksX13_takeOther_4 21 rfl rfl)
theorem dX13_takeOther_116 : decode cX13_takeOther 116 = .ok (.return_, 1) := dk_177 (dk_at dksX13_takeOther_4 22 rfl rfl)
abbrev cX13_turn : ByteArray := prog_28_method_39_code
def yX13_turn : MethodName := ⟨RX13, "turn", "()I"⟩
def dkwX13_turn_5 : List UInt8 := [167, 255, 211, 42, 27, 28, 182, 0, 127, 42, 182, 0, 130, 42, 182, 0, 51, 27, 172]
abbrev dktX13_turn_5 : List UInt8 := dkwX13_turn_5 ++ []
def dkwX13_turn_4 : List UInt8 := [162, 0, 9, 28, 29, 96, 167, 0, 10, 28, 4, 100, 29, 27, 100, 100, 96, 46, 79, 132, 3, 1]
abbrev dktX13_turn_4 : List UInt8 := dkwX13_turn_4 ++ dktX13_turn_5
def dkwX13_turn_3 : List UInt8 := [62, 29, 27, 28, 96, 162, 0, 44, 42, 180, 0, 37, 16, 83, 29, 96, 42, 180, 0, 7, 16, 83, 29, 27]
abbrev dktX13_turn_3 : List UInt8 := dkwX13_turn_3 ++ dktX13_turn_4
def dkwX13_turn_2 : List UInt8 := [4, 100, 21, 4, 100, 104, 29, 96, 182, 0, 124, 132, 4, 1, 167, 255, 227, 132, 3, 1, 167, 255, 213, 3]
abbrev dktX13_turn_2 : List UInt8 := dkwX13_turn_2 ++ dktX13_turn_3
def dkwX13_turn_1 : List UInt8 := [62, 29, 27, 162, 0, 44, 3, 54, 4, 21, 4, 28, 162, 0, 29, 42, 28, 29, 104, 21, 4, 96, 27, 28]
abbrev dktX13_turn_1 : List UInt8 := dkwX13_turn_1 ++ dktX13_turn_2
def dkwX13_turn_0 : List UInt8 := [42, 3, 181, 0, 43, 42, 182, 0, 102, 42, 180, 0, 7, 4, 46, 60, 42, 180, 0, 7, 3, 46, 61, 3]
abbrev dktX13_turn_0 : List UInt8 := dkwX13_turn_0 ++ dktX13_turn_1
theorem dksX13_turn_0 : cX13_turn.data.toList.drop 0 = dktX13_turn_0 := by decide +kernel
theorem dksX13_turn_1 : cX13_turn.data.toList.drop 24 = dktX13_turn_1 := dk_seg dksX13_turn_0 24 rfl rfl
theorem dksX13_turn_2 : cX13_turn.data.toList.drop 48 = dktX13_turn_2 := dk_seg dksX13_turn_1 24 rfl rfl
theorem dksX13_turn_3 : cX13_turn.data.toList.drop 72 = dktX13_turn_3 := dk_seg dksX13_turn_2 24 rfl rfl
theorem dksX13_turn_4 : cX13_turn.data.toList.drop 96 = dktX13_turn_4 := dk_seg dksX13_turn_3 24 rfl rfl
theorem dksX13_turn_5 : cX13_turn.data.toList.drop 118 = dktX13_turn_5 := dk_seg dksX13_turn_4 22 rfl rfl
theorem dX13_turn_0 : decode cX13_turn 0 = .ok (.aload_n 0, 1) := dk_42 (dk_at dksX13_turn_0 0 rfl rfl)
theorem dX13_turn_1 : decode cX13_turn 1 = .ok (.iconst 0, 1) := dk_3 (dk_at dksX13_turn_0 1 rfl rfl)
theorem dX13_turn_2 : decode cX13_turn 2 = .ok (.putfield 43, 3) := dk_181 0 43 (dk_at dksX13_turn_0 2 rfl rfl)
theorem dX13_turn_5 : decode cX13_turn 5 = .ok (.aload_n 0, 1) := dk_42 (dk_at dksX13_turn_0 5 rfl rfl)
theorem dX13_turn_6 : decode cX13_turn 6 = .ok (.invokevirtual 102, 3) := dk_182 0 102 (dk_at dksX13_turn_0 6 rfl rfl)
theorem dX13_turn_9 : decode cX13_turn 9 = .ok (.aload_n 0, 1) := dk_42 (dk_at dksX13_turn_0 9 rfl rfl)
theorem dX13_turn_10 : decode cX13_turn 10 = .ok (.getfield 7, 3) := dk_180 0 7 (dk_at dksX13_turn_0 10 rfl rfl)
theorem dX13_turn_13 : decode cX13_turn 13 = .ok (.iconst 1, 1) := dk_4 (dk_at dksX13_turn_0 13 rfl rfl)
theorem dX13_turn_14 : decode cX13_turn 14 = .ok (.iaload, 1) := dk_46 (dk_at dksX13_turn_0 14 rfl rfl)
theorem dX13_turn_15 : decode cX13_turn 15 = .ok (.istore_n 1, 1) := dk_60 (dk_at dksX13_turn_0 15 rfl rfl)
theorem dX13_turn_16 : decode cX13_turn 16 = .ok (.aload_n 0, 1) := dk_42 (dk_at dksX13_turn_0 16 rfl rfl)
theorem dX13_turn_17 : decode cX13_turn 17 = .ok (.getfield 7, 3) := dk_180 0 7 (dk_at dksX13_turn_0 17 rfl rfl)
theorem dX13_turn_20 : decode cX13_turn 20 = .ok (.iconst 0, 1) := dk_3 (dk_at dksX13_turn_0 20 rfl rfl)
theorem dX13_turn_21 : decode cX13_turn 21 = .ok (.iaload, 1) := dk_46 (dk_at dksX13_turn_0 21 rfl rfl)
theorem dX13_turn_22 : decode cX13_turn 22 = .ok (.istore_n 2, 1) := dk_61 (dk_at dksX13_turn_0 22 rfl rfl)
theorem dX13_turn_23 : decode cX13_turn 23 = .ok (.iconst 0, 1) := dk_3 (dk_at dksX13_turn_0 23 rfl rfl)
theorem dX13_turn_24 : decode cX13_turn 24 = .ok (.istore_n 3, 1) := dk_62 (dk_at dksX13_turn_1 0 rfl rfl)
theorem dX13_turn_25 : decode cX13_turn 25 = .ok (.iload_n 3, 1) := dk_29 (dk_at dksX13_turn_1 1 rfl rfl)
theorem dX13_turn_26 : decode cX13_turn 26 = .ok (.iload_n 1, 1) := dk_27 (dk_at dksX13_turn_1 2 rfl rfl)
theorem dX13_turn_27 : decode cX13_turn 27 = .ok (.if_icmp .ge 44, 3) := dk_162 0 44 (dk_at dksX13_turn_1 3 rfl rfl)
theorem dX13_turn_30 : decode cX13_turn 30 = .ok (.iconst 0, 1) := dk_3 (dk_at dksX13_turn_1 6 rfl rfl)
theorem dX13_turn_31 : decode cX13_turn 31 = .ok (.istore 4, 2) := dk_54 4 (dk_at dksX13_turn_1 7 rfl rfl)
theorem dX13_turn_33 : decode cX13_turn 33 = .ok (.iload 4, 2) := dk_21 4 (dk_at dksX13_turn_1 9 rfl rfl)
theorem dX13_turn_35 : decode cX13_turn 35 = .ok (.iload_n 2, 1) := dk_28 (dk_at dksX13_turn_1 11 rfl rfl)
theorem dX13_turn_36 : decode cX13_turn 36 = .ok (.if_icmp .ge 29, 3) := dk_162 0 29 (dk_at dksX13_turn_1 12 rfl rfl)
theorem dX13_turn_39 : decode cX13_turn 39 = .ok (.aload_n 0, 1) := dk_42 (dk_at dksX13_turn_1 15 rfl rfl)
theorem dX13_turn_40 : decode cX13_turn 40 = .ok (.iload_n 2, 1) := dk_28 (dk_at dksX13_turn_1 16 rfl rfl)
theorem dX13_turn_41 : decode cX13_turn 41 = .ok (.iload_n 3, 1) := dk_29 (dk_at dksX13_turn_1 17 rfl rfl)
theorem dX13_turn_42 : decode cX13_turn 42 = .ok (.imul, 1) := dk_104 (dk_at dksX13_turn_1 18 rfl rfl)
theorem dX13_turn_43 : decode cX13_turn 43 = .ok (.iload 4, 2) := dk_21 4 (dk_at dksX13_turn_1 19 rfl rfl)
theorem dX13_turn_45 : decode cX13_turn 45 = .ok (.iadd, 1) := dk_96 (dk_at dksX13_turn_1 21 rfl rfl)
theorem dX13_turn_46 : decode cX13_turn 46 = .ok (.iload_n 1, 1) := dk_27 (dk_at dksX13_turn_1 22 rfl rfl)
theorem dX13_turn_47 : decode cX13_turn 47 = .ok (.iload_n 2, 1) := dk_28 (dk_at dksX13_turn_1 23 rfl rfl)
theorem dX13_turn_48 : decode cX13_turn 48 = .ok (.iconst 1, 1) := dk_4 (dk_at dksX13_turn_2 0 rfl rfl)
theorem dX13_turn_49 : decode cX13_turn 49 = .ok (.isub, 1) := dk_100 (dk_at dksX13_turn_2 1 rfl rfl)
theorem dX13_turn_50 : decode cX13_turn 50 = .ok (.iload 4, 2) := dk_21 4 (dk_at dksX13_turn_2 2 rfl rfl)
theorem dX13_turn_52 : decode cX13_turn 52 = .ok (.isub, 1) := dk_100 (dk_at dksX13_turn_2 4 rfl rfl)
theorem dX13_turn_53 : decode cX13_turn 53 = .ok (.imul, 1) := dk_104 (dk_at dksX13_turn_2 5 rfl rfl)
theorem dX13_turn_54 : decode cX13_turn 54 = .ok (.iload_n 3, 1) := dk_29 (dk_at dksX13_turn_2 6 rfl rfl)
theorem dX13_turn_55 : decode cX13_turn 55 = .ok (.iadd, 1) := dk_96 (dk_at dksX13_turn_2 7 rfl rfl)
theorem dX13_turn_56 : decode cX13_turn 56 = .ok (.invokevirtual 124, 3) := dk_182 0 124 (dk_at dksX13_turn_2 8 rfl rfl)
theorem dX13_turn_59 : decode cX13_turn 59 = .ok (.iinc 4 1, 3) := dk_132 4 1 (dk_at dksX13_turn_2 11 rfl rfl)
theorem dX13_turn_62 : decode cX13_turn 62 = .ok (.goto (-29), 3) := dk_167 255 227 (dk_at dksX13_turn_2 14 rfl rfl)
theorem dX13_turn_65 : decode cX13_turn 65 = .ok (.iinc 3 1, 3) := dk_132 3 1 (dk_at dksX13_turn_2 17 rfl rfl)
theorem dX13_turn_68 : decode cX13_turn 68 = .ok (.goto (-43), 3) := dk_167 255 213 (dk_at dksX13_turn_2 20 rfl rfl)
theorem dX13_turn_71 : decode cX13_turn 71 = .ok (.iconst 0, 1) := dk_3 (dk_at dksX13_turn_2 23 rfl rfl)
theorem dX13_turn_72 : decode cX13_turn 72 = .ok (.istore_n 3, 1) := dk_62 (dk_at dksX13_turn_3 0 rfl rfl)
theorem dX13_turn_73 : decode cX13_turn 73 = .ok (.iload_n 3, 1) := dk_29 (dk_at dksX13_turn_3 1 rfl rfl)
theorem dX13_turn_74 : decode cX13_turn 74 = .ok (.iload_n 1, 1) := dk_27 (dk_at dksX13_turn_3 2 rfl rfl)
theorem dX13_turn_75 : decode cX13_turn 75 = .ok (.iload_n 2, 1) := dk_28 (dk_at dksX13_turn_3 3 rfl rfl)
theorem dX13_turn_76 : decode cX13_turn 76 = .ok (.iadd, 1) := dk_96 (dk_at dksX13_turn_3 4 rfl rfl)
theorem dX13_turn_77 : decode cX13_turn 77 = .ok (.if_icmp .ge 44, 3) := dk_162 0 44 (dk_at dksX13_turn_3 5 rfl rfl)
theorem dX13_turn_80 : decode cX13_turn 80 = .ok (.aload_n 0, 1) := dk_42 (dk_at dksX13_turn_3 8 rfl rfl)
theorem dX13_turn_81 : decode cX13_turn 81 = .ok (.getfield 37, 3) := dk_180 0 37 (dk_at dksX13_turn_3 9 rfl rfl)
theorem dX13_turn_84 : decode cX13_turn 84 = .ok (.bipush 83, 2) := dk_16 83 (dk_at dksX13_turn_3 12 rfl rfl)
theorem dX13_turn_86 : decode cX13_turn 86 = .ok (.iload_n 3, 1) := dk_29 (dk_at dksX13_turn_3 14 rfl rfl)
theorem dX13_turn_87 : decode cX13_turn 87 = .ok (.iadd, 1) := dk_96 (dk_at dksX13_turn_3 15 rfl rfl)
theorem dX13_turn_88 : decode cX13_turn 88 = .ok (.aload_n 0, 1) := dk_42 (dk_at dksX13_turn_3 16 rfl rfl)
theorem dX13_turn_89 : decode cX13_turn 89 = .ok (.getfield 7, 3) := dk_180 0 7 (dk_at dksX13_turn_3 17 rfl rfl)
theorem dX13_turn_92 : decode cX13_turn 92 = .ok (.bipush 83, 2) := dk_16 83 (dk_at dksX13_turn_3 20 rfl rfl)
theorem dX13_turn_94 : decode cX13_turn 94 = .ok (.iload_n 3, 1) := dk_29 (dk_at dksX13_turn_3 22 rfl rfl)
theorem dX13_turn_95 : decode cX13_turn 95 = .ok (.iload_n 1, 1) := dk_27 (dk_at dksX13_turn_3 23 rfl rfl)
theorem dX13_turn_96 : decode cX13_turn 96 = .ok (.if_icmp .ge 9, 3) := dk_162 0 9 (dk_at dksX13_turn_4 0 rfl rfl)
theorem dX13_turn_99 : decode cX13_turn 99 = .ok (.iload_n 2, 1) := dk_28 (dk_at dksX13_turn_4 3 rfl rfl)
theorem dX13_turn_100 : decode cX13_turn 100 = .ok (.iload_n 3, 1) := dk_29 (dk_at dksX13_turn_4 4 rfl rfl)
theorem dX13_turn_101 : decode cX13_turn 101 = .ok (.iadd, 1) := dk_96 (dk_at dksX13_turn_4 5 rfl rfl)
theorem dX13_turn_102 : decode cX13_turn 102 = .ok (.goto 10, 3) := dk_167 0 10 (dk_at dksX13_turn_4 6 rfl rfl)
theorem dX13_turn_105 : decode cX13_turn 105 = .ok (.iload_n 2, 1) := dk_28 (dk_at dksX13_turn_4 9 rfl rfl)
theorem dX13_turn_106 : decode cX13_turn 106 = .ok (.iconst 1, 1) := dk_4 (dk_at dksX13_turn_4 10 rfl rfl)
theorem dX13_turn_107 : decode cX13_turn 107 = .ok (.isub, 1) := dk_100 (dk_at dksX13_turn_4 11 rfl rfl)
theorem dX13_turn_108 : decode cX13_turn 108 = .ok (.iload_n 3, 1) := dk_29 (dk_at dksX13_turn_4 12 rfl rfl)
theorem dX13_turn_109 : decode cX13_turn 109 = .ok (.iload_n 1, 1) := dk_27 (dk_at dksX13_turn_4 13 rfl rfl)
theorem dX13_turn_110 : decode cX13_turn 110 = .ok (.isub, 1) := dk_100 (dk_at dksX13_turn_4 14 rfl rfl)
theorem dX13_turn_111 : decode cX13_turn 111 = .ok (.isub, 1) := dk_100 (dk_at dksX13_turn_4 15 rfl rfl)
theorem dX13_turn_112 : decode cX13_turn 112 = .ok (.iadd, 1) := dk_96 (dk_at dksX13_turn_4 16 rfl rfl)
theorem dX13_turn_113 : decode cX13_turn 113 = .ok (.iaload, 1) := dk_46 (dk_at dksX13_turn_4 17 rfl rfl)
theorem dX13_turn_114 : decode cX13_turn 114 = .ok (.iastore, 1) := dk_79 (dk_at dksX13_turn_4 18 rfl rfl)
theorem dX13_turn_115 : decode cX13_turn 115 = .ok (.iinc 3 1, 3) := dk_132 3 1 (dk_at dksX13_turn_4 19 rfl rfl)
theorem dX13_turn_118 : decode cX13_turn 118 = .ok (.goto (-45), 3) := dk_167 255 211 (dk_at dksX13_turn_5 0 rfl rfl)
theorem dX13_turn_121 : decode cX13_turn 121 = .ok (.aload_n 0, 1) := dk_42 (dk_at dksX13_turn_5 3 rfl rfl)
theorem dX13_turn_122 : decode cX13_turn 122 = .ok (.iload_n 1, 1) := dk_27 (dk_at dksX13_turn_5 4 rfl rfl)
theorem dX13_turn_123 : decode cX13_turn 123 = .ok (.iload_n 2, 1) := dk_28 (dk_at dksX13_turn_5 5 rfl rfl)
theorem dX13_turn_124 : decode cX13_turn 124 = .ok (.invokevirtual 127, 3) := dk_182 0 127 (dk_at dksX13_turn_5 6 rfl rfl)
theorem dX13_turn_127 : decode cX13_turn 127 = .ok (.aload_n 0, 1) := dk_42 (dk_at dksX13_turn_5 9 rfl rfl)
theorem dX13_turn_128 : decode cX13_turn 128 = .ok (.invokevirtual 130, 3) := dk_182 0 130 (dk_at dksX13_turn_5 10 rfl rfl)
theorem dX13_turn_131 : decode cX13_turn 131 = .ok (.aload_n 0, 1) := dk_42 (dk_at dksX13_turn_5 13 rfl rfl)
theorem dX13_turn_132 : decode cX13_turn 132 = .ok (.invokevirtual 51, 3) := dk_182 0 51 (dk_at dksX13_turn_5 14 rfl rfl)
theorem dX13_turn_135 : decode cX13_turn 135 = .ok (.iload_n 1, 1) := dk_27 (dk_at dksX13_turn_5 17 rfl rfl)
theorem dX13_turn_136 : decode cX13_turn 136 = .ok (.ireturn, 1) := dk_172 (dk_at dksX13_turn_5 18 rfl rfl)
abbrev cX13_renumberTurned : ByteArray := prog_28_method_40_code
def yX13_renumberTurned : MethodName := ⟨RX13, "renumberTurned", "()V"⟩
def dkwX13_renumberTurned_0 : List UInt8 := [42, 182, 0, 118, 60, 177]
abbrev dktX13_renumberTurned_0 : List UInt8 := dkwX13_renumberTurned_0 ++ []
theorem dksX13_renumberTurned_0 : cX13_renumberTurned.data.toList.drop 0 = dktX13_renumberTurned_0 := by decide +kernel
theorem dX13_renumberTurned_0 : decode cX13_renumberTurned 0 = .ok (.aload_n 0, 1) := dk_42 (dk_at dksX13_renumberTurned_0 0 rfl rfl)
theorem dX13_renumberTurned_1 : decode cX13_renumberTurned 1 = .ok (.invokevirtual 118, 3) := dk_182 0 118 (dk_at dksX13_renumberTurned_0 1 rfl rfl)
theorem dX13_renumberTurned_4 : decode cX13_renumberTurned 4 = .ok (.istore_n 1, 1) := dk_60 (dk_at dksX13_renumberTurned_0 4 rfl rfl)
theorem dX13_renumberTurned_5 : decode cX13_renumberTurned 5 = .ok (.return_, 1) := dk_177 (dk_at dksX13_renumberTurned_0 5 rfl rfl)
abbrev cX13_write : ByteArray := prog_28_method_42_code
def yX13_write : MethodName := ⟨RX13, "write", "(II)I"⟩
def dkwX13_write_3 : List UInt8 := [27, 96, 28, 79, 42, 182, 0, 51, 29, 172]
abbrev dktX13_write_3 : List UInt8 := dkwX13_write_3 ++ []
def dkwX13_write_2 : List UInt8 := [182, 0, 102, 42, 27, 182, 0, 99, 62, 28, 154, 0, 8, 42, 27, 182, 0, 89, 42, 180, 0, 7, 16, 33]
abbrev dktX13_write_2 : List UInt8 := dkwX13_write_2 ++ dktX13_write_3
def dkwX13_write_1 : List UInt8 := [154, 0, 5, 2, 172, 28, 153, 0, 15, 42, 27, 28, 182, 0, 133, 153, 0, 6, 16, 254, 172, 42]
abbrev dktX13_write_1 : List UInt8 := dkwX13_write_1 ++ dktX13_write_2
def dkwX13_write_0 : List UInt8 := [42, 3, 181, 0, 43, 42, 27, 182, 0, 108, 153, 0, 16, 28, 3, 42, 27, 182, 0, 121, 184, 0, 65]
abbrev dktX13_write_0 : List UInt8 := dkwX13_write_0 ++ dktX13_write_1
theorem dksX13_write_0 : cX13_write.data.toList.drop 0 = dktX13_write_0 := by decide +kernel
theorem dksX13_write_1 : cX13_write.data.toList.drop 23 = dktX13_write_1 := dk_seg dksX13_write_0 23 rfl rfl
theorem dksX13_write_2 : cX13_write.data.toList.drop 45 = dktX13_write_2 := dk_seg dksX13_write_1 22 rfl rfl
theorem dksX13_write_3 : cX13_write.data.toList.drop 69 = dktX13_write_3 := dk_seg dksX13_write_2 24 rfl rfl
theorem dX13_write_0 : decode cX13_write 0 = .ok (.aload_n 0, 1) := dk_42 (dk_at dksX13_write_0 0 rfl rfl)
theorem dX13_write_1 : decode cX13_write 1 = .ok (.iconst 0, 1) := dk_3 (dk_at dksX13_write_0 1 rfl rfl)
theorem dX13_write_2 : decode cX13_write 2 = .ok (.putfield 43, 3) := dk_181 0 43 (dk_at dksX13_write_0 2 rfl rfl)
theorem dX13_write_5 : decode cX13_write 5 = .ok (.aload_n 0, 1) := dk_42 (dk_at dksX13_write_0 5 rfl rfl)
theorem dX13_write_6 : decode cX13_write 6 = .ok (.iload_n 1, 1) := dk_27 (dk_at dksX13_write_0 6 rfl rfl)
theorem dX13_write_7 : decode cX13_write 7 = .ok (.invokevirtual 108, 3) := dk_182 0 108 (dk_at dksX13_write_0 7 rfl rfl)
theorem dX13_write_10 : decode cX13_write 10 = .ok (.ifCond .eq 16, 3) := dk_153 0 16 (dk_at dksX13_write_0 10 rfl rfl)
theorem dX13_write_13 : decode cX13_write 13 = .ok (.iload_n 2, 1) := dk_28 (dk_at dksX13_write_0 13 rfl rfl)
theorem dX13_write_14 : decode cX13_write 14 = .ok (.iconst 0, 1) := dk_3 (dk_at dksX13_write_0 14 rfl rfl)
theorem dX13_write_15 : decode cX13_write 15 = .ok (.aload_n 0, 1) := dk_42 (dk_at dksX13_write_0 15 rfl rfl)
theorem dX13_write_16 : decode cX13_write 16 = .ok (.iload_n 1, 1) := dk_27 (dk_at dksX13_write_0 16 rfl rfl)
theorem dX13_write_17 : decode cX13_write 17 = .ok (.invokevirtual 121, 3) := dk_182 0 121 (dk_at dksX13_write_0 17 rfl rfl)
theorem dX13_write_20 : decode cX13_write 20 = .ok (.invokestatic 65, 3) := dk_184 0 65 (dk_at dksX13_write_0 20 rfl rfl)
theorem dX13_write_23 : decode cX13_write 23 = .ok (.ifCond .ne 5, 3) := dk_154 0 5 (dk_at dksX13_write_1 0 rfl rfl)
theorem dX13_write_26 : decode cX13_write 26 = .ok (.iconst (-1), 1) := dk_2 (dk_at dksX13_write_1 3 rfl rfl)
theorem dX13_write_27 : decode cX13_write 27 = .ok (.ireturn, 1) := dk_172 (dk_at dksX13_write_1 4 rfl rfl)
theorem dX13_write_28 : decode cX13_write 28 = .ok (.iload_n 2, 1) := dk_28 (dk_at dksX13_write_1 5 rfl rfl)
theorem dX13_write_29 : decode cX13_write 29 = .ok (.ifCond .eq 15, 3) := dk_153 0 15 (dk_at dksX13_write_1 6 rfl rfl)
theorem dX13_write_32 : decode cX13_write 32 = .ok (.aload_n 0, 1) := dk_42 (dk_at dksX13_write_1 9 rfl rfl)
theorem dX13_write_33 : decode cX13_write 33 = .ok (.iload_n 1, 1) := dk_27 (dk_at dksX13_write_1 10 rfl rfl)
theorem dX13_write_34 : decode cX13_write 34 = .ok (.iload_n 2, 1) := dk_28 (dk_at dksX13_write_1 11 rfl rfl)
theorem dX13_write_35 : decode cX13_write 35 = .ok (.invokevirtual 133, 3) := dk_182 0 133 (dk_at dksX13_write_1 12 rfl rfl)
theorem dX13_write_38 : decode cX13_write 38 = .ok (.ifCond .eq 6, 3) := dk_153 0 6 (dk_at dksX13_write_1 15 rfl rfl)
theorem dX13_write_41 : decode cX13_write 41 = .ok (.bipush (-2), 2) := dk_16 254 (dk_at dksX13_write_1 18 rfl rfl)
theorem dX13_write_43 : decode cX13_write 43 = .ok (.ireturn, 1) := dk_172 (dk_at dksX13_write_1 20 rfl rfl)
theorem dX13_write_44 : decode cX13_write 44 = .ok (.aload_n 0, 1) := dk_42 (dk_at dksX13_write_1 21 rfl rfl)
theorem dX13_write_45 : decode cX13_write 45 = .ok (.invokevirtual 102, 3) := dk_182 0 102 (dk_at dksX13_write_2 0 rfl rfl)
theorem dX13_write_48 : decode cX13_write 48 = .ok (.aload_n 0, 1) := dk_42 (dk_at dksX13_write_2 3 rfl rfl)
theorem dX13_write_49 : decode cX13_write 49 = .ok (.iload_n 1, 1) := dk_27 (dk_at dksX13_write_2 4 rfl rfl)
theorem dX13_write_50 : decode cX13_write 50 = .ok (.invokevirtual 99, 3) := dk_182 0 99 (dk_at dksX13_write_2 5 rfl rfl)
theorem dX13_write_53 : decode cX13_write 53 = .ok (.istore_n 3, 1) := dk_62 (dk_at dksX13_write_2 8 rfl rfl)
theorem dX13_write_54 : decode cX13_write 54 = .ok (.iload_n 2, 1) := dk_28 (dk_at dksX13_write_2 9 rfl rfl)
theorem dX13_write_55 : decode cX13_write 55 = .ok (.ifCond .ne 8, 3) := dk_154 0 8 (dk_at dksX13_write_2 10 rfl rfl)
theorem dX13_write_58 : decode cX13_write 58 = .ok (.aload_n 0, 1) := dk_42 (dk_at dksX13_write_2 13 rfl rfl)
theorem dX13_write_59 : decode cX13_write 59 = .ok (.iload_n 1, 1) := dk_27 (dk_at dksX13_write_2 14 rfl rfl)
theorem dX13_write_60 : decode cX13_write 60 = .ok (.invokevirtual 89, 3) := dk_182 0 89 (dk_at dksX13_write_2 15 rfl rfl)
theorem dX13_write_63 : decode cX13_write 63 = .ok (.aload_n 0, 1) := dk_42 (dk_at dksX13_write_2 18 rfl rfl)
theorem dX13_write_64 : decode cX13_write 64 = .ok (.getfield 7, 3) := dk_180 0 7 (dk_at dksX13_write_2 19 rfl rfl)
theorem dX13_write_67 : decode cX13_write 67 = .ok (.bipush 33, 2) := dk_16 33 (dk_at dksX13_write_2 22 rfl rfl)
theorem dX13_write_69 : decode cX13_write 69 = .ok (.iload_n 1, 1) := dk_27 (dk_at dksX13_write_3 0 rfl rfl)
theorem dX13_write_70 : decode cX13_write 70 = .ok (.iadd, 1) := dk_96 (dk_at dksX13_write_3 1 rfl rfl)
theorem dX13_write_71 : decode cX13_write 71 = .ok (.iload_n 2, 1) := dk_28 (dk_at dksX13_write_3 2 rfl rfl)
theorem dX13_write_72 : decode cX13_write 72 = .ok (.iastore, 1) := dk_79 (dk_at dksX13_write_3 3 rfl rfl)
theorem dX13_write_73 : decode cX13_write 73 = .ok (.aload_n 0, 1) := dk_42 (dk_at dksX13_write_3 4 rfl rfl)
theorem dX13_write_74 : decode cX13_write 74 = .ok (.invokevirtual 51, 3) := dk_182 0 51 (dk_at dksX13_write_3 5 rfl rfl)
theorem dX13_write_77 : decode cX13_write 77 = .ok (.iload_n 3, 1) := dk_29 (dk_at dksX13_write_3 8 rfl rfl)
theorem dX13_write_78 : decode cX13_write 78 = .ok (.ireturn, 1) := dk_172 (dk_at dksX13_write_3 9 rfl rfl)
abbrev cX13_isTaken : ByteArray := prog_28_method_41_code
def yX13_isTaken : MethodName := ⟨RX13, "isTaken", "(II)Z"⟩
def dkwX13_isTaken_2 : List UInt8 := [4, 167, 0, 4, 3, 62, 132, 4, 1, 167, 255, 204, 29, 172]
abbrev dktX13_isTaken_2 : List UInt8 := dkwX13_isTaken_2 ++ []
def dkwX13_isTaken_1 : List UInt8 := [42, 21, 4, 182, 0, 72, 42, 27, 182, 0, 72, 160, 0, 17, 42, 21, 4, 182, 0, 99, 28, 160, 0, 7]
abbrev dktX13_isTaken_1 : List UInt8 := dkwX13_isTaken_1 ++ dktX13_isTaken_2
def dkwX13_isTaken_0 : List UInt8 := [3, 62, 3, 54, 4, 21, 4, 42, 182, 0, 61, 162, 0, 49, 29, 154, 0, 33, 21, 4, 27, 159, 0, 31]
abbrev dktX13_isTaken_0 : List UInt8 := dkwX13_isTaken_0 ++ dktX13_isTaken_1
theorem dksX13_isTaken_0 : cX13_isTaken.data.toList.drop 0 = dktX13_isTaken_0 := by decide +kernel
theorem dksX13_isTaken_1 : cX13_isTaken.data.toList.drop 24 = dktX13_isTaken_1 := dk_seg dksX13_isTaken_0 24 rfl rfl
theorem dksX13_isTaken_2 : cX13_isTaken.data.toList.drop 48 = dktX13_isTaken_2 := dk_seg dksX13_isTaken_1 24 rfl rfl
theorem dX13_isTaken_0 : decode cX13_isTaken 0 = .ok (.iconst 0, 1) := dk_3 (dk_at dksX13_isTaken_0 0 rfl rfl)
theorem dX13_isTaken_1 : decode cX13_isTaken 1 = .ok (.istore_n 3, 1) := dk_62 (dk_at dksX13_isTaken_0 1 rfl rfl)
theorem dX13_isTaken_2 : decode cX13_isTaken 2 = .ok (.iconst 0, 1) := dk_3 (dk_at dksX13_isTaken_0 2 rfl rfl)
theorem dX13_isTaken_3 : decode cX13_isTaken 3 = .ok (.istore 4, 2) := dk_54 4 (dk_at dksX13_isTaken_0 3 rfl rfl)
theorem dX13_isTaken_5 : decode cX13_isTaken 5 = .ok (.iload 4, 2) := dk_21 4 (dk_at dksX13_isTaken_0 5 rfl rfl)
theorem dX13_isTaken_7 : decode cX13_isTaken 7 = .ok (.aload_n 0, 1) := dk_42 (dk_at dksX13_isTaken_0 7 rfl rfl)
theorem dX13_isTaken_8 : decode cX13_isTaken 8 = .ok (.invokevirtual 61, 3) := dk_182 0 61 (dk_at dksX13_isTaken_0 8 rfl rfl)
theorem dX13_isTaken_11 : decode cX13_isTaken 11 = .ok (.if_icmp .ge 49, 3) := dk_162 0 49 (dk_at dksX13_isTaken_0 11 rfl rfl)
theorem dX13_isTaken_14 : decode cX13_isTaken 14 = .ok (.iload_n 3, 1) := dk_29 (dk_at dksX13_isTaken_0 14 rfl rfl)
theorem dX13_isTaken_15 : decode cX13_isTaken 15 = .ok (.ifCond .ne 33, 3) := dk_154 0 33 (dk_at dksX13_isTaken_0 15 rfl rfl)
theorem dX13_isTaken_18 : decode cX13_isTaken 18 = .ok (.iload 4, 2) := dk_21 4 (dk_at dksX13_isTaken_0 18 rfl rfl)
theorem dX13_isTaken_20 : decode cX13_isTaken 20 = .ok (.iload_n 1, 1) := dk_27 (dk_at dksX13_isTaken_0 20 rfl rfl)
theorem dX13_isTaken_21 : decode cX13_isTaken 21 = .ok (.if_icmp .eq 31, 3) := dk_159 0 31 (dk_at dksX13_isTaken_0 21 rfl rfl)
theorem dX13_isTaken_24 : decode cX13_isTaken 24 = .ok (.aload_n 0, 1) := dk_42 (dk_at dksX13_isTaken_1 0 rfl rfl)
theorem dX13_isTaken_25 : decode cX13_isTaken 25 = .ok (.iload 4, 2) := dk_21 4 (dk_at dksX13_isTaken_1 1 rfl rfl)
theorem dX13_isTaken_27 : decode cX13_isTaken 27 = .ok (.invokevirtual 72, 3) := dk_182 0 72 (dk_at dksX13_isTaken_1 3 rfl rfl)
theorem dX13_isTaken_30 : decode cX13_isTaken 30 = .ok (.aload_n 0, 1) := dk_42 (dk_at dksX13_isTaken_1 6 rfl rfl)
theorem dX13_isTaken_31 : decode cX13_isTaken 31 = .ok (.iload_n 1, 1) := dk_27 (dk_at dksX13_isTaken_1 7 rfl rfl)
theorem dX13_isTaken_32 : decode cX13_isTaken 32 = .ok (.invokevirtual 72, 3) := dk_182 0 72 (dk_at dksX13_isTaken_1 8 rfl rfl)
theorem dX13_isTaken_35 : decode cX13_isTaken 35 = .ok (.if_icmp .ne 17, 3) := dk_160 0 17 (dk_at dksX13_isTaken_1 11 rfl rfl)
theorem dX13_isTaken_38 : decode cX13_isTaken 38 = .ok (.aload_n 0, 1) := dk_42 (dk_at dksX13_isTaken_1 14 rfl rfl)
theorem dX13_isTaken_39 : decode cX13_isTaken 39 = .ok (.iload 4, 2) := dk_21 4 (dk_at dksX13_isTaken_1 15 rfl rfl)
theorem dX13_isTaken_41 : decode cX13_isTaken 41 = .ok (.invokevirtual 99, 3) := dk_182 0 99 (dk_at dksX13_isTaken_1 17 rfl rfl)
theorem dX13_isTaken_44 : decode cX13_isTaken 44 = .ok (.iload_n 2, 1) := dk_28 (dk_at dksX13_isTaken_1 20 rfl rfl)
theorem dX13_isTaken_45 : decode cX13_isTaken 45 = .ok (.if_icmp .ne 7, 3) := dk_160 0 7 (dk_at dksX13_isTaken_1 21 rfl rfl)
theorem dX13_isTaken_48 : decode cX13_isTaken 48 = .ok (.iconst 1, 1) := dk_4 (dk_at dksX13_isTaken_2 0 rfl rfl)
theorem dX13_isTaken_49 : decode cX13_isTaken 49 = .ok (.goto 4, 3) := dk_167 0 4 (dk_at dksX13_isTaken_2 1 rfl rfl)
theorem dX13_isTaken_52 : decode cX13_isTaken 52 = .ok (.iconst 0, 1) := dk_3 (dk_at dksX13_isTaken_2 4 rfl rfl)
theorem dX13_isTaken_53 : decode cX13_isTaken 53 = .ok (.istore_n 3, 1) := dk_62 (dk_at dksX13_isTaken_2 5 rfl rfl)
theorem dX13_isTaken_54 : decode cX13_isTaken 54 = .ok (.iinc 4 1, 3) := dk_132 4 1 (dk_at dksX13_isTaken_2 6 rfl rfl)
theorem dX13_isTaken_57 : decode cX13_isTaken 57 = .ok (.goto (-52), 3) := dk_167 255 204 (dk_at dksX13_isTaken_2 9 rfl rfl)
theorem dX13_isTaken_60 : decode cX13_isTaken 60 = .ok (.iload_n 3, 1) := dk_29 (dk_at dksX13_isTaken_2 12 rfl rfl)
theorem dX13_isTaken_61 : decode cX13_isTaken 61 = .ok (.ireturn, 1) := dk_172 (dk_at dksX13_isTaken_2 13 rfl rfl)
abbrev cX13_fill : ByteArray := prog_28_method_44_code
def yX13_fill : MethodName := ⟨RX13, "fill", "()I"⟩
def dkwX13_fill_3 : List UInt8 := [167, 255, 210, 42, 182, 0, 51, 27, 172]
abbrev dktX13_fill_3 : List UInt8 := dkwX13_fill_3 ++ []
def dkwX13_fill_2 : List UInt8 := [153, 0, 9, 132, 3, 1, 167, 255, 244, 42, 180, 0, 7, 16, 33, 28, 96, 29, 79, 132, 2, 1]
abbrev dktX13_fill_2 : List UInt8 := dkwX13_fill_2 ++ dktX13_fill_3
def dkwX13_fill_1 : List UInt8 := [42, 182, 0, 61, 162, 0, 44, 42, 28, 182, 0, 99, 154, 0, 30, 4, 62, 42, 28, 29, 182, 0, 133]
abbrev dktX13_fill_1 : List UInt8 := dkwX13_fill_1 ++ dktX13_fill_2
def dkwX13_fill_0 : List UInt8 := [42, 3, 181, 0, 43, 42, 182, 0, 136, 60, 27, 154, 0, 6, 16, 254, 172, 42, 182, 0, 102, 3, 61, 28]
abbrev dktX13_fill_0 : List UInt8 := dkwX13_fill_0 ++ dktX13_fill_1
theorem dksX13_fill_0 : cX13_fill.data.toList.drop 0 = dktX13_fill_0 := by decide +kernel
theorem dksX13_fill_1 : cX13_fill.data.toList.drop 24 = dktX13_fill_1 := dk_seg dksX13_fill_0 24 rfl rfl
theorem dksX13_fill_2 : cX13_fill.data.toList.drop 47 = dktX13_fill_2 := dk_seg dksX13_fill_1 23 rfl rfl
theorem dksX13_fill_3 : cX13_fill.data.toList.drop 69 = dktX13_fill_3 := dk_seg dksX13_fill_2 22 rfl rfl
theorem dX13_fill_0 : decode cX13_fill 0 = .ok (.aload_n 0, 1) := dk_42 (dk_at dksX13_fill_0 0 rfl rfl)
theorem dX13_fill_1 : decode cX13_fill 1 = .ok (.iconst 0, 1) := dk_3 (dk_at dksX13_fill_0 1 rfl rfl)
theorem dX13_fill_2 : decode cX13_fill 2 = .ok (.putfield 43, 3) := dk_181 0 43 (dk_at dksX13_fill_0 2 rfl rfl)
theorem dX13_fill_5 : decode cX13_fill 5 = .ok (.aload_n 0, 1) := dk_42 (dk_at dksX13_fill_0 5 rfl rfl)
theorem dX13_fill_6 : decode cX13_fill 6 = .ok (.invokevirtual 136, 3) := dk_182 0 136 (dk_at dksX13_fill_0 6 rfl rfl)
theorem dX13_fill_9 : decode cX13_fill 9 = .ok (.istore_n 1, 1) := dk_60 (dk_at dksX13_fill_0 9 rfl rfl)
theorem dX13_fill_10 : decode cX13_fill 10 = .ok (.iload_n 1, 1) := dk_27 (dk_at dksX13_fill_0 10 rfl rfl)
theorem dX13_fill_11 : decode cX13_fill 11 = .ok (.ifCond .ne 6, 3) := dk_154 0 6 (dk_at dksX13_fill_0 11 rfl rfl)
theorem dX13_fill_14 : decode cX13_fill 14 = .ok (.bipush (-2), 2) := dk_16 254 (dk_at dksX13_fill_0 14 rfl rfl)
theorem dX13_fill_16 : decode cX13_fill 16 = .ok (.ireturn, 1) := dk_172 (dk_at dksX13_fill_0 16 rfl rfl)
theorem dX13_fill_17 : decode cX13_fill 17 = .ok (.aload_n 0, 1) := dk_42 (dk_at dksX13_fill_0 17 rfl rfl)
theorem dX13_fill_18 : decode cX13_fill 18 = .ok (.invokevirtual 102, 3) := dk_182 0 102 (dk_at dksX13_fill_0 18 rfl rfl)
theorem dX13_fill_21 : decode cX13_fill 21 = .ok (.iconst 0, 1) := dk_3 (dk_at dksX13_fill_0 21 rfl rfl)
theorem dX13_fill_22 : decode cX13_fill 22 = .ok (.istore_n 2, 1) := dk_61 (dk_at dksX13_fill_0 22 rfl rfl)
theorem dX13_fill_23 : decode cX13_fill 23 = .ok (.iload_n 2, 1) := dk_28 (dk_at dksX13_fill_0 23 rfl rfl)
theorem dX13_fill_24 : decode cX13_fill 24 = .ok (.aload_n 0, 1) := dk_42 (dk_at dksX13_fill_1 0 rfl rfl)
theorem dX13_fill_25 : decode cX13_fill 25 = .ok (.invokevirtual 61, 3) := dk_182 0 61 (dk_at dksX13_fill_1 1 rfl rfl)
theorem dX13_fill_28 : decode cX13_fill 28 = .ok (.if_icmp .ge 44, 3) := dk_162 0 44 (dk_at dksX13_fill_1 4 rfl rfl)
theorem dX13_fill_31 : decode cX13_fill 31 = .ok (.aload_n 0, 1) := dk_42 (dk_at dksX13_fill_1 7 rfl rfl)
theorem dX13_fill_32 : decode cX13_fill 32 = .ok (.iload_n 2, 1) := dk_28 (dk_at dksX13_fill_1 8 rfl rfl)
theorem dX13_fill_33 : decode cX13_fill 33 = .ok (.invokevirtual 99, 3) := dk_182 0 99 (dk_at dksX13_fill_1 9 rfl rfl)
theorem dX13_fill_36 : decode cX13_fill 36 = .ok (.ifCond .ne 30, 3) := dk_154 0 30 (dk_at dksX13_fill_1 12 rfl rfl)
theorem dX13_fill_39 : decode cX13_fill 39 = .ok (.iconst 1, 1) := dk_4 (dk_at dksX13_fill_1 15 rfl rfl)
theorem dX13_fill_40 : decode cX13_fill 40 = .ok (.istore_n 3, 1) := dk_62 (dk_at dksX13_fill_1 16 rfl rfl)
theorem dX13_fill_41 : decode cX13_fill 41 = .ok (.aload_n 0, 1) := dk_42 (dk_at dksX13_fill_1 17 rfl rfl)
theorem dX13_fill_42 : decode cX13_fill 42 = .ok (.iload_n 2, 1) := dk_28 (dk_at dksX13_fill_1 18 rfl rfl)
theorem dX13_fill_43 : decode cX13_fill 43 = .ok (.iload_n 3, 1) := dk_29 (dk_at dksX13_fill_1 19 rfl rfl)
theorem dX13_fill_44 : decode cX13_fill 44 = .ok (.invokevirtual 133, 3) := dk_182 0 133 (dk_at dksX13_fill_1 20 rfl rfl)
theorem dX13_fill_47 : decode cX13_fill 47 = .ok (.ifCond .eq 9, 3) := dk_153 0 9 (dk_at dksX13_fill_2 0 rfl rfl)
theorem dX13_fill_50 : decode cX13_fill 50 = .ok (.iinc 3 1, 3) := dk_132 3 1 (dk_at dksX13_fill_2 3 rfl rfl)
theorem dX13_fill_53 : decode cX13_fill 53 = .ok (.goto (-12), 3) := dk_167 255 244 (dk_at dksX13_fill_2 6 rfl rfl)
theorem dX13_fill_56 : decode cX13_fill 56 = .ok (.aload_n 0, 1) := dk_42 (dk_at dksX13_fill_2 9 rfl rfl)
theorem dX13_fill_57 : decode cX13_fill 57 = .ok (.getfield 7, 3) := dk_180 0 7 (dk_at dksX13_fill_2 10 rfl rfl)
theorem dX13_fill_60 : decode cX13_fill 60 = .ok (.bipush 33, 2) := dk_16 33 (dk_at dksX13_fill_2 13 rfl rfl)
theorem dX13_fill_62 : decode cX13_fill 62 = .ok (.iload_n 2, 1) := dk_28 (dk_at dksX13_fill_2 15 rfl rfl)
theorem dX13_fill_63 : decode cX13_fill 63 = .ok (.iadd, 1) := dk_96 (dk_at dksX13_fill_2 16 rfl rfl)
theorem dX13_fill_64 : decode cX13_fill 64 = .ok (.iload_n 3, 1) := dk_29 (dk_at dksX13_fill_2 17 rfl rfl)
theorem dX13_fill_65 : decode cX13_fill 65 = .ok (.iastore, 1) := dk_79 (dk_at dksX13_fill_2 18 rfl rfl)
theorem dX13_fill_66 : decode cX13_fill 66 = .ok (.iinc 2 1, 3) := dk_132 2 1 (dk_at dksX13_fill_2 19 rfl rfl)
theorem dX13_fill_69 : decode cX13_fill 69 = .ok (.goto (-46), 3) := dk_167 255 210 (dk_at dksX13_fill_3 0 rfl rfl)
theorem dX13_fill_72 : decode cX13_fill 72 = .ok (.aload_n 0, 1) := dk_42 (dk_at dksX13_fill_3 3 rfl rfl)
theorem dX13_fill_73 : decode cX13_fill 73 = .ok (.invokevirtual 51, 3) := dk_182 0 51 (dk_at dksX13_fill_3 4 rfl rfl)
theorem dX13_fill_76 : decode cX13_fill 76 = .ok (.iload_n 1, 1) := dk_27 (dk_at dksX13_fill_3 7 rfl rfl)
theorem dX13_fill_77 : decode cX13_fill 77 = .ok (.ireturn, 1) := dk_172 (dk_at dksX13_fill_3 8 rfl rfl)
abbrev cX13_emptyMany : ByteArray := prog_28_method_43_code
def yX13_emptyMany : MethodName := ⟨RX13, "emptyMany", "()I"⟩
def dkwX13_emptyMany_1 : List UInt8 := [167, 0, 4, 3, 96, 60, 132, 2, 1, 167, 255, 229, 27, 172]
abbrev dktX13_emptyMany_1 : List UInt8 := dkwX13_emptyMany_1 ++ []
def dkwX13_emptyMany_0 : List UInt8 := [3, 60, 3, 61, 28, 42, 182, 0, 61, 162, 0, 25, 27, 42, 28, 182, 0, 99, 154, 0, 7, 4]
abbrev dktX13_emptyMany_0 : List UInt8 := dkwX13_emptyMany_0 ++ dktX13_emptyMany_1
theorem dksX13_emptyMany_0 : cX13_emptyMany.data.toList.drop 0 = dktX13_emptyMany_0 := by decide +kernel
theorem dksX13_emptyMany_1 : cX13_emptyMany.data.toList.drop 22 = dktX13_emptyMany_1 := dk_seg dksX13_emptyMany_0 22 rfl rfl
theorem dX13_emptyMany_0 : decode cX13_emptyMany 0 = .ok (.iconst 0, 1) := dk_3 (dk_at dksX13_emptyMany_0 0 rfl rfl)
theorem dX13_emptyMany_1 : decode cX13_emptyMany 1 = .ok (.istore_n 1, 1) := dk_60 (dk_at dksX13_emptyMany_0 1 rfl rfl)
theorem dX13_emptyMany_2 : decode cX13_emptyMany 2 = .ok (.iconst 0, 1) := dk_3 (dk_at dksX13_emptyMany_0 2 rfl rfl)
theorem dX13_emptyMany_3 : decode cX13_emptyMany 3 = .ok (.istore_n 2, 1) := dk_61 (dk_at dksX13_emptyMany_0 3 rfl rfl)
theorem dX13_emptyMany_4 : decode cX13_emptyMany 4 = .ok (.iload_n 2, 1) := dk_28 (dk_at dksX13_emptyMany_0 4 rfl rfl)
theorem dX13_emptyMany_5 : decode cX13_emptyMany 5 = .ok (.aload_n 0, 1) := dk_42 (dk_at dksX13_emptyMany_0 5 rfl rfl)
theorem dX13_emptyMany_6 : decode cX13_emptyMany 6 = .ok (.invokevirtual 61, 3) := dk_182 0 61 (dk_at dksX13_emptyMany_0 6 rfl rfl)
theorem dX13_emptyMany_9 : decode cX13_emptyMany 9 = .ok (.if_icmp .ge 25, 3) := dk_162 0 25 (dk_at dksX13_emptyMany_0 9 rfl rfl)
theorem dX13_emptyMany_12 : decode cX13_emptyMany 12 = .ok (.iload_n 1, 1) := dk_27 (dk_at dksX13_emptyMany_0 12 rfl rfl)
theorem dX13_emptyMany_13 : decode cX13_emptyMany 13 = .ok (.aload_n 0, 1) := dk_42 (dk_at dksX13_emptyMany_0 13 rfl rfl)
theorem dX13_emptyMany_14 : decode cX13_emptyMany 14 = .ok (.iload_n 2, 1) := dk_28 (dk_at dksX13_emptyMany_0 14 rfl rfl)
theorem dX13_emptyMany_15 : decode cX13_emptyMany 15 = .ok (.invokevirtual 99, 3) := dk_182 0 99 (dk_at dksX13_emptyMany_0 15 rfl rfl)
theorem dX13_emptyMany_18 : decode cX13_emptyMany 18 = .ok (.ifCond .ne 7, 3) := dk_154 0 7 (dk_at dksX13_emptyMany_0 18 rfl rfl)
theorem dX13_emptyMany_21 : decode cX13_emptyMany 21 = .ok (.iconst 1, 1) := dk_4 (dk_at dksX13_emptyMany_0 21 rfl rfl)
theorem dX13_emptyMany_22 : decode cX13_emptyMany 22 = .ok (.goto 4, 3) := dk_167 0 4 (dk_at dksX13_emptyMany_1 0 rfl rfl)
theorem dX13_emptyMany_25 : decode cX13_emptyMany 25 = .ok (.iconst 0, 1) := dk_3 (dk_at dksX13_emptyMany_1 3 rfl rfl)
theorem dX13_emptyMany_26 : decode cX13_emptyMany 26 = .ok (.iadd, 1) := dk_96 (dk_at dksX13_emptyMany_1 4 rfl rfl)
theorem dX13_emptyMany_27 : decode cX13_emptyMany 27 = .ok (.istore_n 1, 1) := dk_60 (dk_at dksX13_emptyMany_1 5 rfl rfl)
theorem dX13_emptyMany_28 : decode cX13_emptyMany 28 = .ok (.iinc 2 1, 3) := dk_132 2 1 (dk_at dksX13_emptyMany_1 6 rfl rfl)
theorem dX13_emptyMany_31 : decode cX13_emptyMany 31 = .ok (.goto (-27), 3) := dk_167 255 229 (dk_at dksX13_emptyMany_1 9 rfl rfl)
theorem dX13_emptyMany_34 : decode cX13_emptyMany 34 = .ok (.iload_n 1, 1) := dk_27 (dk_at dksX13_emptyMany_1 12 rfl rfl)
theorem dX13_emptyMany_35 : decode cX13_emptyMany 35 = .ok (.ireturn, 1) := dk_172 (dk_at dksX13_emptyMany_1 13 rfl rfl)
abbrev cX13_exchange : ByteArray := prog_28_method_45_code
def yX13_exchange : MethodName := ⟨RX13, "exchange", "(II)I"⟩
def dkwX13_exchange_4 : List UInt8 := [42, 182, 0, 51, 42, 27, 182, 0, 99, 172]
abbrev dktX13_exchange_4 : List UInt8 := dkwX13_exchange_4 ++ []
def dkwX13_exchange_3 : List UInt8 := [42, 180, 0, 7, 16, 33, 27, 96, 42, 28, 182, 0, 99, 79, 42, 180, 0, 7, 16, 33, 28, 96, 29, 79]
abbrev dktX13_exchange_3 : List UInt8 := dkwX13_exchange_3 ++ dktX13_exchange_4
def dkwX13_exchange_2 : List UInt8 := [153, 0, 11, 42, 28, 182, 0, 99, 154, 0, 6, 16, 254, 172, 42, 182, 0, 102, 42, 27, 182, 0, 99, 62]
abbrev dktX13_exchange_2 : List UInt8 := dkwX13_exchange_2 ++ dktX13_exchange_3
def dkwX13_exchange_1 : List UInt8 := [160, 0, 5, 2, 172, 42, 27, 182, 0, 72, 42, 28, 182, 0, 72, 160, 0, 19, 42, 27, 182, 0, 99]
abbrev dktX13_exchange_1 : List UInt8 := dkwX13_exchange_1 ++ dktX13_exchange_2
def dkwX13_exchange_0 : List UInt8 := [42, 3, 181, 0, 43, 42, 27, 182, 0, 108, 153, 0, 16, 42, 28, 182, 0, 108, 153, 0, 8, 27, 28]
abbrev dktX13_exchange_0 : List UInt8 := dkwX13_exchange_0 ++ dktX13_exchange_1
theorem dksX13_exchange_0 : cX13_exchange.data.toList.drop 0 = dktX13_exchange_0 := by decide +kernel
theorem dksX13_exchange_1 : cX13_exchange.data.toList.drop 23 = dktX13_exchange_1 := dk_seg dksX13_exchange_0 23 rfl rfl
theorem dksX13_exchange_2 : cX13_exchange.data.toList.drop 46 = dktX13_exchange_2 := dk_seg dksX13_exchange_1 23 rfl rfl
theorem dksX13_exchange_3 : cX13_exchange.data.toList.drop 70 = dktX13_exchange_3 := dk_seg dksX13_exchange_2 24 rfl rfl
theorem dksX13_exchange_4 : cX13_exchange.data.toList.drop 94 = dktX13_exchange_4 := dk_seg dksX13_exchange_3 24 rfl rfl
theorem dX13_exchange_0 : decode cX13_exchange 0 = .ok (.aload_n 0, 1) := dk_42 (dk_at dksX13_exchange_0 0 rfl rfl)
theorem dX13_exchange_1 : decode cX13_exchange 1 = .ok (.iconst 0, 1) := dk_3 (dk_at dksX13_exchange_0 1 rfl rfl)
theorem dX13_exchange_2 : decode cX13_exchange 2 = .ok (.putfield 43, 3) := dk_181 0 43 (dk_at dksX13_exchange_0 2 rfl rfl)
theorem dX13_exchange_5 : decode cX13_exchange 5 = .ok (.aload_n 0, 1) := dk_42 (dk_at dksX13_exchange_0 5 rfl rfl)
theorem dX13_exchange_6 : decode cX13_exchange 6 = .ok (.iload_n 1, 1) := dk_27 (dk_at dksX13_exchange_0 6 rfl rfl)
theorem dX13_exchange_7 : decode cX13_exchange 7 = .ok (.invokevirtual 108, 3) := dk_182 0 108 (dk_at dksX13_exchange_0 7 rfl rfl)
theorem dX13_exchange_10 : decode cX13_exchange 10 = .ok (.ifCond .eq 16, 3) := dk_153 0 16 (dk_at dksX13_exchange_0 10 rfl rfl)
theorem dX13_exchange_13 : decode cX13_exchange 13 = .ok (.aload_n 0, 1) := dk_42 (dk_at dksX13_exchange_0 13 rfl rfl)
theorem dX13_exchange_14 : decode cX13_exchange 14 = .ok (.iload_n 2, 1) := dk_28 (dk_at dksX13_exchange_0 14 rfl rfl)
theorem dX13_exchange_15 : decode cX13_exchange 15 = .ok (.invokevirtual 108, 3) := dk_182 0 108 (dk_at dksX13_exchange_0 15 rfl rfl)
theorem dX13_exchange_18 : decode cX13_exchange 18 = .ok (.ifCond .eq 8, 3) := dk_153 0 8 (dk_at dksX13_exchange_0 18 rfl rfl)
theorem dX13_exchange_21 : decode cX13_exchange 21 = .ok (.iload_n 1, 1) := dk_27 (dk_at dksX13_exchange_0 21 rfl rfl)
theorem dX13_exchange_22 : decode cX13_exchange 22 = .ok (.iload_n 2, 1) := dk_28 (dk_at dksX13_exchange_0 22 rfl rfl)
theorem dX13_exchange_23 : decode cX13_exchange 23 = .ok (.if_icmp .ne 5, 3) := dk_160 0 5 (dk_at dksX13_exchange_1 0 rfl rfl)
theorem dX13_exchange_26 : decode cX13_exchange 26 = .ok (.iconst (-1), 1) := dk_2 (dk_at dksX13_exchange_1 3 rfl rfl)
theorem dX13_exchange_27 : decode cX13_exchange 27 = .ok (.ireturn, 1) := dk_172 (dk_at dksX13_exchange_1 4 rfl rfl)
theorem dX13_exchange_28 : decode cX13_exchange 28 = .ok (.aload_n 0, 1) := dk_42 (dk_at dksX13_exchange_1 5 rfl rfl)
theorem dX13_exchange_29 : decode cX13_exchange 29 = .ok (.iload_n 1, 1) := dk_27 (dk_at dksX13_exchange_1 6 rfl rfl)
theorem dX13_exchange_30 : decode cX13_exchange 30 = .ok (.invokevirtual 72, 3) := dk_182 0 72 (dk_at dksX13_exchange_1 7 rfl rfl)
theorem dX13_exchange_33 : decode cX13_exchange 33 = .ok (.aload_n 0, 1) := dk_42 (dk_at dksX13_exchange_1 10 rfl rfl)
theorem dX13_exchange_34 : decode cX13_exchange 34 = .ok (.iload_n 2, 1) := dk_28 (dk_at dksX13_exchange_1 11 rfl rfl)
theorem dX13_exchange_35 : decode cX13_exchange 35 = .ok (.invokevirtual 72, 3) := dk_182 0 72 (dk_at dksX13_exchange_1 12 rfl rfl)
theorem dX13_exchange_38 : decode cX13_exchange 38 = .ok (.if_icmp .ne 19, 3) := dk_160 0 19 (dk_at dksX13_exchange_1 15 rfl rfl)
theorem dX13_exchange_41 : decode cX13_exchange 41 = .ok (.aload_n 0, 1) := dk_42 (dk_at dksX13_exchange_1 18 rfl rfl)
theorem dX13_exchange_42 : decode cX13_exchange 42 = .ok (.iload_n 1, 1) := dk_27 (dk_at dksX13_exchange_1 19 rfl rfl)
theorem dX13_exchange_43 : decode cX13_exchange 43 = .ok (.invokevirtual 99, 3) := dk_182 0 99 (dk_at dksX13_exchange_1 20 rfl rfl)
theorem dX13_exchange_46 : decode cX13_exchange 46 = .ok (.ifCond .eq 11, 3) := dk_153 0 11 (dk_at dksX13_exchange_2 0 rfl rfl)
theorem dX13_exchange_49 : decode cX13_exchange 49 = .ok (.aload_n 0, 1) := dk_42 (dk_at dksX13_exchange_2 3 rfl rfl)
theorem dX13_exchange_50 : decode cX13_exchange 50 = .ok (.iload_n 2, 1) := dk_28 (dk_at dksX13_exchange_2 4 rfl rfl)
theorem dX13_exchange_51 : decode cX13_exchange 51 = .ok (.invokevirtual 99, 3) := dk_182 0 99 (dk_at dksX13_exchange_2 5 rfl rfl)
theorem dX13_exchange_54 : decode cX13_exchange 54 = .ok (.ifCond .ne 6, 3) := dk_154 0 6 (dk_at dksX13_exchange_2 8 rfl rfl)
theorem dX13_exchange_57 : decode cX13_exchange 57 = .ok (.bipush (-2), 2) := dk_16 254 (dk_at dksX13_exchange_2 11 rfl rfl)
theorem dX13_exchange_59 : decode cX13_exchange 59 = .ok (.ireturn, 1) := dk_172 (dk_at dksX13_exchange_2 13 rfl rfl)
theorem dX13_exchange_60 : decode cX13_exchange 60 = .ok (.aload_n 0, 1) := dk_42 (dk_at dksX13_exchange_2 14 rfl rfl)
theorem dX13_exchange_61 : decode cX13_exchange 61 = .ok (.invokevirtual 102, 3) := dk_182 0 102 (dk_at dksX13_exchange_2 15 rfl rfl)
theorem dX13_exchange_64 : decode cX13_exchange 64 = .ok (.aload_n 0, 1) := dk_42 (dk_at dksX13_exchange_2 18 rfl rfl)
theorem dX13_exchange_65 : decode cX13_exchange 65 = .ok (.iload_n 1, 1) := dk_27 (dk_at dksX13_exchange_2 19 rfl rfl)
theorem dX13_exchange_66 : decode cX13_exchange 66 = .ok (.invokevirtual 99, 3) := dk_182 0 99 (dk_at dksX13_exchange_2 20 rfl rfl)
theorem dX13_exchange_69 : decode cX13_exchange 69 = .ok (.istore_n 3, 1) := dk_62 (dk_at dksX13_exchange_2 23 rfl rfl)
theorem dX13_exchange_70 : decode cX13_exchange 70 = .ok (.aload_n 0, 1) := dk_42 (dk_at dksX13_exchange_3 0 rfl rfl)
theorem dX13_exchange_71 : decode cX13_exchange 71 = .ok (.getfield 7, 3) := dk_180 0 7 (dk_at dksX13_exchange_3 1 rfl rfl)
theorem dX13_exchange_74 : decode cX13_exchange 74 = .ok (.bipush 33, 2) := dk_16 33 (dk_at dksX13_exchange_3 4 rfl rfl)
theorem dX13_exchange_76 : decode cX13_exchange 76 = .ok (.iload_n 1, 1) := dk_27 (dk_at dksX13_exchange_3 6 rfl rfl)
theorem dX13_exchange_77 : decode cX13_exchange 77 = .ok (.iadd, 1) := dk_96 (dk_at dksX13_exchange_3 7 rfl rfl)
theorem dX13_exchange_78 : decode cX13_exchange 78 = .ok (.aload_n 0, 1) := dk_42 (dk_at dksX13_exchange_3 8 rfl rfl)
theorem dX13_exchange_79 : decode cX13_exchange 79 = .ok (.iload_n 2, 1) := dk_28 (dk_at dksX13_exchange_3 9 rfl rfl)
theorem dX13_exchange_80 : decode cX13_exchange 80 = .ok (.invokevirtual 99, 3) := dk_182 0 99 (dk_at dksX13_exchange_3 10 rfl rfl)
theorem dX13_exchange_83 : decode cX13_exchange 83 = .ok (.iastore, 1) := dk_79 (dk_at dksX13_exchange_3 13 rfl rfl)
theorem dX13_exchange_84 : decode cX13_exchange 84 = .ok (.aload_n 0, 1) := dk_42 (dk_at dksX13_exchange_3 14 rfl rfl)
theorem dX13_exchange_85 : decode cX13_exchange 85 = .ok (.getfield 7, 3) := dk_180 0 7 (dk_at dksX13_exchange_3 15 rfl rfl)
theorem dX13_exchange_88 : decode cX13_exchange 88 = .ok (.bipush 33, 2) := dk_16 33 (dk_at dksX13_exchange_3 18 rfl rfl)
theorem dX13_exchange_90 : decode cX13_exchange 90 = .ok (.iload_n 2, 1) := dk_28 (dk_at dksX13_exchange_3 20 rfl rfl)
theorem dX13_exchange_91 : decode cX13_exchange 91 = .ok (.iadd, 1) := dk_96 (dk_at dksX13_exchange_3 21 rfl rfl)
theorem dX13_exchange_92 : decode cX13_exchange 92 = .ok (.iload_n 3, 1) := dk_29 (dk_at dksX13_exchange_3 22 rfl rfl)
theorem dX13_exchange_93 : decode cX13_exchange 93 = .ok (.iastore, 1) := dk_79 (dk_at dksX13_exchange_3 23 rfl rfl)
theorem dX13_exchange_94 : decode cX13_exchange 94 = .ok (.aload_n 0, 1) := dk_42 (dk_at dksX13_exchange_4 0 rfl rfl)
theorem dX13_exchange_95 : decode cX13_exchange 95 = .ok (.invokevirtual 51, 3) := dk_182 0 51 (dk_at dksX13_exchange_4 1 rfl rfl)
theorem dX13_exchange_98 : decode cX13_exchange 98 = .ok (.aload_n 0, 1) := dk_42 (dk_at dksX13_exchange_4 4 rfl rfl)
theorem dX13_exchange_99 : decode cX13_exchange 99 = .ok (.iload_n 1, 1) := dk_27 (dk_at dksX13_exchange_4 5 rfl rfl)
theorem dX13_exchange_100 : decode cX13_exchange 100 = .ok (.invokevirtual 99, 3) := dk_182 0 99 (dk_at dksX13_exchange_4 6 rfl rfl)
theorem dX13_exchange_103 : decode cX13_exchange 103 = .ok (.ireturn, 1) := dk_172 (dk_at dksX13_exchange_4 9 rfl rfl)
abbrev cX13_give : ByteArray := prog_28_method_67_code
def yX13_give : MethodName := ⟨RX13, "give", "(II)I"⟩
def dkwX13_give_2 : List UInt8 := [16, 58, 27, 96, 28, 79, 42, 182, 0, 51, 42, 182, 0, 213, 172]
abbrev dktX13_give_2 : List UInt8 := dkwX13_give_2 ++ []
def dkwX13_give_1 : List UInt8 := [28, 4, 160, 0, 14, 42, 27, 182, 0, 99, 154, 0, 6, 16, 254, 172, 42, 182, 0, 102, 42, 180, 0, 7]
abbrev dktX13_give_1 : List UInt8 := dkwX13_give_1 ++ dktX13_give_2
def dkwX13_give_0 : List UInt8 := [42, 3, 181, 0, 43, 42, 27, 182, 0, 108, 153, 0, 12, 28, 3, 4, 184, 0, 65, 154, 0, 5, 2, 172]
abbrev dktX13_give_0 : List UInt8 := dkwX13_give_0 ++ dktX13_give_1
theorem dksX13_give_0 : cX13_give.data.toList.drop 0 = dktX13_give_0 := by decide +kernel
theorem dksX13_give_1 : cX13_give.data.toList.drop 24 = dktX13_give_1 := dk_seg dksX13_give_0 24 rfl rfl
theorem dksX13_give_2 : cX13_give.data.toList.drop 48 = dktX13_give_2 := dk_seg dksX13_give_1 24 rfl rfl
theorem dX13_give_0 : decode cX13_give 0 = .ok (.aload_n 0, 1) := dk_42 (dk_at dksX13_give_0 0 rfl rfl)
theorem dX13_give_1 : decode cX13_give 1 = .ok (.iconst 0, 1) := dk_3 (dk_at dksX13_give_0 1 rfl rfl)
theorem dX13_give_2 : decode cX13_give 2 = .ok (.putfield 43, 3) := dk_181 0 43 (dk_at dksX13_give_0 2 rfl rfl)
theorem dX13_give_5 : decode cX13_give 5 = .ok (.aload_n 0, 1) := dk_42 (dk_at dksX13_give_0 5 rfl rfl)
theorem dX13_give_6 : decode cX13_give 6 = .ok (.iload_n 1, 1) := dk_27 (dk_at dksX13_give_0 6 rfl rfl)
theorem dX13_give_7 : decode cX13_give 7 = .ok (.invokevirtual 108, 3) := dk_182 0 108 (dk_at dksX13_give_0 7 rfl rfl)
theorem dX13_give_10 : decode cX13_give 10 = .ok (.ifCond .eq 12, 3) := dk_153 0 12 (dk_at dksX13_give_0 10 rfl rfl)
theorem dX13_give_13 : decode cX13_give 13 = .ok (.iload_n 2, 1) := dk_28 (dk_at dksX13_give_0 13 rfl rfl)
theorem dX13_give_14 : decode cX13_give 14 = .ok (.iconst 0, 1) := dk_3 (dk_at dksX13_give_0 14 rfl rfl)
theorem dX13_give_15 : decode cX13_give 15 = .ok (.iconst 1, 1) := dk_4 (dk_at dksX13_give_0 15 rfl rfl)
theorem dX13_give_16 : decode cX13_give 16 = .ok (.invokestatic 65, 3) := dk_184 0 65 (dk_at dksX13_give_0 16 rfl rfl)
theorem dX13_give_19 : decode cX13_give 19 = .ok (.ifCond .ne 5, 3) := dk_154 0 5 (dk_at dksX13_give_0 19 rfl rfl)
theorem dX13_give_22 : decode cX13_give 22 = .ok (.iconst (-1), 1) := dk_2 (dk_at dksX13_give_0 22 rfl rfl)
theorem dX13_give_23 : decode cX13_give 23 = .ok (.ireturn, 1) := dk_172 (dk_at dksX13_give_0 23 rfl rfl)
theorem dX13_give_24 : decode cX13_give 24 = .ok (.iload_n 2, 1) := dk_28 (dk_at dksX13_give_1 0 rfl rfl)
theorem dX13_give_25 : decode cX13_give 25 = .ok (.iconst 1, 1) := dk_4 (dk_at dksX13_give_1 1 rfl rfl)
theorem dX13_give_26 : decode cX13_give 26 = .ok (.if_icmp .ne 14, 3) := dk_160 0 14 (dk_at dksX13_give_1 2 rfl rfl)
theorem dX13_give_29 : decode cX13_give 29 = .ok (.aload_n 0, 1) := dk_42 (dk_at dksX13_give_1 5 rfl rfl)
theorem dX13_give_30 : decode cX13_give 30 = .ok (.iload_n 1, 1) := dk_27 (dk_at dksX13_give_1 6 rfl rfl)
theorem dX13_give_31 : decode cX13_give 31 = .ok (.invokevirtual 99, 3) := dk_182 0 99 (dk_at dksX13_give_1 7 rfl rfl)
theorem dX13_give_34 : decode cX13_give 34 = .ok (.ifCond .ne 6, 3) := dk_154 0 6 (dk_at dksX13_give_1 10 rfl rfl)
theorem dX13_give_37 : decode cX13_give 37 = .ok (.bipush (-2), 2) := dk_16 254 (dk_at dksX13_give_1 13 rfl rfl)
theorem dX13_give_39 : decode cX13_give 39 = .ok (.ireturn, 1) := dk_172 (dk_at dksX13_give_1 15 rfl rfl)
theorem dX13_give_40 : decode cX13_give 40 = .ok (.aload_n 0, 1) := dk_42 (dk_at dksX13_give_1 16 rfl rfl)
theorem dX13_give_41 : decode cX13_give 41 = .ok (.invokevirtual 102, 3) := dk_182 0 102 (dk_at dksX13_give_1 17 rfl rfl)
theorem dX13_give_44 : decode cX13_give 44 = .ok (.aload_n 0, 1) := dk_42 (dk_at dksX13_give_1 20 rfl rfl)
theorem dX13_give_45 : decode cX13_give 45 = .ok (.getfield 7, 3) := dk_180 0 7 (dk_at dksX13_give_1 21 rfl rfl)
theorem dX13_give_48 : decode cX13_give 48 = .ok (.bipush 58, 2) := dk_16 58 (dk_at dksX13_give_2 0 rfl rfl)
theorem dX13_give_50 : decode cX13_give 50 = .ok (.iload_n 1, 1) := dk_27 (dk_at dksX13_give_2 2 rfl rfl)
theorem dX13_give_51 : decode cX13_give 51 = .ok (.iadd, 1) := dk_96 (dk_at dksX13_give_2 3 rfl rfl)
theorem dX13_give_52 : decode cX13_give 52 = .ok (.iload_n 2, 1) := dk_28 (dk_at dksX13_give_2 4 rfl rfl)
theorem dX13_give_53 : decode cX13_give 53 = .ok (.iastore, 1) := dk_79 (dk_at dksX13_give_2 5 rfl rfl)
theorem dX13_give_54 : decode cX13_give 54 = .ok (.aload_n 0, 1) := dk_42 (dk_at dksX13_give_2 6 rfl rfl)
theorem dX13_give_55 : decode cX13_give 55 = .ok (.invokevirtual 51, 3) := dk_182 0 51 (dk_at dksX13_give_2 7 rfl rfl)
theorem dX13_give_58 : decode cX13_give 58 = .ok (.aload_n 0, 1) := dk_42 (dk_at dksX13_give_2 10 rfl rfl)
theorem dX13_give_59 : decode cX13_give 59 = .ok (.invokevirtual 213, 3) := dk_182 0 213 (dk_at dksX13_give_2 11 rfl rfl)
theorem dX13_give_62 : decode cX13_give 62 = .ok (.ireturn, 1) := dk_172 (dk_at dksX13_give_2 14 rfl rfl)
abbrev cX13_givenMany : ByteArray := prog_28_method_31_code
def yX13_givenMany : MethodName := ⟨RX13, "givenMany", "()I"⟩
def dkwX13_givenMany_1 : List UInt8 := [132, 2, 1, 167, 255, 233, 27, 172]
abbrev dktX13_givenMany_1 : List UInt8 := dkwX13_givenMany_1 ++ []
def dkwX13_givenMany_0 : List UInt8 := [3, 60, 3, 61, 28, 42, 182, 0, 61, 162, 0, 21, 27, 42, 180, 0, 7, 16, 58, 28, 96, 46, 96, 60]
abbrev dktX13_givenMany_0 : List UInt8 := dkwX13_givenMany_0 ++ dktX13_givenMany_1
theorem dksX13_givenMany_0 : cX13_givenMany.data.toList.drop 0 = dktX13_givenMany_0 := by decide +kernel
theorem dksX13_givenMany_1 : cX13_givenMany.data.toList.drop 24 = dktX13_givenMany_1 := dk_seg dksX13_givenMany_0 24 rfl rfl
theorem dX13_givenMany_0 : decode cX13_givenMany 0 = .ok (.iconst 0, 1) := dk_3 (dk_at dksX13_givenMany_0 0 rfl rfl)
theorem dX13_givenMany_1 : decode cX13_givenMany 1 = .ok (.istore_n 1, 1) := dk_60 (dk_at dksX13_givenMany_0 1 rfl rfl)
theorem dX13_givenMany_2 : decode cX13_givenMany 2 = .ok (.iconst 0, 1) := dk_3 (dk_at dksX13_givenMany_0 2 rfl rfl)
theorem dX13_givenMany_3 : decode cX13_givenMany 3 = .ok (.istore_n 2, 1) := dk_61 (dk_at dksX13_givenMany_0 3 rfl rfl)
theorem dX13_givenMany_4 : decode cX13_givenMany 4 = .ok (.iload_n 2, 1) := dk_28 (dk_at dksX13_givenMany_0 4 rfl rfl)
theorem dX13_givenMany_5 : decode cX13_givenMany 5 = .ok (.aload_n 0, 1) := dk_42 (dk_at dksX13_givenMany_0 5 rfl rfl)
theorem dX13_givenMany_6 : decode cX13_givenMany 6 = .ok (.invokevirtual 61, 3) := dk_182 0 61 (dk_at dksX13_givenMany_0 6 rfl rfl)
theorem dX13_givenMany_9 : decode cX13_givenMany 9 = .ok (.if_icmp .ge 21, 3) := dk_162 0 21 (dk_at dksX13_givenMany_0 9 rfl rfl)
theorem dX13_givenMany_12 : decode cX13_givenMany 12 = .ok (.iload_n 1, 1) := dk_27 (dk_at dksX13_givenMany_0 12 rfl rfl)
theorem dX13_givenMany_13 : decode cX13_givenMany 13 = .ok (.aload_n 0, 1) := dk_42 (dk_at dksX13_givenMany_0 13 rfl rfl)
theorem dX13_givenMany_14 : decode cX13_givenMany 14 = .ok (.getfield 7, 3) := dk_180 0 7 (dk_at dksX13_givenMany_0 14 rfl rfl)
theorem dX13_givenMany_17 : decode cX13_givenMany 17 = .ok (.bipush 58, 2) := dk_16 58 (dk_at dksX13_givenMany_0 17 rfl rfl)
theorem dX13_givenMany_19 : decode cX13_givenMany 19 = .ok (.iload_n 2, 1) := dk_28 (dk_at dksX13_givenMany_0 19 rfl rfl)
theorem dX13_givenMany_20 : decode cX13_givenMany 20 = .ok (.iadd, 1) := dk_96 (dk_at dksX13_givenMany_0 20 rfl rfl)
theorem dX13_givenMany_21 : decode cX13_givenMany 21 = .ok (.iaload, 1) := dk_46 (dk_at dksX13_givenMany_0 21 rfl rfl)
theorem dX13_givenMany_22 : decode cX13_givenMany 22 = .ok (.iadd, 1) := dk_96 (dk_at dksX13_givenMany_0 22 rfl rfl)
theorem dX13_givenMany_23 : decode cX13_givenMany 23 = .ok (.istore_n 1, 1) := dk_60 (dk_at dksX13_givenMany_0 23 rfl rfl)
theorem dX13_givenMany_24 : decode cX13_givenMany 24 = .ok (.iinc 2 1, 3) := dk_132 2 1 (dk_at dksX13_givenMany_1 0 rfl rfl)
theorem dX13_givenMany_27 : decode cX13_givenMany 27 = .ok (.goto (-23), 3) := dk_167 255 233 (dk_at dksX13_givenMany_1 3 rfl rfl)
theorem dX13_givenMany_30 : decode cX13_givenMany 30 = .ok (.iload_n 1, 1) := dk_27 (dk_at dksX13_givenMany_1 6 rfl rfl)
theorem dX13_givenMany_31 : decode cX13_givenMany 31 = .ok (.ireturn, 1) := dk_172 (dk_at dksX13_givenMany_1 7 rfl rfl)
abbrev cX13_showSum : ByteArray := prog_28_method_68_code
def yX13_showSum : MethodName := ⟨RX13, "showSum", "(II)I"⟩
def dkwX13_showSum_2 : List UInt8 := [16, 83, 27, 96, 28, 79, 42, 182, 0, 51, 42, 182, 0, 222, 172]
abbrev dktX13_showSum_2 : List UInt8 := dkwX13_showSum_2 ++ []
def dkwX13_showSum_1 : List UInt8 := [28, 4, 160, 0, 14, 42, 27, 182, 0, 219, 154, 0, 6, 16, 254, 172, 42, 182, 0, 102, 42, 180, 0, 7]
abbrev dktX13_showSum_1 : List UInt8 := dkwX13_showSum_1 ++ dktX13_showSum_2
def dkwX13_showSum_0 : List UInt8 := [42, 3, 181, 0, 43, 42, 27, 182, 0, 216, 153, 0, 12, 28, 3, 4, 184, 0, 65, 154, 0, 5, 2, 172]
abbrev dktX13_showSum_0 : List UInt8 := dkwX13_showSum_0 ++ dktX13_showSum_1
theorem dksX13_showSum_0 : cX13_showSum.data.toList.drop 0 = dktX13_showSum_0 := by decide +kernel
theorem dksX13_showSum_1 : cX13_showSum.data.toList.drop 24 = dktX13_showSum_1 := dk_seg dksX13_showSum_0 24 rfl rfl
theorem dksX13_showSum_2 : cX13_showSum.data.toList.drop 48 = dktX13_showSum_2 := dk_seg dksX13_showSum_1 24 rfl rfl
theorem dX13_showSum_0 : decode cX13_showSum 0 = .ok (.aload_n 0, 1) := dk_42 (dk_at dksX13_showSum_0 0 rfl rfl)
theorem dX13_showSum_1 : decode cX13_showSum 1 = .ok (.iconst 0, 1) := dk_3 (dk_at dksX13_showSum_0 1 rfl rfl)
theorem dX13_showSum_2 : decode cX13_showSum 2 = .ok (.putfield 43, 3) := dk_181 0 43 (dk_at dksX13_showSum_0 2 rfl rfl)
theorem dX13_showSum_5 : decode cX13_showSum 5 = .ok (.aload_n 0, 1) := dk_42 (dk_at dksX13_showSum_0 5 rfl rfl)
theorem dX13_showSum_6 : decode cX13_showSum 6 = .ok (.iload_n 1, 1) := dk_27 (dk_at dksX13_showSum_0 6 rfl rfl)
theorem dX13_showSum_7 : decode cX13_showSum 7 = .ok (.invokevirtual 216, 3) := dk_182 0 216 (dk_at dksX13_showSum_0 7 rfl rfl)
theorem dX13_showSum_10 : decode cX13_showSum 10 = .ok (.ifCond .eq 12, 3) := dk_153 0 12 (dk_at dksX13_showSum_0 10 rfl rfl)
theorem dX13_showSum_13 : decode cX13_showSum 13 = .ok (.iload_n 2, 1) := dk_28 (dk_at dksX13_showSum_0 13 rfl rfl)
theorem dX13_showSum_14 : decode cX13_showSum 14 = .ok (.iconst 0, 1) := dk_3 (dk_at dksX13_showSum_0 14 rfl rfl)
theorem dX13_showSum_15 : decode cX13_showSum 15 = .ok (.iconst 1, 1) := dk_4 (dk_at dksX13_showSum_0 15 rfl rfl)
theorem dX13_showSum_16 : decode cX13_showSum 16 = .ok (.invokestatic 65, 3) := dk_184 0 65 (dk_at dksX13_showSum_0 16 rfl rfl)
theorem dX13_showSum_19 : decode cX13_showSum 19 = .ok (.ifCond .ne 5, 3) := dk_154 0 5 (dk_at dksX13_showSum_0 19 rfl rfl)
theorem dX13_showSum_22 : decode cX13_showSum 22 = .ok (.iconst (-1), 1) := dk_2 (dk_at dksX13_showSum_0 22 rfl rfl)
theorem dX13_showSum_23 : decode cX13_showSum 23 = .ok (.ireturn, 1) := dk_172 (dk_at dksX13_showSum_0 23 rfl rfl)
theorem dX13_showSum_24 : decode cX13_showSum 24 = .ok (.iload_n 2, 1) := dk_28 (dk_at dksX13_showSum_1 0 rfl rfl)
theorem dX13_showSum_25 : decode cX13_showSum 25 = .ok (.iconst 1, 1) := dk_4 (dk_at dksX13_showSum_1 1 rfl rfl)
theorem dX13_showSum_26 : decode cX13_showSum 26 = .ok (.if_icmp .ne 14, 3) := dk_160 0 14 (dk_at dksX13_showSum_1 2 rfl rfl)
theorem dX13_showSum_29 : decode cX13_showSum 29 = .ok (.aload_n 0, 1) := dk_42 (dk_at dksX13_showSum_1 5 rfl rfl)
theorem dX13_showSum_30 : decode cX13_showSum 30 = .ok (.iload_n 1, 1) := dk_27 (dk_at dksX13_showSum_1 6 rfl rfl)
theorem dX13_showSum_31 : decode cX13_showSum 31 = .ok (.invokevirtual 219, 3) := dk_182 0 219 (dk_at dksX13_showSum_1 7 rfl rfl)
theorem dX13_showSum_34 : decode cX13_showSum 34 = .ok (.ifCond .ne 6, 3) := dk_154 0 6 (dk_at dksX13_showSum_1 10 rfl rfl)
theorem dX13_showSum_37 : decode cX13_showSum 37 = .ok (.bipush (-2), 2) := dk_16 254 (dk_at dksX13_showSum_1 13 rfl rfl)
theorem dX13_showSum_39 : decode cX13_showSum 39 = .ok (.ireturn, 1) := dk_172 (dk_at dksX13_showSum_1 15 rfl rfl)
theorem dX13_showSum_40 : decode cX13_showSum 40 = .ok (.aload_n 0, 1) := dk_42 (dk_at dksX13_showSum_1 16 rfl rfl)
theorem dX13_showSum_41 : decode cX13_showSum 41 = .ok (.invokevirtual 102, 3) := dk_182 0 102 (dk_at dksX13_showSum_1 17 rfl rfl)
theorem dX13_showSum_44 : decode cX13_showSum 44 = .ok (.aload_n 0, 1) := dk_42 (dk_at dksX13_showSum_1 20 rfl rfl)
theorem dX13_showSum_45 : decode cX13_showSum 45 = .ok (.getfield 7, 3) := dk_180 0 7 (dk_at dksX13_showSum_1 21 rfl rfl)
theorem dX13_showSum_48 : decode cX13_showSum 48 = .ok (.bipush 83, 2) := dk_16 83 (dk_at dksX13_showSum_2 0 rfl rfl)
theorem dX13_showSum_50 : decode cX13_showSum 50 = .ok (.iload_n 1, 1) := dk_27 (dk_at dksX13_showSum_2 2 rfl rfl)
theorem dX13_showSum_51 : decode cX13_showSum 51 = .ok (.iadd, 1) := dk_96 (dk_at dksX13_showSum_2 3 rfl rfl)
theorem dX13_showSum_52 : decode cX13_showSum 52 = .ok (.iload_n 2, 1) := dk_28 (dk_at dksX13_showSum_2 4 rfl rfl)
theorem dX13_showSum_53 : decode cX13_showSum 53 = .ok (.iastore, 1) := dk_79 (dk_at dksX13_showSum_2 5 rfl rfl)
theorem dX13_showSum_54 : decode cX13_showSum 54 = .ok (.aload_n 0, 1) := dk_42 (dk_at dksX13_showSum_2 6 rfl rfl)
theorem dX13_showSum_55 : decode cX13_showSum 55 = .ok (.invokevirtual 51, 3) := dk_182 0 51 (dk_at dksX13_showSum_2 7 rfl rfl)
theorem dX13_showSum_58 : decode cX13_showSum 58 = .ok (.aload_n 0, 1) := dk_42 (dk_at dksX13_showSum_2 10 rfl rfl)
theorem dX13_showSum_59 : decode cX13_showSum 59 = .ok (.invokevirtual 222, 3) := dk_182 0 222 (dk_at dksX13_showSum_2 11 rfl rfl)
theorem dX13_showSum_62 : decode cX13_showSum 62 = .ok (.ireturn, 1) := dk_172 (dk_at dksX13_showSum_2 14 rfl rfl)
abbrev cX13_isLine : ByteArray := prog_28_method_14_code
def yX13_isLine : MethodName := ⟨RX13, "isLine", "(I)Z"⟩
def dkwX13_isLine_0 : List UInt8 := [27, 3, 42, 182, 0, 69, 4, 100, 184, 0, 65, 172]
abbrev dktX13_isLine_0 : List UInt8 := dkwX13_isLine_0 ++ []
theorem dksX13_isLine_0 : cX13_isLine.data.toList.drop 0 = dktX13_isLine_0 := by decide +kernel
theorem dX13_isLine_0 : decode cX13_isLine 0 = .ok (.iload_n 1, 1) := dk_27 (dk_at dksX13_isLine_0 0 rfl rfl)
theorem dX13_isLine_1 : decode cX13_isLine 1 = .ok (.iconst 0, 1) := dk_3 (dk_at dksX13_isLine_0 1 rfl rfl)
theorem dX13_isLine_2 : decode cX13_isLine 2 = .ok (.aload_n 0, 1) := dk_42 (dk_at dksX13_isLine_0 2 rfl rfl)
theorem dX13_isLine_3 : decode cX13_isLine 3 = .ok (.invokevirtual 69, 3) := dk_182 0 69 (dk_at dksX13_isLine_0 3 rfl rfl)
theorem dX13_isLine_6 : decode cX13_isLine 6 = .ok (.iconst 1, 1) := dk_4 (dk_at dksX13_isLine_0 6 rfl rfl)
theorem dX13_isLine_7 : decode cX13_isLine 7 = .ok (.isub, 1) := dk_100 (dk_at dksX13_isLine_0 7 rfl rfl)
theorem dX13_isLine_8 : decode cX13_isLine 8 = .ok (.invokestatic 65, 3) := dk_184 0 65 (dk_at dksX13_isLine_0 8 rfl rfl)
theorem dX13_isLine_11 : decode cX13_isLine 11 = .ok (.ireturn, 1) := dk_172 (dk_at dksX13_isLine_0 11 rfl rfl)
abbrev cX13_canShow : ByteArray := prog_28_method_30_code
def yX13_canShow : MethodName := ⟨RX13, "canShow", "(I)Z"⟩
def dkwX13_canShow_1 : List UInt8 := [182, 0, 99, 153, 0, 7, 4, 167, 0, 4, 3, 61, 132, 3, 1, 167, 255, 221, 28, 172]
abbrev dktX13_canShow_1 : List UInt8 := dkwX13_canShow_1 ++ []
def dkwX13_canShow_0 : List UInt8 := [4, 61, 3, 62, 29, 42, 27, 182, 0, 93, 162, 0, 32, 28, 153, 0, 20, 42, 42, 27, 29, 182, 0, 96]
abbrev dktX13_canShow_0 : List UInt8 := dkwX13_canShow_0 ++ dktX13_canShow_1
theorem dksX13_canShow_0 : cX13_canShow.data.toList.drop 0 = dktX13_canShow_0 := by decide +kernel
theorem dksX13_canShow_1 : cX13_canShow.data.toList.drop 24 = dktX13_canShow_1 := dk_seg dksX13_canShow_0 24 rfl rfl
theorem dX13_canShow_0 : decode cX13_canShow 0 = .ok (.iconst 1, 1) := dk_4 (dk_at dksX13_canShow_0 0 rfl rfl)
theorem dX13_canShow_1 : decode cX13_canShow 1 = .ok (.istore_n 2, 1) := dk_61 (dk_at dksX13_canShow_0 1 rfl rfl)
theorem dX13_canShow_2 : decode cX13_canShow 2 = .ok (.iconst 0, 1) := dk_3 (dk_at dksX13_canShow_0 2 rfl rfl)
theorem dX13_canShow_3 : decode cX13_canShow 3 = .ok (.istore_n 3, 1) := dk_62 (dk_at dksX13_canShow_0 3 rfl rfl)
theorem dX13_canShow_4 : decode cX13_canShow 4 = .ok (.iload_n 3, 1) := dk_29 (dk_at dksX13_canShow_0 4 rfl rfl)
theorem dX13_canShow_5 : decode cX13_canShow 5 = .ok (.aload_n 0, 1) := dk_42 (dk_at dksX13_canShow_0 5 rfl rfl)
theorem dX13_canShow_6 : decode cX13_canShow 6 = .ok (.iload_n 1, 1) := dk_27 (dk_at dksX13_canShow_0 6 rfl rfl)
theorem dX13_canShow_7 : decode cX13_canShow 7 = .ok (.invokevirtual 93, 3) := dk_182 0 93 (dk_at dksX13_canShow_0 7 rfl rfl)
theorem dX13_canShow_10 : decode cX13_canShow 10 = .ok (.if_icmp .ge 32, 3) := dk_162 0 32 (dk_at dksX13_canShow_0 10 rfl rfl)
theorem dX13_canShow_13 : decode cX13_canShow 13 = .ok (.iload_n 2, 1) := dk_28 (dk_at dksX13_canShow_0 13 rfl rfl)
theorem dX13_canShow_14 : decode cX13_canShow 14 = .ok (.ifCond .eq 20, 3) := dk_153 0 20 (dk_at dksX13_canShow_0 14 rfl rfl)
theorem dX13_canShow_17 : decode cX13_canShow 17 = .ok (.aload_n 0, 1) := dk_42 (dk_at dksX13_canShow_0 17 rfl rfl)
theorem dX13_canShow_18 : decode cX13_canShow 18 = .ok (.aload_n 0, 1) := dk_42 (dk_at dksX13_canShow_0 18 rfl rfl)
theorem dX13_canShow_19 : decode cX13_canShow 19 = .ok (.iload_n 1, 1) := dk_27 (dk_at dksX13_canShow_0 19 rfl rfl)
theorem dX13_canShow_20 : decode cX13_canShow 20 = .ok (.iload_n 3, 1) := dk_29 (dk_at dksX13_canShow_0 20 rfl rfl)
theorem dX13_canShow_21 : decode cX13_canShow 21 = .ok (.invokevirtual 96, 3) := dk_182 0 96 (dk_at dksX13_canShow_0 21 rfl rfl)
theorem dX13_canShow_24 : decode cX13_canShow 24 = .ok (.invokevirtual 99, 3) := dk_182 0 99 (dk_at dksX13_canShow_1 0 rfl rfl)
theorem dX13_canShow_27 : decode cX13_canShow 27 = .ok (.ifCond .eq 7, 3) := dk_153 0 7 (dk_at dksX13_canShow_1 3 rfl rfl)
theorem dX13_canShow_30 : decode cX13_canShow 30 = .ok (.iconst 1, 1) := dk_4 (dk_at dksX13_canShow_1 6 rfl rfl)
theorem dX13_canShow_31 : decode cX13_canShow 31 = .ok (.goto 4, 3) := dk_167 0 4 (dk_at dksX13_canShow_1 7 rfl rfl)
theorem dX13_canShow_34 : decode cX13_canShow 34 = .ok (.iconst 0, 1) := dk_3 (dk_at dksX13_canShow_1 10 rfl rfl)
theorem dX13_canShow_35 : decode cX13_canShow 35 = .ok (.istore_n 2, 1) := dk_61 (dk_at dksX13_canShow_1 11 rfl rfl)
theorem dX13_canShow_36 : decode cX13_canShow 36 = .ok (.iinc 3 1, 3) := dk_132 3 1 (dk_at dksX13_canShow_1 12 rfl rfl)
theorem dX13_canShow_39 : decode cX13_canShow 39 = .ok (.goto (-35), 3) := dk_167 255 221 (dk_at dksX13_canShow_1 15 rfl rfl)
theorem dX13_canShow_42 : decode cX13_canShow 42 = .ok (.iload_n 2, 1) := dk_28 (dk_at dksX13_canShow_1 18 rfl rfl)
theorem dX13_canShow_43 : decode cX13_canShow 43 = .ok (.ireturn, 1) := dk_172 (dk_at dksX13_canShow_1 19 rfl rfl)
abbrev cX13_cellsOf : ByteArray := prog_28_method_28_code
def yX13_cellsOf : MethodName := ⟨RX13, "cellsOf", "(I)I"⟩
def dkwX13_cellsOf_1 : List UInt8 := [46, 172]
abbrev dktX13_cellsOf_1 : List UInt8 := dkwX13_cellsOf_1 ++ []
def dkwX13_cellsOf_0 : List UInt8 := [27, 42, 180, 0, 7, 3, 46, 162, 0, 12, 42, 180, 0, 7, 4, 46, 167, 0, 9, 42, 180, 0, 7, 3]
abbrev dktX13_cellsOf_0 : List UInt8 := dkwX13_cellsOf_0 ++ dktX13_cellsOf_1
theorem dksX13_cellsOf_0 : cX13_cellsOf.data.toList.drop 0 = dktX13_cellsOf_0 := by decide +kernel
theorem dksX13_cellsOf_1 : cX13_cellsOf.data.toList.drop 24 = dktX13_cellsOf_1 := dk_seg dksX13_cellsOf_0 24 rfl rfl
theorem dX13_cellsOf_0 : decode cX13_cellsOf 0 = .ok (.iload_n 1, 1) := dk_27 (dk_at dksX13_cellsOf_0 0 rfl rfl)
theorem dX13_cellsOf_1 : decode cX13_cellsOf 1 = .ok (.aload_n 0, 1) := dk_42 (dk_at dksX13_cellsOf_0 1 rfl rfl)
theorem dX13_cellsOf_2 : decode cX13_cellsOf 2 = .ok (.getfield 7, 3) := dk_180 0 7 (dk_at dksX13_cellsOf_0 2 rfl rfl)
theorem dX13_cellsOf_5 : decode cX13_cellsOf 5 = .ok (.iconst 0, 1) := dk_3 (dk_at dksX13_cellsOf_0 5 rfl rfl)
theorem dX13_cellsOf_6 : decode cX13_cellsOf 6 = .ok (.iaload, 1) := dk_46 (dk_at dksX13_cellsOf_0 6 rfl rfl)
theorem dX13_cellsOf_7 : decode cX13_cellsOf 7 = .ok (.if_icmp .ge 12, 3) := dk_162 0 12 (dk_at dksX13_cellsOf_0 7 rfl rfl)
theorem dX13_cellsOf_10 : decode cX13_cellsOf 10 = .ok (.aload_n 0, 1) := dk_42 (dk_at dksX13_cellsOf_0 10 rfl rfl)
theorem dX13_cellsOf_11 : decode cX13_cellsOf 11 = .ok (.getfield 7, 3) := dk_180 0 7 (dk_at dksX13_cellsOf_0 11 rfl rfl)
theorem dX13_cellsOf_14 : decode cX13_cellsOf 14 = .ok (.iconst 1, 1) := dk_4 (dk_at dksX13_cellsOf_0 14 rfl rfl)
theorem dX13_cellsOf_15 : decode cX13_cellsOf 15 = .ok (.iaload, 1) := dk_46 (dk_at dksX13_cellsOf_0 15 rfl rfl)
theorem dX13_cellsOf_16 : decode cX13_cellsOf 16 = .ok (.goto 9, 3) := dk_167 0 9 (dk_at dksX13_cellsOf_0 16 rfl rfl)
theorem dX13_cellsOf_19 : decode cX13_cellsOf 19 = .ok (.aload_n 0, 1) := dk_42 (dk_at dksX13_cellsOf_0 19 rfl rfl)
theorem dX13_cellsOf_20 : decode cX13_cellsOf 20 = .ok (.getfield 7, 3) := dk_180 0 7 (dk_at dksX13_cellsOf_0 20 rfl rfl)
theorem dX13_cellsOf_23 : decode cX13_cellsOf 23 = .ok (.iconst 0, 1) := dk_3 (dk_at dksX13_cellsOf_0 23 rfl rfl)
theorem dX13_cellsOf_24 : decode cX13_cellsOf 24 = .ok (.iaload, 1) := dk_46 (dk_at dksX13_cellsOf_1 0 rfl rfl)
theorem dX13_cellsOf_25 : decode cX13_cellsOf 25 = .ok (.ireturn, 1) := dk_172 (dk_at dksX13_cellsOf_1 1 rfl rfl)
abbrev cX13_cellOf : ByteArray := prog_28_method_27_code
def yX13_cellOf : MethodName := ⟨RX13, "cellOf", "(II)I"⟩
def dkwX13_cellOf_1 : List UInt8 := [180, 0, 7, 4, 46, 28, 104, 27, 96, 42, 180, 0, 7, 3, 46, 100, 172]
abbrev dktX13_cellOf_1 : List UInt8 := dkwX13_cellOf_1 ++ []
def dkwX13_cellOf_0 : List UInt8 := [27, 42, 180, 0, 7, 3, 46, 162, 0, 16, 42, 180, 0, 7, 4, 46, 27, 104, 28, 96, 167, 0, 20, 42]
abbrev dktX13_cellOf_0 : List UInt8 := dkwX13_cellOf_0 ++ dktX13_cellOf_1
theorem dksX13_cellOf_0 : cX13_cellOf.data.toList.drop 0 = dktX13_cellOf_0 := by decide +kernel
theorem dksX13_cellOf_1 : cX13_cellOf.data.toList.drop 24 = dktX13_cellOf_1 := dk_seg dksX13_cellOf_0 24 rfl rfl
theorem dX13_cellOf_0 : decode cX13_cellOf 0 = .ok (.iload_n 1, 1) := dk_27 (dk_at dksX13_cellOf_0 0 rfl rfl)
theorem dX13_cellOf_1 : decode cX13_cellOf 1 = .ok (.aload_n 0, 1) := dk_42 (dk_at dksX13_cellOf_0 1 rfl rfl)
theorem dX13_cellOf_2 : decode cX13_cellOf 2 = .ok (.getfield 7, 3) := dk_180 0 7 (dk_at dksX13_cellOf_0 2 rfl rfl)
theorem dX13_cellOf_5 : decode cX13_cellOf 5 = .ok (.iconst 0, 1) := dk_3 (dk_at dksX13_cellOf_0 5 rfl rfl)
theorem dX13_cellOf_6 : decode cX13_cellOf 6 = .ok (.iaload, 1) := dk_46 (dk_at dksX13_cellOf_0 6 rfl rfl)
theorem dX13_cellOf_7 : decode cX13_cellOf 7 = .ok (.if_icmp .ge 16, 3) := dk_162 0 16 (dk_at dksX13_cellOf_0 7 rfl rfl)
theorem dX13_cellOf_10 : decode cX13_cellOf 10 = .ok (.aload_n 0, 1) := dk_42 (dk_at dksX13_cellOf_0 10 rfl rfl)
theorem dX13_cellOf_11 : decode cX13_cellOf 11 = .ok (.getfield 7, 3) := dk_180 0 7 (dk_at dksX13_cellOf_0 11 rfl rfl)
theorem dX13_cellOf_14 : decode cX13_cellOf 14 = .ok (.iconst 1, 1) := dk_4 (dk_at dksX13_cellOf_0 14 rfl rfl)
theorem dX13_cellOf_15 : decode cX13_cellOf 15 = .ok (.iaload, 1) := dk_46 (dk_at dksX13_cellOf_0 15 rfl rfl)
theorem dX13_cellOf_16 : decode cX13_cellOf 16 = .ok (.iload_n 1, 1) := dk_27 (dk_at dksX13_cellOf_0 16 rfl rfl)
theorem dX13_cellOf_17 : decode cX13_cellOf 17 = .ok (.imul, 1) := dk_104 (dk_at dksX13_cellOf_0 17 rfl rfl)
theorem dX13_cellOf_18 : decode cX13_cellOf 18 = .ok (.iload_n 2, 1) := dk_28 (dk_at dksX13_cellOf_0 18 rfl rfl)
theorem dX13_cellOf_19 : decode cX13_cellOf 19 = .ok (.iadd, 1) := dk_96 (dk_at dksX13_cellOf_0 19 rfl rfl)
theorem dX13_cellOf_20 : decode cX13_cellOf 20 = .ok (.goto 20, 3) := dk_167 0 20 (dk_at dksX13_cellOf_0 20 rfl rfl)
theorem dX13_cellOf_23 : decode cX13_cellOf 23 = .ok (.aload_n 0, 1) := dk_42 (dk_at dksX13_cellOf_0 23 rfl rfl)
theorem dX13_cellOf_24 : decode cX13_cellOf 24 = .ok (.getfield 7, 3) := dk_180 0 7 (dk_at dksX13_cellOf_1 0 rfl rfl)
theorem dX13_cellOf_27 : decode cX13_cellOf 27 = .ok (.iconst 1, 1) := dk_4 (dk_at dksX13_cellOf_1 3 rfl rfl)
theorem dX13_cellOf_28 : decode cX13_cellOf 28 = .ok (.iaload, 1) := dk_46 (dk_at dksX13_cellOf_1 4 rfl rfl)
theorem dX13_cellOf_29 : decode cX13_cellOf 29 = .ok (.iload_n 2, 1) := dk_28 (dk_at dksX13_cellOf_1 5 rfl rfl)
theorem dX13_cellOf_30 : decode cX13_cellOf 30 = .ok (.imul, 1) := dk_104 (dk_at dksX13_cellOf_1 6 rfl rfl)
theorem dX13_cellOf_31 : decode cX13_cellOf 31 = .ok (.iload_n 1, 1) := dk_27 (dk_at dksX13_cellOf_1 7 rfl rfl)
theorem dX13_cellOf_32 : decode cX13_cellOf 32 = .ok (.iadd, 1) := dk_96 (dk_at dksX13_cellOf_1 8 rfl rfl)
theorem dX13_cellOf_33 : decode cX13_cellOf 33 = .ok (.aload_n 0, 1) := dk_42 (dk_at dksX13_cellOf_1 9 rfl rfl)
theorem dX13_cellOf_34 : decode cX13_cellOf 34 = .ok (.getfield 7, 3) := dk_180 0 7 (dk_at dksX13_cellOf_1 10 rfl rfl)
theorem dX13_cellOf_37 : decode cX13_cellOf 37 = .ok (.iconst 0, 1) := dk_3 (dk_at dksX13_cellOf_1 13 rfl rfl)
theorem dX13_cellOf_38 : decode cX13_cellOf 38 = .ok (.iaload, 1) := dk_46 (dk_at dksX13_cellOf_1 14 rfl rfl)
theorem dX13_cellOf_39 : decode cX13_cellOf 39 = .ok (.isub, 1) := dk_100 (dk_at dksX13_cellOf_1 15 rfl rfl)
theorem dX13_cellOf_40 : decode cX13_cellOf 40 = .ok (.ireturn, 1) := dk_172 (dk_at dksX13_cellOf_1 16 rfl rfl)
abbrev cX13_shownMany : ByteArray := prog_28_method_32_code
def yX13_shownMany : MethodName := ⟨RX13, "shownMany", "()I"⟩
def dkwX13_shownMany_1 : List UInt8 := [132, 2, 1, 167, 255, 233, 27, 172]
abbrev dktX13_shownMany_1 : List UInt8 := dkwX13_shownMany_1 ++ []
def dkwX13_shownMany_0 : List UInt8 := [3, 60, 3, 61, 28, 42, 182, 0, 69, 162, 0, 21, 27, 42, 180, 0, 7, 16, 83, 28, 96, 46, 96, 60]
abbrev dktX13_shownMany_0 : List UInt8 := dkwX13_shownMany_0 ++ dktX13_shownMany_1
theorem dksX13_shownMany_0 : cX13_shownMany.data.toList.drop 0 = dktX13_shownMany_0 := by decide +kernel
theorem dksX13_shownMany_1 : cX13_shownMany.data.toList.drop 24 = dktX13_shownMany_1 := dk_seg dksX13_shownMany_0 24 rfl rfl
theorem dX13_shownMany_0 : decode cX13_shownMany 0 = .ok (.iconst 0, 1) := dk_3 (dk_at dksX13_shownMany_0 0 rfl rfl)
theorem dX13_shownMany_1 : decode cX13_shownMany 1 = .ok (.istore_n 1, 1) := dk_60 (dk_at dksX13_shownMany_0 1 rfl rfl)
theorem dX13_shownMany_2 : decode cX13_shownMany 2 = .ok (.iconst 0, 1) := dk_3 (dk_at dksX13_shownMany_0 2 rfl rfl)
theorem dX13_shownMany_3 : decode cX13_shownMany 3 = .ok (.istore_n 2, 1) := dk_61 (dk_at dksX13_shownMany_0 3 rfl rfl)
theorem dX13_shownMany_4 : decode cX13_shownMany 4 = .ok (.iload_n 2, 1) := dk_28 (dk_at dksX13_shownMany_0 4 rfl rfl)
theorem dX13_shownMany_5 : decode cX13_shownMany 5 = .ok (.aload_n 0, 1) := dk_42 (dk_at dksX13_shownMany_0 5 rfl rfl)
theorem dX13_shownMany_6 : decode cX13_shownMany 6 = .ok (.invokevirtual 69, 3) := dk_182 0 69 (dk_at dksX13_shownMany_0 6 rfl rfl)
theorem dX13_shownMany_9 : decode cX13_shownMany 9 = .ok (.if_icmp .ge 21, 3) := dk_162 0 21 (dk_at dksX13_shownMany_0 9 rfl rfl)
theorem dX13_shownMany_12 : decode cX13_shownMany 12 = .ok (.iload_n 1, 1) := dk_27 (dk_at dksX13_shownMany_0 12 rfl rfl)
theorem dX13_shownMany_13 : decode cX13_shownMany 13 = .ok (.aload_n 0, 1) := dk_42 (dk_at dksX13_shownMany_0 13 rfl rfl)
theorem dX13_shownMany_14 : decode cX13_shownMany 14 = .ok (.getfield 7, 3) := dk_180 0 7 (dk_at dksX13_shownMany_0 14 rfl rfl)
theorem dX13_shownMany_17 : decode cX13_shownMany 17 = .ok (.bipush 83, 2) := dk_16 83 (dk_at dksX13_shownMany_0 17 rfl rfl)
theorem dX13_shownMany_19 : decode cX13_shownMany 19 = .ok (.iload_n 2, 1) := dk_28 (dk_at dksX13_shownMany_0 19 rfl rfl)
theorem dX13_shownMany_20 : decode cX13_shownMany 20 = .ok (.iadd, 1) := dk_96 (dk_at dksX13_shownMany_0 20 rfl rfl)
theorem dX13_shownMany_21 : decode cX13_shownMany 21 = .ok (.iaload, 1) := dk_46 (dk_at dksX13_shownMany_0 21 rfl rfl)
theorem dX13_shownMany_22 : decode cX13_shownMany 22 = .ok (.iadd, 1) := dk_96 (dk_at dksX13_shownMany_0 22 rfl rfl)
theorem dX13_shownMany_23 : decode cX13_shownMany 23 = .ok (.istore_n 1, 1) := dk_60 (dk_at dksX13_shownMany_0 23 rfl rfl)
theorem dX13_shownMany_24 : decode cX13_shownMany 24 = .ok (.iinc 2 1, 3) := dk_132 2 1 (dk_at dksX13_shownMany_1 0 rfl rfl)
theorem dX13_shownMany_27 : decode cX13_shownMany 27 = .ok (.goto (-23), 3) := dk_167 255 233 (dk_at dksX13_shownMany_1 3 rfl rfl)
theorem dX13_shownMany_30 : decode cX13_shownMany 30 = .ok (.iload_n 1, 1) := dk_27 (dk_at dksX13_shownMany_1 6 rfl rfl)
theorem dX13_shownMany_31 : decode cX13_shownMany 31 = .ok (.ireturn, 1) := dk_172 (dk_at dksX13_shownMany_1 7 rfl rfl)
abbrev cX13_reduce : ByteArray := prog_28_method_71_code
def yX13_reduce : MethodName := ⟨RX13, "reduce", "(II)I"⟩
def dkwX13_reduce_5 : List UInt8 := [54, 4, 132, 5, 1, 167, 255, 185, 42, 182, 0, 51, 21, 4, 172]
abbrev dktX13_reduce_5 : List UInt8 := dkwX13_reduce_5 ++ []
def dkwX13_reduce_4 : List UInt8 := [182, 0, 228, 153, 0, 7, 3, 167, 0, 4, 4, 79, 21, 4, 4, 42, 180, 0, 7, 21, 6, 46, 100, 96]
abbrev dktX13_reduce_4 : List UInt8 := dkwX13_reduce_4 ++ dktX13_reduce_5
def dkwX13_reduce_3 : List UInt8 := [180, 0, 34, 21, 5, 46, 96, 54, 6, 42, 180, 0, 7, 21, 6, 3, 79, 42, 180, 0, 7, 21, 6, 42]
abbrev dktX13_reduce_3 : List UInt8 := dkwX13_reduce_3 ++ dktX13_reduce_4
def dkwX13_reduce_2 : List UInt8 := [54, 4, 3, 54, 5, 21, 5, 29, 162, 0, 71, 27, 154, 0, 8, 16, 58, 167, 0, 5, 16, 83, 42]
abbrev dktX13_reduce_2 : List UInt8 := dkwX13_reduce_2 ++ dktX13_reduce_3
def dkwX13_reduce_1 : List UInt8 := [172, 42, 182, 0, 228, 154, 0, 6, 16, 254, 172, 42, 182, 0, 102, 42, 27, 28, 182, 0, 231, 62, 3]
abbrev dktX13_reduce_1 : List UInt8 := dkwX13_reduce_1 ++ dktX13_reduce_2
def dkwX13_reduce_0 : List UInt8 := [42, 3, 181, 0, 43, 27, 3, 4, 184, 0, 65, 153, 0, 12, 28, 3, 5, 184, 0, 65, 154, 0, 5, 2]
abbrev dktX13_reduce_0 : List UInt8 := dkwX13_reduce_0 ++ dktX13_reduce_1
theorem dksX13_reduce_0 : cX13_reduce.data.toList.drop 0 = dktX13_reduce_0 := by decide +kernel
theorem dksX13_reduce_1 : cX13_reduce.data.toList.drop 24 = dktX13_reduce_1 := dk_seg dksX13_reduce_0 24 rfl rfl
theorem dksX13_reduce_2 : cX13_reduce.data.toList.drop 47 = dktX13_reduce_2 := dk_seg dksX13_reduce_1 23 rfl rfl
theorem dksX13_reduce_3 : cX13_reduce.data.toList.drop 70 = dktX13_reduce_3 := dk_seg dksX13_reduce_2 23 rfl rfl
theorem dksX13_reduce_4 : cX13_reduce.data.toList.drop 94 = dktX13_reduce_4 := dk_seg dksX13_reduce_3 24 rfl rfl
theorem dksX13_reduce_5 : cX13_reduce.data.toList.drop 118 = dktX13_reduce_5 := dk_seg dksX13_reduce_4 24 rfl rfl
theorem dX13_reduce_0 : decode cX13_reduce 0 = .ok (.aload_n 0, 1) := dk_42 (dk_at dksX13_reduce_0 0 rfl rfl)
theorem dX13_reduce_1 : decode cX13_reduce 1 = .ok (.iconst 0, 1) := dk_3 (dk_at dksX13_reduce_0 1 rfl rfl)
theorem dX13_reduce_2 : decode cX13_reduce 2 = .ok (.putfield 43, 3) := dk_181 0 43 (dk_at dksX13_reduce_0 2 rfl rfl)
theorem dX13_reduce_5 : decode cX13_reduce 5 = .ok (.iload_n 1, 1) := dk_27 (dk_at dksX13_reduce_0 5 rfl rfl)
theorem dX13_reduce_6 : decode cX13_reduce 6 = .ok (.iconst 0, 1) := dk_3 (dk_at dksX13_reduce_0 6 rfl rfl)
theorem dX13_reduce_7 : decode cX13_reduce 7 = .ok (.iconst 1, 1) := dk_4 (dk_at dksX13_reduce_0 7 rfl rfl)
theorem dX13_reduce_8 : decode cX13_reduce 8 = .ok (.invokestatic 65, 3) := dk_184 0 65 (dk_at dksX13_reduce_0 8 rfl rfl)
theorem dX13_reduce_11 : decode cX13_reduce 11 = .ok (.ifCond .eq 12, 3) := dk_153 0 12 (dk_at dksX13_reduce_0 11 rfl rfl)
theorem dX13_reduce_14 : decode cX13_reduce 14 = .ok (.iload_n 2, 1) := dk_28 (dk_at dksX13_reduce_0 14 rfl rfl)
theorem dX13_reduce_15 : decode cX13_reduce 15 = .ok (.iconst 0, 1) := dk_3 (dk_at dksX13_reduce_0 15 rfl rfl)
theorem dX13_reduce_16 : decode cX13_reduce 16 = .ok (.iconst 2, 1) := dk_5 (dk_at dksX13_reduce_0 16 rfl rfl)
theorem dX13_reduce_17 : decode cX13_reduce 17 = .ok (.invokestatic 65, 3) := dk_184 0 65 (dk_at dksX13_reduce_0 17 rfl rfl)
theorem dX13_reduce_20 : decode cX13_reduce 20 = .ok (.ifCond .ne 5, 3) := dk_154 0 5 (dk_at dksX13_reduce_0 20 rfl rfl)
theorem dX13_reduce_23 : decode cX13_reduce 23 = .ok (.iconst (-1), 1) := dk_2 (dk_at dksX13_reduce_0 23 rfl rfl)
theorem dX13_reduce_24 : decode cX13_reduce 24 = .ok (.ireturn, 1) := dk_172 (dk_at dksX13_reduce_1 0 rfl rfl)
theorem dX13_reduce_25 : decode cX13_reduce 25 = .ok (.aload_n 0, 1) := dk_42 (dk_at dksX13_reduce_1 1 rfl rfl)
theorem dX13_reduce_26 : decode cX13_reduce 26 = .ok (.invokevirtual 228, 3) := dk_182 0 228 (dk_at dksX13_reduce_1 2 rfl rfl)
theorem dX13_reduce_29 : decode cX13_reduce 29 = .ok (.ifCond .ne 6, 3) := dk_154 0 6 (dk_at dksX13_reduce_1 5 rfl rfl)
theorem dX13_reduce_32 : decode cX13_reduce 32 = .ok (.bipush (-2), 2) := dk_16 254 (dk_at dksX13_reduce_1 8 rfl rfl)
theorem dX13_reduce_34 : decode cX13_reduce 34 = .ok (.ireturn, 1) := dk_172 (dk_at dksX13_reduce_1 10 rfl rfl)
theorem dX13_reduce_35 : decode cX13_reduce 35 = .ok (.aload_n 0, 1) := dk_42 (dk_at dksX13_reduce_1 11 rfl rfl)
theorem dX13_reduce_36 : decode cX13_reduce 36 = .ok (.invokevirtual 102, 3) := dk_182 0 102 (dk_at dksX13_reduce_1 12 rfl rfl)
theorem dX13_reduce_39 : decode cX13_reduce 39 = .ok (.aload_n 0, 1) := dk_42 (dk_at dksX13_reduce_1 15 rfl rfl)
theorem dX13_reduce_40 : decode cX13_reduce 40 = .ok (.iload_n 1, 1) := dk_27 (dk_at dksX13_reduce_1 16 rfl rfl)
theorem dX13_reduce_41 : decode cX13_reduce 41 = .ok (.iload_n 2, 1) := dk_28 (dk_at dksX13_reduce_1 17 rfl rfl)
theorem dX13_reduce_42 : decode cX13_reduce 42 = .ok (.invokevirtual 231, 3) := dk_182 0 231 (dk_at dksX13_reduce_1 18 rfl rfl)
theorem dX13_reduce_45 : decode cX13_reduce 45 = .ok (.istore_n 3, 1) := dk_62 (dk_at dksX13_reduce_1 21 rfl rfl)
theorem dX13_reduce_46 : decode cX13_reduce 46 = .ok (.iconst 0, 1) := dk_3 (dk_at dksX13_reduce_1 22 rfl rfl)
theorem dX13_reduce_47 : decode cX13_reduce 47 = .ok (.istore 4, 2) := dk_54 4 (dk_at dksX13_reduce_2 0 rfl rfl)
theorem dX13_reduce_49 : decode cX13_reduce 49 = .ok (.iconst 0, 1) := dk_3 (dk_at dksX13_reduce_2 2 rfl rfl)
theorem dX13_reduce_50 : decode cX13_reduce 50 = .ok (.istore 5, 2) := dk_54 5 (dk_at dksX13_reduce_2 3 rfl rfl)
theorem dX13_reduce_52 : decode cX13_reduce 52 = .ok (.iload 5, 2) := dk_21 5 (dk_at dksX13_reduce_2 5 rfl rfl)
theorem dX13_reduce_54 : decode cX13_reduce 54 = .ok (.iload_n 3, 1) := dk_29 (dk_at dksX13_reduce_2 7 rfl rfl)
theorem dX13_reduce_55 : decode cX13_reduce 55 = .ok (.if_icmp .ge 71, 3) := dk_162 0 71 (dk_at dksX13_reduce_2 8 rfl rfl)
theorem dX13_reduce_58 : decode cX13_reduce 58 = .ok (.iload_n 1, 1) := dk_27 (dk_at dksX13_reduce_2 11 rfl rfl)
theorem dX13_reduce_59 : decode cX13_reduce 59 = .ok (.ifCond .ne 8, 3) := dk_154 0 8 (dk_at dksX13_reduce_2 12 rfl rfl)
theorem dX13_reduce_62 : decode cX13_reduce 62 = .ok (.bipush 58, 2) := dk_16 58 (dk_at dksX13_reduce_2 15 rfl rfl)
theorem dX13_reduce_64 : decode cX13_reduce 64 = .ok (.goto 5, 3) := dk_167 0 5 (dk_at dksX13_reduce_2 17 rfl rfl)
theorem dX13_reduce_67 : decode cX13_reduce 67 = .ok (.bipush 83, 2) := dk_16 83 (dk_at dksX13_reduce_2 20 rfl rfl)
theorem dX13_reduce_69 : decode cX13_reduce 69 = .ok (.aload_n 0, 1) := dk_42 (dk_at dksX13_reduce_2 22 rfl rfl)
theorem dX13_reduce_70 : decode cX13_reduce 70 = .ok (.getfield 34, 3) := dk_180 0 34 (dk_at dksX13_reduce_3 0 rfl rfl)
theorem dX13_reduce_73 : decode cX13_reduce 73 = .ok (.iload 5, 2) := dk_21 5 (dk_at dksX13_reduce_3 3 rfl rfl)
theorem dX13_reduce_75 : decode cX13_reduce 75 = .ok (.iaload, 1) := dk_46 (dk_at dksX13_reduce_3 5 rfl rfl)
theorem dX13_reduce_76 : decode cX13_reduce 76 = .ok (.iadd, 1) := dk_96 (dk_at dksX13_reduce_3 6 rfl rfl)
theorem dX13_reduce_77 : decode cX13_reduce 77 = .ok (.istore 6, 2) := dk_54 6 (dk_at dksX13_reduce_3 7 rfl rfl)
theorem dX13_reduce_79 : decode cX13_reduce 79 = .ok (.aload_n 0, 1) := dk_42 (dk_at dksX13_reduce_3 9 rfl rfl)
theorem dX13_reduce_80 : decode cX13_reduce 80 = .ok (.getfield 7, 3) := dk_180 0 7 (dk_at dksX13_reduce_3 10 rfl rfl)
theorem dX13_reduce_83 : decode cX13_reduce 83 = .ok (.iload 6, 2) := dk_21 6 (dk_at dksX13_reduce_3 13 rfl rfl)
theorem dX13_reduce_85 : decode cX13_reduce 85 = .ok (.iconst 0, 1) := dk_3 (dk_at dksX13_reduce_3 15 rfl rfl)
theorem dX13_reduce_86 : decode cX13_reduce 86 = .ok (.iastore, 1) := dk_79 (dk_at dksX13_reduce_3 16 rfl rfl)
theorem dX13_reduce_87 : decode cX13_reduce 87 = .ok (.aload_n 0, 1) := dk_42 (dk_at dksX13_reduce_3 17 rfl rfl)
theorem dX13_reduce_88 : decode cX13_reduce 88 = .ok (.getfield 7, 3) := dk_180 0 7 (dk_at dksX13_reduce_3 18 rfl rfl)
theorem dX13_reduce_91 : decode cX13_reduce 91 = .ok (.iload 6, 2) := dk_21 6 (dk_at dksX13_reduce_3 21 rfl rfl)
theorem dX13_reduce_93 : decode cX13_reduce 93 = .ok (.aload_n 0, 1) := dk_42 (dk_at dksX13_reduce_3 23 rfl rfl)
theorem dX13_reduce_94 : decode cX13_reduce 94 = .ok (.invokevirtual 228, 3) := dk_182 0 228 (dk_at dksX13_reduce_4 0 rfl rfl)
theorem dX13_reduce_97 : decode cX13_reduce 97 = .ok (.ifCond .eq 7, 3) := dk_153 0 7 (dk_at dksX13_reduce_4 3 rfl rfl)
theorem dX13_reduce_100 : decode cX13_reduce 100 = .ok (.iconst 0, 1) := dk_3 (dk_at dksX13_reduce_4 6 rfl rfl)
theorem dX13_reduce_101 : decode cX13_reduce 101 = .ok (.goto 4, 3) := dk_167 0 4 (dk_at dksX13_reduce_4 7 rfl rfl)
theorem dX13_reduce_104 : decode cX13_reduce 104 = .ok (.iconst 1, 1) := dk_4 (dk_at dksX13_reduce_4 10 rfl rfl)
theorem dX13_reduce_105 : decode cX13_reduce 105 = .ok (.iastore, 1) := dk_79 (dk_at dksX13_reduce_4 11 rfl rfl)
theorem dX13_reduce_106 : decode cX13_reduce 106 = .ok (.iload 4, 2) := dk_21 4 (dk_at dksX13_reduce_4 12 rfl rfl)
theorem dX13_reduce_108 : decode cX13_reduce 108 = .ok (.iconst 1, 1) := dk_4 (dk_at dksX13_reduce_4 14 rfl rfl)
theorem dX13_reduce_109 : decode cX13_reduce 109 = .ok (.aload_n 0, 1) := dk_42 (dk_at dksX13_reduce_4 15 rfl rfl)
theorem dX13_reduce_110 : decode cX13_reduce 110 = .ok (.getfield 7, 3) := dk_180 0 7 (dk_at dksX13_reduce_4 16 rfl rfl)
theorem dX13_reduce_113 : decode cX13_reduce 113 = .ok (.iload 6, 2) := dk_21 6 (dk_at dksX13_reduce_4 19 rfl rfl)
theorem dX13_reduce_115 : decode cX13_reduce 115 = .ok (.iaload, 1) := dk_46 (dk_at dksX13_reduce_4 21 rfl rfl)
theorem dX13_reduce_116 : decode cX13_reduce 116 = .ok (.isub, 1) := dk_100 (dk_at dksX13_reduce_4 22 rfl rfl)
theorem dX13_reduce_117 : decode cX13_reduce 117 = .ok (.iadd, 1) := dk_96 (dk_at dksX13_reduce_4 23 rfl rfl)
theorem dX13_reduce_118 : decode cX13_reduce 118 = .ok (.istore 4, 2) := dk_54 4 (dk_at dksX13_reduce_5 0 rfl rfl)
theorem dX13_reduce_120 : decode cX13_reduce 120 = .ok (.iinc 5 1, 3) := dk_132 5 1 (dk_at dksX13_reduce_5 2 rfl rfl)
theorem dX13_reduce_123 : decode cX13_reduce 123 = .ok (.goto (-71), 3) := dk_167 255 185 (dk_at dksX13_reduce_5 5 rfl rfl)
theorem dX13_reduce_126 : decode cX13_reduce 126 = .ok (.aload_n 0, 1) := dk_42 (dk_at dksX13_reduce_5 8 rfl rfl)
theorem dX13_reduce_127 : decode cX13_reduce 127 = .ok (.invokevirtual 51, 3) := dk_182 0 51 (dk_at dksX13_reduce_5 9 rfl rfl)
theorem dX13_reduce_130 : decode cX13_reduce 130 = .ok (.iload 4, 2) := dk_21 4 (dk_at dksX13_reduce_5 12 rfl rfl)
theorem dX13_reduce_132 : decode cX13_reduce 132 = .ok (.ireturn, 1) := dk_172 (dk_at dksX13_reduce_5 14 rfl rfl)
abbrev cX13_isSolvable : ByteArray := prog_28_method_65_code
def yX13_isSolvable : MethodName := ⟨RX13, "isSolvable", "()Z"⟩
def dkwX13_isSolvable_0 : List UInt8 := [42, 42, 180, 0, 7, 5, 46, 182, 0, 210, 172]
abbrev dktX13_isSolvable_0 : List UInt8 := dkwX13_isSolvable_0 ++ []
theorem dksX13_isSolvable_0 : cX13_isSolvable.data.toList.drop 0 = dktX13_isSolvable_0 := by decide +kernel
theorem dX13_isSolvable_0 : decode cX13_isSolvable 0 = .ok (.aload_n 0, 1) := dk_42 (dk_at dksX13_isSolvable_0 0 rfl rfl)
theorem dX13_isSolvable_1 : decode cX13_isSolvable 1 = .ok (.aload_n 0, 1) := dk_42 (dk_at dksX13_isSolvable_0 1 rfl rfl)
theorem dX13_isSolvable_2 : decode cX13_isSolvable 2 = .ok (.getfield 7, 3) := dk_180 0 7 (dk_at dksX13_isSolvable_0 2 rfl rfl)
theorem dX13_isSolvable_5 : decode cX13_isSolvable 5 = .ok (.iconst 2, 1) := dk_5 (dk_at dksX13_isSolvable_0 5 rfl rfl)
theorem dX13_isSolvable_6 : decode cX13_isSolvable 6 = .ok (.iaload, 1) := dk_46 (dk_at dksX13_isSolvable_0 6 rfl rfl)
theorem dX13_isSolvable_7 : decode cX13_isSolvable 7 = .ok (.invokevirtual 210, 3) := dk_182 0 210 (dk_at dksX13_isSolvable_0 7 rfl rfl)
theorem dX13_isSolvable_10 : decode cX13_isSolvable 10 = .ok (.ireturn, 1) := dk_172 (dk_at dksX13_isSolvable_0 10 rfl rfl)
abbrev cX13_isSolvableBy : ByteArray := prog_28_method_64_code
def yX13_isSolvableBy : MethodName := ⟨RX13, "isSolvableBy", "(I)Z"⟩
def dkwX13_isSolvableBy_0 : List UInt8 := [42, 182, 0, 139, 42, 27, 182, 0, 204, 42, 182, 0, 207, 4, 160, 0, 7, 4, 167, 0, 4, 3, 172]
abbrev dktX13_isSolvableBy_0 : List UInt8 := dkwX13_isSolvableBy_0 ++ []
theorem dksX13_isSolvableBy_0 : cX13_isSolvableBy.data.toList.drop 0 = dktX13_isSolvableBy_0 := by decide +kernel
theorem dX13_isSolvableBy_0 : decode cX13_isSolvableBy 0 = .ok (.aload_n 0, 1) := dk_42 (dk_at dksX13_isSolvableBy_0 0 rfl rfl)
theorem dX13_isSolvableBy_1 : decode cX13_isSolvableBy 1 = .ok (.invokevirtual 139, 3) := dk_182 0 139 (dk_at dksX13_isSolvableBy_0 1 rfl rfl)
theorem dX13_isSolvableBy_4 : decode cX13_isSolvableBy 4 = .ok (.aload_n 0, 1) := dk_42 (dk_at dksX13_isSolvableBy_0 4 rfl rfl)
theorem dX13_isSolvableBy_5 : decode cX13_isSolvableBy 5 = .ok (.iload_n 1, 1) := dk_27 (dk_at dksX13_isSolvableBy_0 5 rfl rfl)
theorem dX13_isSolvableBy_6 : decode cX13_isSolvableBy 6 = .ok (.invokevirtual 204, 3) := dk_182 0 204 (dk_at dksX13_isSolvableBy_0 6 rfl rfl)
theorem dX13_isSolvableBy_9 : decode cX13_isSolvableBy 9 = .ok (.aload_n 0, 1) := dk_42 (dk_at dksX13_isSolvableBy_0 9 rfl rfl)
theorem dX13_isSolvableBy_10 : decode cX13_isSolvableBy 10 = .ok (.invokevirtual 207, 3) := dk_182 0 207 (dk_at dksX13_isSolvableBy_0 10 rfl rfl)
theorem dX13_isSolvableBy_13 : decode cX13_isSolvableBy 13 = .ok (.iconst 1, 1) := dk_4 (dk_at dksX13_isSolvableBy_0 13 rfl rfl)
theorem dX13_isSolvableBy_14 : decode cX13_isSolvableBy 14 = .ok (.if_icmp .ne 7, 3) := dk_160 0 7 (dk_at dksX13_isSolvableBy_0 14 rfl rfl)
theorem dX13_isSolvableBy_17 : decode cX13_isSolvableBy 17 = .ok (.iconst 1, 1) := dk_4 (dk_at dksX13_isSolvableBy_0 17 rfl rfl)
theorem dX13_isSolvableBy_18 : decode cX13_isSolvableBy 18 = .ok (.goto 4, 3) := dk_167 0 4 (dk_at dksX13_isSolvableBy_0 18 rfl rfl)
theorem dX13_isSolvableBy_21 : decode cX13_isSolvableBy 21 = .ok (.iconst 0, 1) := dk_3 (dk_at dksX13_isSolvableBy_0 21 rfl rfl)
theorem dX13_isSolvableBy_22 : decode cX13_isSolvableBy 22 = .ok (.ireturn, 1) := dk_172 (dk_at dksX13_isSolvableBy_0 22 rfl rfl)
abbrev cX13_goToEnd : ByteArray := prog_28_method_62_code
def yX13_goToEnd : MethodName := ⟨RX13, "goToEnd", "(I)V"⟩
def dkwX13_goToEnd_4 : List UInt8 := [181, 0, 198, 167, 255, 165, 177]
abbrev dktX13_goToEnd_4 : List UInt8 := dkwX13_goToEnd_4 ++ []
def dkwX13_goToEnd_3 : List UInt8 := [180, 0, 192, 79, 42, 180, 0, 25, 28, 6, 96, 42, 180, 0, 195, 79, 42, 89, 180, 0, 198, 4, 96]
abbrev dktX13_goToEnd_3 : List UInt8 := dkwX13_goToEnd_3 ++ dktX13_goToEnd_4
def dkwX13_goToEnd_2 : List UInt8 := [180, 0, 186, 79, 42, 180, 0, 25, 28, 4, 96, 42, 180, 0, 189, 79, 42, 180, 0, 25, 28, 5, 96, 42]
abbrev dktX13_goToEnd_2 : List UInt8 := dkwX13_goToEnd_2 ++ dktX13_goToEnd_3
def dkwX13_goToEnd_1 : List UInt8 := [42, 180, 0, 192, 120, 2, 130, 126, 79, 7, 42, 180, 0, 198, 104, 61, 42, 180, 0, 25, 28, 42]
abbrev dktX13_goToEnd_1 : List UInt8 := dkwX13_goToEnd_1 ++ dktX13_goToEnd_2
def dkwX13_goToEnd_0 : List UInt8 := [42, 3, 181, 0, 198, 42, 27, 182, 0, 201, 153, 0, 89, 42, 180, 0, 22, 42, 180, 0, 189, 92, 46, 4]
abbrev dktX13_goToEnd_0 : List UInt8 := dkwX13_goToEnd_0 ++ dktX13_goToEnd_1
theorem dksX13_goToEnd_0 : cX13_goToEnd.data.toList.drop 0 = dktX13_goToEnd_0 := by decide +kernel
theorem dksX13_goToEnd_1 : cX13_goToEnd.data.toList.drop 24 = dktX13_goToEnd_1 := dk_seg dksX13_goToEnd_0 24 rfl rfl
theorem dksX13_goToEnd_2 : cX13_goToEnd.data.toList.drop 46 = dktX13_goToEnd_2 := dk_seg dksX13_goToEnd_1 22 rfl rfl
theorem dksX13_goToEnd_3 : cX13_goToEnd.data.toList.drop 70 = dktX13_goToEnd_3 := dk_seg dksX13_goToEnd_2 24 rfl rfl
theorem dksX13_goToEnd_4 : cX13_goToEnd.data.toList.drop 93 = dktX13_goToEnd_4 := dk_seg dksX13_goToEnd_3 23 rfl rfl
theorem dX13_goToEnd_0 : decode cX13_goToEnd 0 = .ok (.aload_n 0, 1) := dk_42 (dk_at dksX13_goToEnd_0 0 rfl rfl)
theorem dX13_goToEnd_1 : decode cX13_goToEnd 1 = .ok (.iconst 0, 1) := dk_3 (dk_at dksX13_goToEnd_0 1 rfl rfl)
theorem dX13_goToEnd_2 : decode cX13_goToEnd 2 = .ok (.putfield 198, 3) := dk_181 0 198 (dk_at dksX13_goToEnd_0 2 rfl rfl)
theorem dX13_goToEnd_5 : decode cX13_goToEnd 5 = .ok (.aload_n 0, 1) := dk_42 (dk_at dksX13_goToEnd_0 5 rfl rfl)
theorem dX13_goToEnd_6 : decode cX13_goToEnd 6 = .ok (.iload_n 1, 1) := dk_27 (dk_at dksX13_goToEnd_0 6 rfl rfl)
theorem dX13_goToEnd_7 : decode cX13_goToEnd 7 = .ok (.invokevirtual 201, 3) := dk_182 0 201 (dk_at dksX13_goToEnd_0 7 rfl rfl)
theorem dX13_goToEnd_10 : decode cX13_goToEnd 10 = .ok (.ifCond .eq 89, 3) := dk_153 0 89 (dk_at dksX13_goToEnd_0 10 rfl rfl)
theorem dX13_goToEnd_13 : decode cX13_goToEnd 13 = .ok (.aload_n 0, 1) := dk_42 (dk_at dksX13_goToEnd_0 13 rfl rfl)
theorem dX13_goToEnd_14 : decode cX13_goToEnd 14 = .ok (.getfield 22, 3) := dk_180 0 22 (dk_at dksX13_goToEnd_0 14 rfl rfl)
theorem dX13_goToEnd_17 : decode cX13_goToEnd 17 = .ok (.aload_n 0, 1) := dk_42 (dk_at dksX13_goToEnd_0 17 rfl rfl)
theorem dX13_goToEnd_18 : decode cX13_goToEnd 18 = .ok (.getfield 189, 3) := dk_180 0 189 (dk_at dksX13_goToEnd_0 18 rfl rfl)
theorem dX13_goToEnd_21 : decode cX13_goToEnd 21 = .ok (.dup2, 1) := dk_92 (dk_at dksX13_goToEnd_0 21 rfl rfl)
theorem dX13_goToEnd_22 : decode cX13_goToEnd 22 = .ok (.iaload, 1) := dk_46 (dk_at dksX13_goToEnd_0 22 rfl rfl)
theorem dX13_goToEnd_23 : decode cX13_goToEnd 23 = .ok (.iconst 1, 1) := dk_4 (dk_at dksX13_goToEnd_0 23 rfl rfl)
theorem dX13_goToEnd_24 : decode cX13_goToEnd 24 = .ok (.aload_n 0, 1) := dk_42 (dk_at dksX13_goToEnd_1 0 rfl rfl)
theorem dX13_goToEnd_25 : decode cX13_goToEnd 25 = .ok (.getfield 192, 3) := dk_180 0 192 (dk_at dksX13_goToEnd_1 1 rfl rfl)
theorem dX13_goToEnd_28 : decode cX13_goToEnd 28 = .ok (.ishl, 1) := dk_120 (dk_at dksX13_goToEnd_1 4 rfl rfl)
theorem dX13_goToEnd_29 : decode cX13_goToEnd 29 = .ok (.iconst (-1), 1) := dk_2 (dk_at dksX13_goToEnd_1 5 rfl rfl)
theorem dX13_goToEnd_30 : decode cX13_goToEnd 30 = .ok (.ixor, 1) := dk_130 (dk_at dksX13_goToEnd_1 6 rfl rfl)
theorem dX13_goToEnd_31 : decode cX13_goToEnd 31 = .ok (.iand, 1) := dk_126 (dk_at dksX13_goToEnd_1 7 rfl rfl)
theorem dX13_goToEnd_32 : decode cX13_goToEnd 32 = .ok (.iastore, 1) := dk_79 (dk_at dksX13_goToEnd_1 8 rfl rfl)
theorem dX13_goToEnd_33 : decode cX13_goToEnd 33 = .ok (.iconst 4, 1) := dk_7 (dk_at dksX13_goToEnd_1 9 rfl rfl)
theorem dX13_goToEnd_34 : decode cX13_goToEnd 34 = .ok (.aload_n 0, 1) := dk_42 (dk_at dksX13_goToEnd_1 10 rfl rfl)
theorem dX13_goToEnd_35 : decode cX13_goToEnd 35 = .ok (.getfield 198, 3) := dk_180 0 198 (dk_at dksX13_goToEnd_1 11 rfl rfl)
theorem dX13_goToEnd_38 : decode cX13_goToEnd 38 = .ok (.imul, 1) := dk_104 (dk_at dksX13_goToEnd_1 14 rfl rfl)
theorem dX13_goToEnd_39 : decode cX13_goToEnd 39 = .ok (.istore_n 2, 1) := dk_61 (dk_at dksX13_goToEnd_1 15 rfl rfl)
theorem dX13_goToEnd_40 : decode cX13_goToEnd 40 = .ok (.aload_n 0, 1) := dk_42 (dk_at dksX13_goToEnd_1 16 rfl rfl)
theorem dX13_goToEnd_41 : decode cX13_goToEnd 41 = .ok (.getfield 25, 3) := dk_180 0 25 (dk_at dksX13_goToEnd_1 17 rfl rfl)
theorem dX13_goToEnd_44 : decode cX13_goToEnd 44 = .ok (.iload_n 2, 1) := dk_28 (dk_at dksX13_goToEnd_1 20 rfl rfl)
theorem dX13_goToEnd_45 : decode cX13_goToEnd 45 = .ok (.aload_n 0, 1) := dk_42 (dk_at dksX13_goToEnd_1 21 rfl rfl)
theorem dX13_goToEnd_46 : decode cX13_goToEnd 46 = .ok (.getfield 186, 3) := dk_180 0 186 (dk_at dksX13_goToEnd_2 0 rfl rfl)
theorem dX13_goToEnd_49 : decode cX13_goToEnd 49 = .ok (.iastore, 1) := dk_79 (dk_at dksX13_goToEnd_2 3 rfl rfl)
theorem dX13_goToEnd_50 : decode cX13_goToEnd 50 = .ok (.aload_n 0, 1) := dk_42 (dk_at dksX13_goToEnd_2 4 rfl rfl)
theorem dX13_goToEnd_51 : decode cX13_goToEnd 51 = .ok (.getfield 25, 3) := dk_180 0 25 (dk_at dksX13_goToEnd_2 5 rfl rfl)
theorem dX13_goToEnd_54 : decode cX13_goToEnd 54 = .ok (.iload_n 2, 1) := dk_28 (dk_at dksX13_goToEnd_2 8 rfl rfl)
theorem dX13_goToEnd_55 : decode cX13_goToEnd 55 = .ok (.iconst 1, 1) := dk_4 (dk_at dksX13_goToEnd_2 9 rfl rfl)
theorem dX13_goToEnd_56 : decode cX13_goToEnd 56 = .ok (.iadd, 1) := dk_96 (dk_at dksX13_goToEnd_2 10 rfl rfl)
theorem dX13_goToEnd_57 : decode cX13_goToEnd 57 = .ok (.aload_n 0, 1) := dk_42 (dk_at dksX13_goToEnd_2 11 rfl rfl)
theorem dX13_goToEnd_58 : decode cX13_goToEnd 58 = .ok (.getfield 189, 3) := dk_180 0 189 (dk_at dksX13_goToEnd_2 12 rfl rfl)
theorem dX13_goToEnd_61 : decode cX13_goToEnd 61 = .ok (.iastore, 1) := dk_79 (dk_at dksX13_goToEnd_2 15 rfl rfl)
theorem dX13_goToEnd_62 : decode cX13_goToEnd 62 = .ok (.aload_n 0, 1) := dk_42 (dk_at dksX13_goToEnd_2 16 rfl rfl)
theorem dX13_goToEnd_63 : decode cX13_goToEnd 63 = .ok (.getfield 25, 3) := dk_180 0 25 (dk_at dksX13_goToEnd_2 17 rfl rfl)
theorem dX13_goToEnd_66 : decode cX13_goToEnd 66 = .ok (.iload_n 2, 1) := dk_28 (dk_at dksX13_goToEnd_2 20 rfl rfl)
theorem dX13_goToEnd_67 : decode cX13_goToEnd 67 = .ok (.iconst 2, 1) := dk_5 (dk_at dksX13_goToEnd_2 21 rfl rfl)
theorem dX13_goToEnd_68 : decode cX13_goToEnd 68 = .ok (.iadd, 1) := dk_96 (dk_at dksX13_goToEnd_2 22 rfl rfl)
theorem dX13_goToEnd_69 : decode cX13_goToEnd 69 = .ok (.aload_n 0, 1) := dk_42 (dk_at dksX13_goToEnd_2 23 rfl rfl)
theorem dX13_goToEnd_70 : decode cX13_goToEnd 70 = .ok (.getfield 192, 3) := dk_180 0 192 (dk_at dksX13_goToEnd_3 0 rfl rfl)
theorem dX13_goToEnd_73 : decode cX13_goToEnd 73 = .ok (.iastore, 1) := dk_79 (dk_at dksX13_goToEnd_3 3 rfl rfl)
theorem dX13_goToEnd_74 : decode cX13_goToEnd 74 = .ok (.aload_n 0, 1) := dk_42 (dk_at dksX13_goToEnd_3 4 rfl rfl)
theorem dX13_goToEnd_75 : decode cX13_goToEnd 75 = .ok (.getfield 25, 3) := dk_180 0 25 (dk_at dksX13_goToEnd_3 5 rfl rfl)
theorem dX13_goToEnd_78 : decode cX13_goToEnd 78 = .ok (.iload_n 2, 1) := dk_28 (dk_at dksX13_goToEnd_3 8 rfl rfl)
theorem dX13_goToEnd_79 : decode cX13_goToEnd 79 = .ok (.iconst 3, 1) := dk_6 (dk_at dksX13_goToEnd_3 9 rfl rfl)
theorem dX13_goToEnd_80 : decode cX13_goToEnd 80 = .ok (.iadd, 1) := dk_96 (dk_at dksX13_goToEnd_3 10 rfl rfl)
theorem dX13_goToEnd_81 : decode cX13_goToEnd 81 = .ok (.aload_n 0, 1) := dk_42 (dk_at dksX13_goToEnd_3 11 rfl rfl)
theorem dX13_goToEnd_82 : decode cX13_goToEnd 82 = .ok (.getfield 195, 3) := dk_180 0 195 (dk_at dksX13_goToEnd_3 12 rfl rfl)
theorem dX13_goToEnd_85 : decode cX13_goToEnd 85 = .ok (.iastore, 1) := dk_79 (dk_at dksX13_goToEnd_3 15 rfl rfl)
theorem dX13_goToEnd_86 : decode cX13_goToEnd 86 = .ok (.aload_n 0, 1) := dk_42 (dk_at dksX13_goToEnd_3 16 rfl rfl)
theorem dX13_goToEnd_87 : decode cX13_goToEnd 87 = .ok (.dup, 1) := dk_89 (dk_at dksX13_goToEnd_3 17 rfl rfl)
theorem dX13_goToEnd_88 : decode cX13_goToEnd 88 = .ok (.getfield 198, 3) := dk_180 0 198 (dk_at dksX13_goToEnd_3 18 rfl rfl)
theorem dX13_goToEnd_91 : decode cX13_goToEnd 91 = .ok (.iconst 1, 1) := dk_4 (dk_at dksX13_goToEnd_3 21 rfl rfl)
theorem dX13_goToEnd_92 : decode cX13_goToEnd 92 = .ok (.iadd, 1) := dk_96 (dk_at dksX13_goToEnd_3 22 rfl rfl)
theorem dX13_goToEnd_93 : decode cX13_goToEnd 93 = .ok (.putfield 198, 3) := dk_181 0 198 (dk_at dksX13_goToEnd_4 0 rfl rfl)
theorem dX13_goToEnd_96 : decode cX13_goToEnd 96 = .ok (.goto (-91), 3) := dk_167 255 165 (dk_at dksX13_goToEnd_4 3 rfl rfl)
theorem dX13_goToEnd_99 : decode cX13_goToEnd 99 = .ok (.return_, 1) := dk_177 (dk_at dksX13_goToEnd_4 6 rfl rfl)
abbrev cX13_findStep : ByteArray := prog_28_method_61_code
def yX13_findStep : MethodName := ⟨RX13, "findStep", "(I)Z"⟩
def dkwX13_findStep_5 : List UInt8 := [132, 2, 1, 167, 255, 148, 3, 172]
abbrev dktX13_findStep_5 : List UInt8 := dkwX13_findStep_5 ++ []
def dkwX13_findStep_4 : List UInt8 := [181, 0, 192, 42, 21, 5, 181, 0, 195, 4, 172, 132, 4, 1, 167, 255, 186, 132, 3, 1, 167, 255, 161]
abbrev dktX13_findStep_4 : List UInt8 := dkwX13_findStep_4 ++ dktX13_findStep_5
def dkwX13_findStep_3 : List UInt8 := [16, 157, 54, 5, 21, 5, 16, 157, 159, 0, 27, 42, 28, 181, 0, 186, 42, 29, 181, 0, 189, 42, 21, 4]
abbrev dktX13_findStep_3 : List UInt8 := dkwX13_findStep_3 ++ dktX13_findStep_4
def dkwX13_findStep_2 : List UInt8 := [180, 0, 22, 29, 46, 21, 4, 184, 0, 54, 153, 0, 14, 42, 28, 29, 21, 4, 182, 0, 183, 167, 0, 5]
abbrev dktX13_findStep_2 : List UInt8 := dkwX13_findStep_2 ++ dktX13_findStep_3
def dkwX13_findStep_1 : List UInt8 := [162, 0, 93, 27, 28, 184, 0, 54, 153, 0, 85, 4, 54, 4, 21, 4, 16, 6, 163, 0, 69, 42]
abbrev dktX13_findStep_1 : List UInt8 := dkwX13_findStep_1 ++ dktX13_findStep_2
def dkwX13_findStep_0 : List UInt8 := [42, 182, 0, 145, 153, 0, 5, 3, 172, 3, 61, 28, 8, 162, 0, 109, 3, 62, 29, 42, 182, 0, 61]
abbrev dktX13_findStep_0 : List UInt8 := dkwX13_findStep_0 ++ dktX13_findStep_1
theorem dksX13_findStep_0 : cX13_findStep.data.toList.drop 0 = dktX13_findStep_0 := by decide +kernel
theorem dksX13_findStep_1 : cX13_findStep.data.toList.drop 23 = dktX13_findStep_1 := dk_seg dksX13_findStep_0 23 rfl rfl
theorem dksX13_findStep_2 : cX13_findStep.data.toList.drop 45 = dktX13_findStep_2 := dk_seg dksX13_findStep_1 22 rfl rfl
theorem dksX13_findStep_3 : cX13_findStep.data.toList.drop 69 = dktX13_findStep_3 := dk_seg dksX13_findStep_2 24 rfl rfl
theorem dksX13_findStep_4 : cX13_findStep.data.toList.drop 93 = dktX13_findStep_4 := dk_seg dksX13_findStep_3 24 rfl rfl
theorem dksX13_findStep_5 : cX13_findStep.data.toList.drop 116 = dktX13_findStep_5 := dk_seg dksX13_findStep_4 23 rfl rfl
theorem dX13_findStep_0 : decode cX13_findStep 0 = .ok (.aload_n 0, 1) := dk_42 (dk_at dksX13_findStep_0 0 rfl rfl)
theorem dX13_findStep_1 : decode cX13_findStep 1 = .ok (.invokevirtual 145, 3) := dk_182 0 145 (dk_at dksX13_findStep_0 1 rfl rfl)
theorem dX13_findStep_4 : decode cX13_findStep 4 = .ok (.ifCond .eq 5, 3) := dk_153 0 5 (dk_at dksX13_findStep_0 4 rfl rfl)
theorem dX13_findStep_7 : decode cX13_findStep 7 = .ok (.iconst 0, 1) := dk_3 (dk_at dksX13_findStep_0 7 rfl rfl)
theorem dX13_findStep_8 : decode cX13_findStep 8 = .ok (.ireturn, 1) := dk_172 (dk_at dksX13_findStep_0 8 rfl rfl)
theorem dX13_findStep_9 : decode cX13_findStep 9 = .ok (.iconst 0, 1) := dk_3 (dk_at dksX13_findStep_0 9 rfl rfl)
theorem dX13_findStep_10 : decode cX13_findStep 10 = .ok (.istore_n 2, 1) := dk_61 (dk_at dksX13_findStep_0 10 rfl rfl)
theorem dX13_findStep_11 : decode cX13_findStep 11 = .ok (.iload_n 2, 1) := dk_28 (dk_at dksX13_findStep_0 11 rfl rfl)
theorem dX13_findStep_12 : decode cX13_findStep 12 = .ok (.iconst 5, 1) := dk_8 (dk_at dksX13_findStep_0 12 rfl rfl)
theorem dX13_findStep_13 : decode cX13_findStep 13 = .ok (.if_icmp .ge 109, 3) := dk_162 0 109 (dk_at dksX13_findStep_0 13 rfl rfl)
theorem dX13_findStep_16 : decode cX13_findStep 16 = .ok (.iconst 0, 1) := dk_3 (dk_at dksX13_findStep_0 16 rfl rfl)
theorem dX13_findStep_17 : decode cX13_findStep 17 = .ok (.istore_n 3, 1) := dk_62 (dk_at dksX13_findStep_0 17 rfl rfl)
theorem dX13_findStep_18 : decode cX13_findStep 18 = .ok (.iload_n 3, 1) := dk_29 (dk_at dksX13_findStep_0 18 rfl rfl)
theorem dX13_findStep_19 : decode cX13_findStep 19 = .ok (.aload_n 0, 1) := dk_42 (dk_at dksX13_findStep_0 19 rfl rfl)
theorem dX13_findStep_20 : decode cX13_findStep 20 = .ok (.invokevirtual 61, 3) := dk_182 0 61 (dk_at dksX13_findStep_0 20 rfl rfl)
theorem dX13_findStep_23 : decode cX13_findStep 23 = .ok (.if_icmp .ge 93, 3) := dk_162 0 93 (dk_at dksX13_findStep_1 0 rfl rfl)
theorem dX13_findStep_26 : decode cX13_findStep 26 = .ok (.iload_n 1, 1) := dk_27 (dk_at dksX13_findStep_1 3 rfl rfl)
theorem dX13_findStep_27 : decode cX13_findStep 27 = .ok (.iload_n 2, 1) := dk_28 (dk_at dksX13_findStep_1 4 rfl rfl)
theorem dX13_findStep_28 : decode cX13_findStep 28 = .ok (.invokestatic 54, 3) := dk_184 0 54 (dk_at dksX13_findStep_1 5 rfl rfl)
theorem dX13_findStep_31 : decode cX13_findStep 31 = .ok (.ifCond .eq 85, 3) := dk_153 0 85 (dk_at dksX13_findStep_1 8 rfl rfl)
theorem dX13_findStep_34 : decode cX13_findStep 34 = .ok (.iconst 1, 1) := dk_4 (dk_at dksX13_findStep_1 11 rfl rfl)
theorem dX13_findStep_35 : decode cX13_findStep 35 = .ok (.istore 4, 2) := dk_54 4 (dk_at dksX13_findStep_1 12 rfl rfl)
theorem dX13_findStep_37 : decode cX13_findStep 37 = .ok (.iload 4, 2) := dk_21 4 (dk_at dksX13_findStep_1 14 rfl rfl)
theorem dX13_findStep_39 : decode cX13_findStep 39 = .ok (.bipush 6, 2) := dk_16 6 (dk_at dksX13_findStep_1 16 rfl rfl)
theorem dX13_findStep_41 : decode cX13_findStep 41 = .ok (.if_icmp .gt 69, 3) := dk_163 0 69 (dk_at dksX13_findStep_1 18 rfl rfl)
theorem dX13_findStep_44 : decode cX13_findStep 44 = .ok (.aload_n 0, 1) := dk_42 (dk_at dksX13_findStep_1 21 rfl rfl)
theorem dX13_findStep_45 : decode cX13_findStep 45 = .ok (.getfield 22, 3) := dk_180 0 22 (dk_at dksX13_findStep_2 0 rfl rfl)
theorem dX13_findStep_48 : decode cX13_findStep 48 = .ok (.iload_n 3, 1) := dk_29 (dk_at dksX13_findStep_2 3 rfl rfl)
theorem dX13_findStep_49 : decode cX13_findStep 49 = .ok (.iaload, 1) := dk_46 (dk_at dksX13_findStep_2 4 rfl rfl)
theorem dX13_findStep_50 : decode cX13_findStep 50 = .ok (.iload 4, 2) := dk_21 4 (dk_at dksX13_findStep_2 5 rfl rfl)
theorem dX13_findStep_52 : decode cX13_findStep 52 = .ok (.invokestatic 54, 3) := dk_184 0 54 (dk_at dksX13_findStep_2 7 rfl rfl)
theorem dX13_findStep_55 : decode cX13_findStep 55 = .ok (.ifCond .eq 14, 3) := dk_153 0 14 (dk_at dksX13_findStep_2 10 rfl rfl)
theorem dX13_findStep_58 : decode cX13_findStep 58 = .ok (.aload_n 0, 1) := dk_42 (dk_at dksX13_findStep_2 13 rfl rfl)
theorem dX13_findStep_59 : decode cX13_findStep 59 = .ok (.iload_n 2, 1) := dk_28 (dk_at dksX13_findStep_2 14 rfl rfl)
theorem dX13_findStep_60 : decode cX13_findStep 60 = .ok (.iload_n 3, 1) := dk_29 (dk_at dksX13_findStep_2 15 rfl rfl)
theorem dX13_findStep_61 : decode cX13_findStep 61 = .ok (.iload 4, 2) := dk_21 4 (dk_at dksX13_findStep_2 16 rfl rfl)
theorem dX13_findStep_63 : decode cX13_findStep 63 = .ok (.invokevirtual 183, 3) := dk_182 0 183 (dk_at dksX13_findStep_2 18 rfl rfl)
theorem dX13_findStep_66 : decode cX13_findStep 66 = .ok (.goto 5, 3) := dk_167 0 5 (dk_at dksX13_findStep_2 21 rfl rfl)
theorem dX13_findStep_69 : decode cX13_findStep 69 = .ok (.bipush (-99), 2) := dk_16 157 (dk_at dksX13_findStep_3 0 rfl rfl)
theorem dX13_findStep_71 : decode cX13_findStep 71 = .ok (.istore 5, 2) := dk_54 5 (dk_at dksX13_findStep_3 2 rfl rfl)
theorem dX13_findStep_73 : decode cX13_findStep 73 = .ok (.iload 5, 2) := dk_21 5 (dk_at dksX13_findStep_3 4 rfl rfl)
theorem dX13_findStep_75 : decode cX13_findStep 75 = .ok (.bipush (-99), 2) := dk_16 157 (dk_at dksX13_findStep_3 6 rfl rfl)
theorem dX13_findStep_77 : decode cX13_findStep 77 = .ok (.if_icmp .eq 27, 3) := dk_159 0 27 (dk_at dksX13_findStep_3 8 rfl rfl)
theorem dX13_findStep_80 : decode cX13_findStep 80 = .ok (.aload_n 0, 1) := dk_42 (dk_at dksX13_findStep_3 11 rfl rfl)
theorem dX13_findStep_81 : decode cX13_findStep 81 = .ok (.iload_n 2, 1) := dk_28 (dk_at dksX13_findStep_3 12 rfl rfl)
theorem dX13_findStep_82 : decode cX13_findStep 82 = .ok (.putfield 186, 3) := dk_181 0 186 (dk_at dksX13_findStep_3 13 rfl rfl)
theorem dX13_findStep_85 : decode cX13_findStep 85 = .ok (.aload_n 0, 1) := dk_42 (dk_at dksX13_findStep_3 16 rfl rfl)
theorem dX13_findStep_86 : decode cX13_findStep 86 = .ok (.iload_n 3, 1) := dk_29 (dk_at dksX13_findStep_3 17 rfl rfl)
theorem dX13_findStep_87 : decode cX13_findStep 87 = .ok (.putfield 189, 3) := dk_181 0 189 (dk_at dksX13_findStep_3 18 rfl rfl)
theorem dX13_findStep_90 : decode cX13_findStep 90 = .ok (.aload_n 0, 1) := dk_42 (dk_at dksX13_findStep_3 21 rfl rfl)
theorem dX13_findStep_91 : decode cX13_findStep 91 = .ok (.iload 4, 2) := dk_21 4 (dk_at dksX13_findStep_3 22 rfl rfl)
theorem dX13_findStep_93 : decode cX13_findStep 93 = .ok (.putfield 192, 3) := dk_181 0 192 (dk_at dksX13_findStep_4 0 rfl rfl)
theorem dX13_findStep_96 : decode cX13_findStep 96 = .ok (.aload_n 0, 1) := dk_42 (dk_at dksX13_findStep_4 3 rfl rfl)
theorem dX13_findStep_97 : decode cX13_findStep 97 = .ok (.iload 5, 2) := dk_21 5 (dk_at dksX13_findStep_4 4 rfl rfl)
theorem dX13_findStep_99 : decode cX13_findStep 99 = .ok (.putfield 195, 3) := dk_181 0 195 (dk_at dksX13_findStep_4 6 rfl rfl)
theorem dX13_findStep_102 : decode cX13_findStep 102 = .ok (.iconst 1, 1) := dk_4 (dk_at dksX13_findStep_4 9 rfl rfl)
theorem dX13_findStep_103 : decode cX13_findStep 103 = .ok (.ireturn, 1) := dk_172 (dk_at dksX13_findStep_4 10 rfl rfl)
theorem dX13_findStep_104 : decode cX13_findStep 104 = .ok (.iinc 4 1, 3) := dk_132 4 1 (dk_at dksX13_findStep_4 11 rfl rfl)
theorem dX13_findStep_107 : decode cX13_findStep 107 = .ok (.goto (-70), 3) := dk_167 255 186 (dk_at dksX13_findStep_4 14 rfl rfl)
theorem dX13_findStep_110 : decode cX13_findStep 110 = .ok (.iinc 3 1, 3) := dk_132 3 1 (dk_at dksX13_findStep_4 17 rfl rfl)
theorem dX13_findStep_113 : decode cX13_findStep 113 = .ok (.goto (-95), 3) := dk_167 255 161 (dk_at dksX13_findStep_4 20 rfl rfl)
theorem dX13_findStep_116 : decode cX13_findStep 116 = .ok (.iinc 2 1, 3) := dk_132 2 1 (dk_at dksX13_findStep_5 0 rfl rfl)
theorem dX13_findStep_119 : decode cX13_findStep 119 = .ok (.goto (-108), 3) := dk_167 255 148 (dk_at dksX13_findStep_5 3 rfl rfl)
theorem dX13_findStep_122 : decode cX13_findStep 122 = .ok (.iconst 0, 1) := dk_3 (dk_at dksX13_findStep_5 6 rfl rfl)
theorem dX13_findStep_123 : decode cX13_findStep 123 = .ok (.ireturn, 1) := dk_172 (dk_at dksX13_findStep_5 7 rfl rfl)
abbrev cX13_isBroken : ByteArray := prog_28_method_51_code
def yX13_isBroken : MethodName := ⟨RX13, "isBroken", "()Z"⟩
def dkwX13_isBroken_1 : List UInt8 := [154, 0, 7, 4, 167, 0, 4, 3, 60, 132, 2, 1, 167, 255, 226, 27, 172]
abbrev dktX13_isBroken_1 : List UInt8 := dkwX13_isBroken_1 ++ []
def dkwX13_isBroken_0 : List UInt8 := [3, 60, 3, 61, 28, 42, 182, 0, 61, 162, 0, 28, 27, 154, 0, 12, 42, 180, 0, 22, 28, 46]
abbrev dktX13_isBroken_0 : List UInt8 := dkwX13_isBroken_0 ++ dktX13_isBroken_1
theorem dksX13_isBroken_0 : cX13_isBroken.data.toList.drop 0 = dktX13_isBroken_0 := by decide +kernel
theorem dksX13_isBroken_1 : cX13_isBroken.data.toList.drop 22 = dktX13_isBroken_1 := dk_seg dksX13_isBroken_0 22 rfl rfl
theorem dX13_isBroken_0 : decode cX13_isBroken 0 = .ok (.iconst 0, 1) := dk_3 (dk_at dksX13_isBroken_0 0 rfl rfl)
theorem dX13_isBroken_1 : decode cX13_isBroken 1 = .ok (.istore_n 1, 1) := dk_60 (dk_at dksX13_isBroken_0 1 rfl rfl)
theorem dX13_isBroken_2 : decode cX13_isBroken 2 = .ok (.iconst 0, 1) := dk_3 (dk_at dksX13_isBroken_0 2 rfl rfl)
theorem dX13_isBroken_3 : decode cX13_isBroken 3 = .ok (.istore_n 2, 1) := dk_61 (dk_at dksX13_isBroken_0 3 rfl rfl)
theorem dX13_isBroken_4 : decode cX13_isBroken 4 = .ok (.iload_n 2, 1) := dk_28 (dk_at dksX13_isBroken_0 4 rfl rfl)
theorem dX13_isBroken_5 : decode cX13_isBroken 5 = .ok (.aload_n 0, 1) := dk_42 (dk_at dksX13_isBroken_0 5 rfl rfl)
theorem dX13_isBroken_6 : decode cX13_isBroken 6 = .ok (.invokevirtual 61, 3) := dk_182 0 61 (dk_at dksX13_isBroken_0 6 rfl rfl)
theorem dX13_isBroken_9 : decode cX13_isBroken 9 = .ok (.if_icmp .ge 28, 3) := dk_162 0 28 (dk_at dksX13_isBroken_0 9 rfl rfl)
theorem dX13_isBroken_12 : decode cX13_isBroken 12 = .ok (.iload_n 1, 1) := dk_27 (dk_at dksX13_isBroken_0 12 rfl rfl)
theorem dX13_isBroken_13 : decode cX13_isBroken 13 = .ok (.ifCond .ne 12, 3) := dk_154 0 12 (dk_at dksX13_isBroken_0 13 rfl rfl)
theorem dX13_isBroken_16 : decode cX13_isBroken 16 = .ok (.aload_n 0, 1) := dk_42 (dk_at dksX13_isBroken_0 16 rfl rfl)
theorem dX13_isBroken_17 : decode cX13_isBroken 17 = .ok (.getfield 22, 3) := dk_180 0 22 (dk_at dksX13_isBroken_0 17 rfl rfl)
theorem dX13_isBroken_20 : decode cX13_isBroken 20 = .ok (.iload_n 2, 1) := dk_28 (dk_at dksX13_isBroken_0 20 rfl rfl)
theorem dX13_isBroken_21 : decode cX13_isBroken 21 = .ok (.iaload, 1) := dk_46 (dk_at dksX13_isBroken_0 21 rfl rfl)
theorem dX13_isBroken_22 : decode cX13_isBroken 22 = .ok (.ifCond .ne 7, 3) := dk_154 0 7 (dk_at dksX13_isBroken_1 0 rfl rfl)
theorem dX13_isBroken_25 : decode cX13_isBroken 25 = .ok (.iconst 1, 1) := dk_4 (dk_at dksX13_isBroken_1 3 rfl rfl)
theorem dX13_isBroken_26 : decode cX13_isBroken 26 = .ok (.goto 4, 3) := dk_167 0 4 (dk_at dksX13_isBroken_1 4 rfl rfl)
theorem dX13_isBroken_29 : decode cX13_isBroken 29 = .ok (.iconst 0, 1) := dk_3 (dk_at dksX13_isBroken_1 7 rfl rfl)
theorem dX13_isBroken_30 : decode cX13_isBroken 30 = .ok (.istore_n 1, 1) := dk_60 (dk_at dksX13_isBroken_1 8 rfl rfl)
theorem dX13_isBroken_31 : decode cX13_isBroken 31 = .ok (.iinc 2 1, 3) := dk_132 2 1 (dk_at dksX13_isBroken_1 9 rfl rfl)
theorem dX13_isBroken_34 : decode cX13_isBroken 34 = .ok (.goto (-30), 3) := dk_167 255 226 (dk_at dksX13_isBroken_1 12 rfl rfl)
theorem dX13_isBroken_37 : decode cX13_isBroken 37 = .ok (.iload_n 1, 1) := dk_27 (dk_at dksX13_isBroken_1 15 rfl rfl)
theorem dX13_isBroken_38 : decode cX13_isBroken 38 = .ok (.ireturn, 1) := dk_172 (dk_at dksX13_isBroken_1 16 rfl rfl)
abbrev cX13_has : ByteArray := prog_28_method_6_code
def yX13_has : MethodName := ⟨RX13, "has", "(II)Z"⟩
def dkwX13_has_0 : List UInt8 := [26, 27, 122, 4, 126, 4, 160, 0, 7, 4, 167, 0, 4, 3, 172]
abbrev dktX13_has_0 : List UInt8 := dkwX13_has_0 ++ []
theorem dksX13_has_0 : cX13_has.data.toList.drop 0 = dktX13_has_0 := by decide +kernel
theorem dX13_has_0 : decode cX13_has 0 = .ok (.iload_n 0, 1) := dk_26 (dk_at dksX13_has_0 0 rfl rfl)
theorem dX13_has_1 : decode cX13_has 1 = .ok (.iload_n 1, 1) := dk_27 (dk_at dksX13_has_0 1 rfl rfl)
theorem dX13_has_2 : decode cX13_has 2 = .ok (.ishr, 1) := dk_122 (dk_at dksX13_has_0 2 rfl rfl)
theorem dX13_has_3 : decode cX13_has 3 = .ok (.iconst 1, 1) := dk_4 (dk_at dksX13_has_0 3 rfl rfl)
theorem dX13_has_4 : decode cX13_has 4 = .ok (.iand, 1) := dk_126 (dk_at dksX13_has_0 4 rfl rfl)
theorem dX13_has_5 : decode cX13_has 5 = .ok (.iconst 1, 1) := dk_4 (dk_at dksX13_has_0 5 rfl rfl)
theorem dX13_has_6 : decode cX13_has 6 = .ok (.if_icmp .ne 7, 3) := dk_160 0 7 (dk_at dksX13_has_0 6 rfl rfl)
theorem dX13_has_9 : decode cX13_has 9 = .ok (.iconst 1, 1) := dk_4 (dk_at dksX13_has_0 9 rfl rfl)
theorem dX13_has_10 : decode cX13_has 10 = .ok (.goto 4, 3) := dk_167 0 4 (dk_at dksX13_has_0 10 rfl rfl)
theorem dX13_has_13 : decode cX13_has 13 = .ok (.iconst 0, 1) := dk_3 (dk_at dksX13_has_0 13 rfl rfl)
theorem dX13_has_14 : decode cX13_has 14 = .ok (.ireturn, 1) := dk_172 (dk_at dksX13_has_0 14 rfl rfl)
abbrev cX13_causeOf : ByteArray := prog_28_method_60_code
def yX13_causeOf : MethodName := ⟨RX13, "causeOf", "(III)I"⟩
def dkwX13_causeOf_3 : List UInt8 := [29, 182, 0, 180, 172]
abbrev dktX13_causeOf_3 : List UInt8 := dkwX13_causeOf_3 ++ []
def dkwX13_causeOf_2 : List UInt8 := [42, 28, 29, 182, 0, 170, 172, 42, 28, 29, 182, 0, 173, 172, 42, 27, 28, 29, 182, 0, 176, 172, 42, 28]
abbrev dktX13_causeOf_2 : List UInt8 := dkwX13_causeOf_2 ++ dktX13_causeOf_3
def dkwX13_causeOf_1 : List UInt8 := [170, 0, 0, 0, 0, 0, 53, 0, 0, 0, 0, 0, 0, 0, 3, 0, 0, 0, 31, 0, 0, 0, 38, 0, 0, 0, 45, 0, 0, 0, 45]
abbrev dktX13_causeOf_1 : List UInt8 := dkwX13_causeOf_1 ++ dktX13_causeOf_2
def dkwX13_causeOf_0 : List UInt8 := [27]
abbrev dktX13_causeOf_0 : List UInt8 := dkwX13_causeOf_0 ++ dktX13_causeOf_1
theorem dksX13_causeOf_0 : cX13_causeOf.data.toList.drop 0 = dktX13_causeOf_0 := by decide +kernel
theorem dksX13_causeOf_1 : cX13_causeOf.data.toList.drop 1 = dktX13_causeOf_1 := dk_seg dksX13_causeOf_0 1 rfl rfl
theorem dksX13_causeOf_2 : cX13_causeOf.data.toList.drop 32 = dktX13_causeOf_2 := dk_seg dksX13_causeOf_1 31 rfl rfl
theorem dksX13_causeOf_3 : cX13_causeOf.data.toList.drop 56 = dktX13_causeOf_3 := dk_seg dksX13_causeOf_2 24 rfl rfl
theorem dX13_causeOf_0 : decode cX13_causeOf 0 = .ok (.iload_n 1, 1) := dk_27 (dk_at dksX13_causeOf_0 0 rfl rfl)
theorem dX13_causeOf_1 : decode cX13_causeOf 1 = .ok (.tableswitch 53 0 3 #[31, 38, 45, 45], 31) := by decide +kernel
theorem dX13_causeOf_32 : decode cX13_causeOf 32 = .ok (.aload_n 0, 1) := dk_42 (dk_at dksX13_causeOf_2 0 rfl rfl)
theorem dX13_causeOf_33 : decode cX13_causeOf 33 = .ok (.iload_n 2, 1) := dk_28 (dk_at dksX13_causeOf_2 1 rfl rfl)
theorem dX13_causeOf_34 : decode cX13_causeOf 34 = .ok (.iload_n 3, 1) := dk_29 (dk_at dksX13_causeOf_2 2 rfl rfl)
theorem dX13_causeOf_35 : decode cX13_causeOf 35 = .ok (.invokevirtual 170, 3) := dk_182 0 170 (dk_at dksX13_causeOf_2 3 rfl rfl)
theorem dX13_causeOf_38 : decode cX13_causeOf 38 = .ok (.ireturn, 1) := dk_172 (dk_at dksX13_causeOf_2 6 rfl rfl)
theorem dX13_causeOf_39 : decode cX13_causeOf 39 = .ok (.aload_n 0, 1) := dk_42 (dk_at dksX13_causeOf_2 7 rfl rfl)
theorem dX13_causeOf_40 : decode cX13_causeOf 40 = .ok (.iload_n 2, 1) := dk_28 (dk_at dksX13_causeOf_2 8 rfl rfl)
theorem dX13_causeOf_41 : decode cX13_causeOf 41 = .ok (.iload_n 3, 1) := dk_29 (dk_at dksX13_causeOf_2 9 rfl rfl)
theorem dX13_causeOf_42 : decode cX13_causeOf 42 = .ok (.invokevirtual 173, 3) := dk_182 0 173 (dk_at dksX13_causeOf_2 10 rfl rfl)
theorem dX13_causeOf_45 : decode cX13_causeOf 45 = .ok (.ireturn, 1) := dk_172 (dk_at dksX13_causeOf_2 13 rfl rfl)
theorem dX13_causeOf_46 : decode cX13_causeOf 46 = .ok (.aload_n 0, 1) := dk_42 (dk_at dksX13_causeOf_2 14 rfl rfl)
theorem dX13_causeOf_47 : decode cX13_causeOf 47 = .ok (.iload_n 1, 1) := dk_27 (dk_at dksX13_causeOf_2 15 rfl rfl)
theorem dX13_causeOf_48 : decode cX13_causeOf 48 = .ok (.iload_n 2, 1) := dk_28 (dk_at dksX13_causeOf_2 16 rfl rfl)
theorem dX13_causeOf_49 : decode cX13_causeOf 49 = .ok (.iload_n 3, 1) := dk_29 (dk_at dksX13_causeOf_2 17 rfl rfl)
theorem dX13_causeOf_50 : decode cX13_causeOf 50 = .ok (.invokevirtual 176, 3) := dk_182 0 176 (dk_at dksX13_causeOf_2 18 rfl rfl)
theorem dX13_causeOf_53 : decode cX13_causeOf 53 = .ok (.ireturn, 1) := dk_172 (dk_at dksX13_causeOf_2 21 rfl rfl)
theorem dX13_causeOf_54 : decode cX13_causeOf 54 = .ok (.aload_n 0, 1) := dk_42 (dk_at dksX13_causeOf_2 22 rfl rfl)
theorem dX13_causeOf_55 : decode cX13_causeOf 55 = .ok (.iload_n 2, 1) := dk_28 (dk_at dksX13_causeOf_2 23 rfl rfl)
theorem dX13_causeOf_56 : decode cX13_causeOf 56 = .ok (.iload_n 3, 1) := dk_29 (dk_at dksX13_causeOf_3 0 rfl rfl)
theorem dX13_causeOf_57 : decode cX13_causeOf 57 = .ok (.invokevirtual 180, 3) := dk_182 0 180 (dk_at dksX13_causeOf_3 1 rfl rfl)
theorem dX13_causeOf_60 : decode cX13_causeOf 60 = .ok (.ireturn, 1) := dk_172 (dk_at dksX13_causeOf_3 4 rfl rfl)
abbrev cX13_soleCause : ByteArray := prog_28_method_53_code
def yX13_soleCause : MethodName := ⟨RX13, "soleCause", "(II)I"⟩
def dkwX13_soleCause_2 : List UInt8 := [167, 255, 213, 16, 157, 172]
abbrev dktX13_soleCause_2 : List UInt8 := dkwX13_soleCause_2 ++ []
def dkwX13_soleCause_1 : List UInt8 := [182, 0, 72, 160, 0, 17, 42, 180, 0, 22, 29, 46, 4, 28, 120, 160, 0, 5, 29, 172, 132, 3, 1]
abbrev dktX13_soleCause_1 : List UInt8 := dkwX13_soleCause_1 ++ dktX13_soleCause_2
def dkwX13_soleCause_0 : List UInt8 := [3, 62, 29, 42, 182, 0, 61, 162, 0, 41, 29, 27, 159, 0, 30, 42, 29, 182, 0, 72, 42, 27]
abbrev dktX13_soleCause_0 : List UInt8 := dkwX13_soleCause_0 ++ dktX13_soleCause_1
theorem dksX13_soleCause_0 : cX13_soleCause.data.toList.drop 0 = dktX13_soleCause_0 := by decide +kernel
theorem dksX13_soleCause_1 : cX13_soleCause.data.toList.drop 22 = dktX13_soleCause_1 := dk_seg dksX13_soleCause_0 22 rfl rfl
theorem dksX13_soleCause_2 : cX13_soleCause.data.toList.drop 45 = dktX13_soleCause_2 := dk_seg dksX13_soleCause_1 23 rfl rfl
theorem dX13_soleCause_0 : decode cX13_soleCause 0 = .ok (.iconst 0, 1) := dk_3 (dk_at dksX13_soleCause_0 0 rfl rfl)
theorem dX13_soleCause_1 : decode cX13_soleCause 1 = .ok (.istore_n 3, 1) := dk_62 (dk_at dksX13_soleCause_0 1 rfl rfl)
theorem dX13_soleCause_2 : decode cX13_soleCause 2 = .ok (.iload_n 3, 1) := dk_29 (dk_at dksX13_soleCause_0 2 rfl rfl)
theorem dX13_soleCause_3 : decode cX13_soleCause 3 = .ok (.aload_n 0, 1) := dk_42 (dk_at dksX13_soleCause_0 3 rfl rfl)
theorem dX13_soleCause_4 : decode cX13_soleCause 4 = .ok (.invokevirtual 61, 3) := dk_182 0 61 (dk_at dksX13_soleCause_0 4 rfl rfl)
theorem dX13_soleCause_7 : decode cX13_soleCause 7 = .ok (.if_icmp .ge 41, 3) := dk_162 0 41 (dk_at dksX13_soleCause_0 7 rfl rfl)
theorem dX13_soleCause_10 : decode cX13_soleCause 10 = .ok (.iload_n 3, 1) := dk_29 (dk_at dksX13_soleCause_0 10 rfl rfl)
theorem dX13_soleCause_11 : decode cX13_soleCause 11 = .ok (.iload_n 1, 1) := dk_27 (dk_at dksX13_soleCause_0 11 rfl rfl)
theorem dX13_soleCause_12 : decode cX13_soleCause 12 = .ok (.if_icmp .eq 30, 3) := dk_159 0 30 (dk_at dksX13_soleCause_0 12 rfl rfl)
theorem dX13_soleCause_15 : decode cX13_soleCause 15 = .ok (.aload_n 0, 1) := dk_42 (dk_at dksX13_soleCause_0 15 rfl rfl)
theorem dX13_soleCause_16 : decode cX13_soleCause 16 = .ok (.iload_n 3, 1) := dk_29 (dk_at dksX13_soleCause_0 16 rfl rfl)
theorem dX13_soleCause_17 : decode cX13_soleCause 17 = .ok (.invokevirtual 72, 3) := dk_182 0 72 (dk_at dksX13_soleCause_0 17 rfl rfl)
theorem dX13_soleCause_20 : decode cX13_soleCause 20 = .ok (.aload_n 0, 1) := dk_42 (dk_at dksX13_soleCause_0 20 rfl rfl)
theorem dX13_soleCause_21 : decode cX13_soleCause 21 = .ok (.iload_n 1, 1) := dk_27 (dk_at dksX13_soleCause_0 21 rfl rfl)
theorem dX13_soleCause_22 : decode cX13_soleCause 22 = .ok (.invokevirtual 72, 3) := dk_182 0 72 (dk_at dksX13_soleCause_1 0 rfl rfl)
theorem dX13_soleCause_25 : decode cX13_soleCause 25 = .ok (.if_icmp .ne 17, 3) := dk_160 0 17 (dk_at dksX13_soleCause_1 3 rfl rfl)
theorem dX13_soleCause_28 : decode cX13_soleCause 28 = .ok (.aload_n 0, 1) := dk_42 (dk_at dksX13_soleCause_1 6 rfl rfl)
theorem dX13_soleCause_29 : decode cX13_soleCause 29 = .ok (.getfield 22, 3) := dk_180 0 22 (dk_at dksX13_soleCause_1 7 rfl rfl)
theorem dX13_soleCause_32 : decode cX13_soleCause 32 = .ok (.iload_n 3, 1) := dk_29 (dk_at dksX13_soleCause_1 10 rfl rfl)
theorem dX13_soleCause_33 : decode cX13_soleCause 33 = .ok (.iaload, 1) := dk_46 (dk_at dksX13_soleCause_1 11 rfl rfl)
theorem dX13_soleCause_34 : decode cX13_soleCause 34 = .ok (.iconst 1, 1) := dk_4 (dk_at dksX13_soleCause_1 12 rfl rfl)
theorem dX13_soleCause_35 : decode cX13_soleCause 35 = .ok (.iload_n 2, 1) := dk_28 (dk_at dksX13_soleCause_1 13 rfl rfl)
theorem dX13_soleCause_36 : decode cX13_soleCause 36 = .ok (.ishl, 1) := dk_120 (dk_at dksX13_soleCause_1 14 rfl rfl)
theorem dX13_soleCause_37 : decode cX13_soleCause 37 = .ok (.if_icmp .ne 5, 3) := dk_160 0 5 (dk_at dksX13_soleCause_1 15 rfl rfl)
theorem dX13_soleCause_40 : decode cX13_soleCause 40 = .ok (.iload_n 3, 1) := dk_29 (dk_at dksX13_soleCause_1 18 rfl rfl)
theorem dX13_soleCause_41 : decode cX13_soleCause 41 = .ok (.ireturn, 1) := dk_172 (dk_at dksX13_soleCause_1 19 rfl rfl)
theorem dX13_soleCause_42 : decode cX13_soleCause 42 = .ok (.iinc 3 1, 3) := dk_132 3 1 (dk_at dksX13_soleCause_1 20 rfl rfl)
theorem dX13_soleCause_45 : decode cX13_soleCause 45 = .ok (.goto (-43), 3) := dk_167 255 213 (dk_at dksX13_soleCause_2 0 rfl rfl)
theorem dX13_soleCause_48 : decode cX13_soleCause 48 = .ok (.bipush (-99), 2) := dk_16 157 (dk_at dksX13_soleCause_2 3 rfl rfl)
theorem dX13_soleCause_50 : decode cX13_soleCause 50 = .ok (.ireturn, 1) := dk_172 (dk_at dksX13_soleCause_2 5 rfl rfl)
abbrev cX13_onlyCause : ByteArray := prog_28_method_54_code
def yX13_onlyCause : MethodName := ⟨RX13, "onlyCause", "(II)I"⟩
def dkwX13_onlyCause_3 : List UInt8 := [21, 4, 154, 0, 8, 16, 157, 167, 0, 8, 21, 4, 184, 0, 152, 172]
abbrev dktX13_onlyCause_3 : List UInt8 := dkwX13_onlyCause_3 ++ []
def dkwX13_onlyCause_2 : List UInt8 := [132, 4, 1, 167, 255, 210, 42, 180, 0, 22, 27, 46, 29, 2, 130, 126, 4, 28, 120, 2, 130, 126, 54, 4]
abbrev dktX13_onlyCause_2 : List UInt8 := dkwX13_onlyCause_2 ++ dktX13_onlyCause_3
def dkwX13_onlyCause_1 : List UInt8 := [182, 0, 72, 42, 27, 182, 0, 72, 160, 0, 13, 42, 180, 0, 22, 21, 4, 46, 167, 0, 4, 3, 128, 62]
abbrev dktX13_onlyCause_1 : List UInt8 := dkwX13_onlyCause_1 ++ dktX13_onlyCause_2
def dkwX13_onlyCause_0 : List UInt8 := [3, 62, 3, 54, 4, 21, 4, 42, 182, 0, 61, 162, 0, 43, 29, 21, 4, 27, 159, 0, 27, 42, 21, 4]
abbrev dktX13_onlyCause_0 : List UInt8 := dkwX13_onlyCause_0 ++ dktX13_onlyCause_1
theorem dksX13_onlyCause_0 : cX13_onlyCause.data.toList.drop 0 = dktX13_onlyCause_0 := by decide +kernel
theorem dksX13_onlyCause_1 : cX13_onlyCause.data.toList.drop 24 = dktX13_onlyCause_1 := dk_seg dksX13_onlyCause_0 24 rfl rfl
theorem dksX13_onlyCause_2 : cX13_onlyCause.data.toList.drop 48 = dktX13_onlyCause_2 := dk_seg dksX13_onlyCause_1 24 rfl rfl
theorem dksX13_onlyCause_3 : cX13_onlyCause.data.toList.drop 72 = dktX13_onlyCause_3 := dk_seg dksX13_onlyCause_2 24 rfl rfl
theorem dX13_onlyCause_0 : decode cX13_onlyCause 0 = .ok (.iconst 0, 1) := dk_3 (dk_at dksX13_onlyCause_0 0 rfl rfl)
theorem dX13_onlyCause_1 : decode cX13_onlyCause 1 = .ok (.istore_n 3, 1) := dk_62 (dk_at dksX13_onlyCause_0 1 rfl rfl)
theorem dX13_onlyCause_2 : decode cX13_onlyCause 2 = .ok (.iconst 0, 1) := dk_3 (dk_at dksX13_onlyCause_0 2 rfl rfl)
theorem dX13_onlyCause_3 : decode cX13_onlyCause 3 = .ok (.istore 4, 2) := dk_54 4 (dk_at dksX13_onlyCause_0 3 rfl rfl)
theorem dX13_onlyCause_5 : decode cX13_onlyCause 5 = .ok (.iload 4, 2) := dk_21 4 (dk_at dksX13_onlyCause_0 5 rfl rfl)
theorem dX13_onlyCause_7 : decode cX13_onlyCause 7 = .ok (.aload_n 0, 1) := dk_42 (dk_at dksX13_onlyCause_0 7 rfl rfl)
theorem dX13_onlyCause_8 : decode cX13_onlyCause 8 = .ok (.invokevirtual 61, 3) := dk_182 0 61 (dk_at dksX13_onlyCause_0 8 rfl rfl)
theorem dX13_onlyCause_11 : decode cX13_onlyCause 11 = .ok (.if_icmp .ge 43, 3) := dk_162 0 43 (dk_at dksX13_onlyCause_0 11 rfl rfl)
theorem dX13_onlyCause_14 : decode cX13_onlyCause 14 = .ok (.iload_n 3, 1) := dk_29 (dk_at dksX13_onlyCause_0 14 rfl rfl)
theorem dX13_onlyCause_15 : decode cX13_onlyCause 15 = .ok (.iload 4, 2) := dk_21 4 (dk_at dksX13_onlyCause_0 15 rfl rfl)
theorem dX13_onlyCause_17 : decode cX13_onlyCause 17 = .ok (.iload_n 1, 1) := dk_27 (dk_at dksX13_onlyCause_0 17 rfl rfl)
theorem dX13_onlyCause_18 : decode cX13_onlyCause 18 = .ok (.if_icmp .eq 27, 3) := dk_159 0 27 (dk_at dksX13_onlyCause_0 18 rfl rfl)
theorem dX13_onlyCause_21 : decode cX13_onlyCause 21 = .ok (.aload_n 0, 1) := dk_42 (dk_at dksX13_onlyCause_0 21 rfl rfl)
theorem dX13_onlyCause_22 : decode cX13_onlyCause 22 = .ok (.iload 4, 2) := dk_21 4 (dk_at dksX13_onlyCause_0 22 rfl rfl)
theorem dX13_onlyCause_24 : decode cX13_onlyCause 24 = .ok (.invokevirtual 72, 3) := dk_182 0 72 (dk_at dksX13_onlyCause_1 0 rfl rfl)
theorem dX13_onlyCause_27 : decode cX13_onlyCause 27 = .ok (.aload_n 0, 1) := dk_42 (dk_at dksX13_onlyCause_1 3 rfl rfl)
theorem dX13_onlyCause_28 : decode cX13_onlyCause 28 = .ok (.iload_n 1, 1) := dk_27 (dk_at dksX13_onlyCause_1 4 rfl rfl)
theorem dX13_onlyCause_29 : decode cX13_onlyCause 29 = .ok (.invokevirtual 72, 3) := dk_182 0 72 (dk_at dksX13_onlyCause_1 5 rfl rfl)
theorem dX13_onlyCause_32 : decode cX13_onlyCause 32 = .ok (.if_icmp .ne 13, 3) := dk_160 0 13 (dk_at dksX13_onlyCause_1 8 rfl rfl)
theorem dX13_onlyCause_35 : decode cX13_onlyCause 35 = .ok (.aload_n 0, 1) := dk_42 (dk_at dksX13_onlyCause_1 11 rfl rfl)
theorem dX13_onlyCause_36 : decode cX13_onlyCause 36 = .ok (.getfield 22, 3) := dk_180 0 22 (dk_at dksX13_onlyCause_1 12 rfl rfl)
theorem dX13_onlyCause_39 : decode cX13_onlyCause 39 = .ok (.iload 4, 2) := dk_21 4 (dk_at dksX13_onlyCause_1 15 rfl rfl)
theorem dX13_onlyCause_41 : decode cX13_onlyCause 41 = .ok (.iaload, 1) := dk_46 (dk_at dksX13_onlyCause_1 17 rfl rfl)
theorem dX13_onlyCause_42 : decode cX13_onlyCause 42 = .ok (.goto 4, 3) := dk_167 0 4 (dk_at dksX13_onlyCause_1 18 rfl rfl)
theorem dX13_onlyCause_45 : decode cX13_onlyCause 45 = .ok (.iconst 0, 1) := dk_3 (dk_at dksX13_onlyCause_1 21 rfl rfl)
theorem dX13_onlyCause_46 : decode cX13_onlyCause 46 = .ok (.ior, 1) := dk_128 (dk_at dksX13_onlyCause_1 22 rfl rfl)
theorem dX13_onlyCause_47 : decode cX13_onlyCause 47 = .ok (.istore_n 3, 1) := dk_62 (dk_at dksX13_onlyCause_1 23 rfl rfl)
theorem dX13_onlyCause_48 : decode cX13_onlyCause 48 = .ok (.iinc 4 1, 3) := dk_132 4 1 (dk_at dksX13_onlyCause_2 0 rfl rfl)
theorem dX13_onlyCause_51 : decode cX13_onlyCause 51 = .ok (.goto (-46), 3) := dk_167 255 210 (dk_at dksX13_onlyCause_2 3 rfl rfl)
theorem dX13_onlyCause_54 : decode cX13_onlyCause 54 = .ok (.aload_n 0, 1) := dk_42 (dk_at dksX13_onlyCause_2 6 rfl rfl)
theorem dX13_onlyCause_55 : decode cX13_onlyCause 55 = .ok (.getfield 22, 3) := dk_180 0 22 (dk_at dksX13_onlyCause_2 7 rfl rfl)
theorem dX13_onlyCause_58 : decode cX13_onlyCause 58 = .ok (.iload_n 1, 1) := dk_27 (dk_at dksX13_onlyCause_2 10 rfl rfl)
theorem dX13_onlyCause_59 : decode cX13_onlyCause 59 = .ok (.iaload, 1) := dk_46 (dk_at dksX13_onlyCause_2 11 rfl rfl)
theorem dX13_onlyCause_60 : decode cX13_onlyCause 60 = .ok (.iload_n 3, 1) := dk_29 (dk_at dksX13_onlyCause_2 12 rfl rfl)
theorem dX13_onlyCause_61 : decode cX13_onlyCause 61 = .ok (.iconst (-1), 1) := dk_2 (dk_at dksX13_onlyCause_2 13 rfl rfl)
theorem dX13_onlyCause_62 : decode cX13_onlyCause 62 = .ok (.ixor, 1) := dk_130 (dk_at dksX13_onlyCause_2 14 rfl rfl)
theorem dX13_onlyCause_63 : decode cX13_onlyCause 63 = .ok (.iand, 1) := dk_126 (dk_at dksX13_onlyCause_2 15 rfl rfl)
theorem dX13_onlyCause_64 : decode cX13_onlyCause 64 = .ok (.iconst 1, 1) := dk_4 (dk_at dksX13_onlyCause_2 16 rfl rfl)
theorem dX13_onlyCause_65 : decode cX13_onlyCause 65 = .ok (.iload_n 2, 1) := dk_28 (dk_at dksX13_onlyCause_2 17 rfl rfl)
theorem dX13_onlyCause_66 : decode cX13_onlyCause 66 = .ok (.ishl, 1) := dk_120 (dk_at dksX13_onlyCause_2 18 rfl rfl)
theorem dX13_onlyCause_67 : decode cX13_onlyCause 67 = .ok (.iconst (-1), 1) := dk_2 (dk_at dksX13_onlyCause_2 19 rfl rfl)
theorem dX13_onlyCause_68 : decode cX13_onlyCause 68 = .ok (.ixor, 1) := dk_130 (dk_at dksX13_onlyCause_2 20 rfl rfl)
theorem dX13_onlyCause_69 : decode cX13_onlyCause 69 = .ok (.iand, 1) := dk_126 (dk_at dksX13_onlyCause_2 21 rfl rfl)
theorem dX13_onlyCause_70 : decode cX13_onlyCause 70 = .ok (.istore 4, 2) := dk_54 4 (dk_at dksX13_onlyCause_2 22 rfl rfl)
theorem dX13_onlyCause_72 : decode cX13_onlyCause 72 = .ok (.iload 4, 2) := dk_21 4 (dk_at dksX13_onlyCause_3 0 rfl rfl)
theorem dX13_onlyCause_74 : decode cX13_onlyCause 74 = .ok (.ifCond .ne 8, 3) := dk_154 0 8 (dk_at dksX13_onlyCause_3 2 rfl rfl)
theorem dX13_onlyCause_77 : decode cX13_onlyCause 77 = .ok (.bipush (-99), 2) := dk_16 157 (dk_at dksX13_onlyCause_3 5 rfl rfl)
theorem dX13_onlyCause_79 : decode cX13_onlyCause 79 = .ok (.goto 8, 3) := dk_167 0 8 (dk_at dksX13_onlyCause_3 7 rfl rfl)
theorem dX13_onlyCause_82 : decode cX13_onlyCause 82 = .ok (.iload 4, 2) := dk_21 4 (dk_at dksX13_onlyCause_3 10 rfl rfl)
theorem dX13_onlyCause_84 : decode cX13_onlyCause 84 = .ok (.invokestatic 152, 3) := dk_184 0 152 (dk_at dksX13_onlyCause_3 12 rfl rfl)
theorem dX13_onlyCause_87 : decode cX13_onlyCause 87 = .ok (.ireturn, 1) := dk_172 (dk_at dksX13_onlyCause_3 15 rfl rfl)
abbrev cX13_lowest : ByteArray := prog_28_method_8_code
def yX13_lowest : MethodName := ⟨RX13, "lowest", "(I)I"⟩
def dkwX13_lowest_0 : List UInt8 := [3, 60, 26, 27, 184, 0, 54, 154, 0, 9, 132, 1, 1, 167, 255, 245, 27, 172]
abbrev dktX13_lowest_0 : List UInt8 := dkwX13_lowest_0 ++ []
theorem dksX13_lowest_0 : cX13_lowest.data.toList.drop 0 = dktX13_lowest_0 := by decide +kernel
theorem dX13_lowest_0 : decode cX13_lowest 0 = .ok (.iconst 0, 1) := dk_3 (dk_at dksX13_lowest_0 0 rfl rfl)
theorem dX13_lowest_1 : decode cX13_lowest 1 = .ok (.istore_n 1, 1) := dk_60 (dk_at dksX13_lowest_0 1 rfl rfl)
theorem dX13_lowest_2 : decode cX13_lowest 2 = .ok (.iload_n 0, 1) := dk_26 (dk_at dksX13_lowest_0 2 rfl rfl)
theorem dX13_lowest_3 : decode cX13_lowest 3 = .ok (.iload_n 1, 1) := dk_27 (dk_at dksX13_lowest_0 3 rfl rfl)
theorem dX13_lowest_4 : decode cX13_lowest 4 = .ok (.invokestatic 54, 3) := dk_184 0 54 (dk_at dksX13_lowest_0 4 rfl rfl)
theorem dX13_lowest_7 : decode cX13_lowest 7 = .ok (.ifCond .ne 9, 3) := dk_154 0 9 (dk_at dksX13_lowest_0 7 rfl rfl)
theorem dX13_lowest_10 : decode cX13_lowest 10 = .ok (.iinc 1 1, 3) := dk_132 1 1 (dk_at dksX13_lowest_0 10 rfl rfl)
theorem dX13_lowest_13 : decode cX13_lowest 13 = .ok (.goto (-11), 3) := dk_167 255 245 (dk_at dksX13_lowest_0 13 rfl rfl)
theorem dX13_lowest_16 : decode cX13_lowest 16 = .ok (.iload_n 1, 1) := dk_27 (dk_at dksX13_lowest_0 16 rfl rfl)
theorem dX13_lowest_17 : decode cX13_lowest 17 = .ok (.ireturn, 1) := dk_172 (dk_at dksX13_lowest_0 17 rfl rfl)
abbrev cX13_lineCause : ByteArray := prog_28_method_58_code
def yX13_lineCause : MethodName := ⟨RX13, "lineCause", "(III)I"⟩
def dkwX13_lineCause_4 : List UInt8 := [172, 132, 6, 1, 167, 255, 186, 16, 157, 172]
abbrev dktX13_lineCause_4 : List UInt8 := dkwX13_lineCause_4 ++ []
def dkwX13_lineCause_3 : List UInt8 := [28, 29, 182, 0, 164, 153, 0, 20, 167, 0, 14, 42, 21, 7, 28, 29, 182, 0, 167, 153, 0, 6, 21, 7]
abbrev dktX13_lineCause_3 : List UInt8 := dkwX13_lineCause_3 ++ dktX13_lineCause_4
def dkwX13_lineCause_2 : List UInt8 := [54, 7, 42, 180, 0, 7, 16, 83, 21, 7, 96, 46, 4, 160, 0, 36, 27, 5, 160, 0, 17, 42, 21, 7]
abbrev dktX13_lineCause_2 : List UInt8 := dkwX13_lineCause_2 ++ dktX13_lineCause_3
def dkwX13_lineCause_1 : List UInt8 := [96, 54, 5, 3, 54, 6, 21, 6, 5, 162, 0, 70, 21, 6, 154, 0, 8, 21, 4, 167, 0, 5, 21, 5]
abbrev dktX13_lineCause_1 : List UInt8 := dkwX13_lineCause_1 ++ dktX13_lineCause_2
def dkwX13_lineCause_0 : List UInt8 := [28, 42, 180, 0, 7, 4, 46, 108, 54, 4, 42, 180, 0, 7, 3, 46, 28, 42, 180, 0, 7, 4, 46, 112]
abbrev dktX13_lineCause_0 : List UInt8 := dkwX13_lineCause_0 ++ dktX13_lineCause_1
theorem dksX13_lineCause_0 : cX13_lineCause.data.toList.drop 0 = dktX13_lineCause_0 := by decide +kernel
theorem dksX13_lineCause_1 : cX13_lineCause.data.toList.drop 24 = dktX13_lineCause_1 := dk_seg dksX13_lineCause_0 24 rfl rfl
theorem dksX13_lineCause_2 : cX13_lineCause.data.toList.drop 48 = dktX13_lineCause_2 := dk_seg dksX13_lineCause_1 24 rfl rfl
theorem dksX13_lineCause_3 : cX13_lineCause.data.toList.drop 72 = dktX13_lineCause_3 := dk_seg dksX13_lineCause_2 24 rfl rfl
theorem dksX13_lineCause_4 : cX13_lineCause.data.toList.drop 96 = dktX13_lineCause_4 := dk_seg dksX13_lineCause_3 24 rfl rfl
theorem dX13_lineCause_0 : decode cX13_lineCause 0 = .ok (.iload_n 2, 1) := dk_28 (dk_at dksX13_lineCause_0 0 rfl rfl)
theorem dX13_lineCause_1 : decode cX13_lineCause 1 = .ok (.aload_n 0, 1) := dk_42 (dk_at dksX13_lineCause_0 1 rfl rfl)
theorem dX13_lineCause_2 : decode cX13_lineCause 2 = .ok (.getfield 7, 3) := dk_180 0 7 (dk_at dksX13_lineCause_0 2 rfl rfl)
theorem dX13_lineCause_5 : decode cX13_lineCause 5 = .ok (.iconst 1, 1) := dk_4 (dk_at dksX13_lineCause_0 5 rfl rfl)
theorem dX13_lineCause_6 : decode cX13_lineCause 6 = .ok (.iaload, 1) := dk_46 (dk_at dksX13_lineCause_0 6 rfl rfl)
theorem dX13_lineCause_7 : decode cX13_lineCause 7 = .ok (.idiv, 1) := dk_108 (dk_at dksX13_lineCause_0 7 rfl rfl)
theorem dX13_lineCause_8 : decode cX13_lineCause 8 = .ok (.istore 4, 2) := dk_54 4 (dk_at dksX13_lineCause_0 8 rfl rfl)
theorem dX13_lineCause_10 : decode cX13_lineCause 10 = .ok (.aload_n 0, 1) := dk_42 (dk_at dksX13_lineCause_0 10 rfl rfl)
theorem dX13_lineCause_11 : decode cX13_lineCause 11 = .ok (.getfield 7, 3) := dk_180 0 7 (dk_at dksX13_lineCause_0 11 rfl rfl)
theorem dX13_lineCause_14 : decode cX13_lineCause 14 = .ok (.iconst 0, 1) := dk_3 (dk_at dksX13_lineCause_0 14 rfl rfl)
theorem dX13_lineCause_15 : decode cX13_lineCause 15 = .ok (.iaload, 1) := dk_46 (dk_at dksX13_lineCause_0 15 rfl rfl)
theorem dX13_lineCause_16 : decode cX13_lineCause 16 = .ok (.iload_n 2, 1) := dk_28 (dk_at dksX13_lineCause_0 16 rfl rfl)
theorem dX13_lineCause_17 : decode cX13_lineCause 17 = .ok (.aload_n 0, 1) := dk_42 (dk_at dksX13_lineCause_0 17 rfl rfl)
theorem dX13_lineCause_18 : decode cX13_lineCause 18 = .ok (.getfield 7, 3) := dk_180 0 7 (dk_at dksX13_lineCause_0 18 rfl rfl)
theorem dX13_lineCause_21 : decode cX13_lineCause 21 = .ok (.iconst 1, 1) := dk_4 (dk_at dksX13_lineCause_0 21 rfl rfl)
theorem dX13_lineCause_22 : decode cX13_lineCause 22 = .ok (.iaload, 1) := dk_46 (dk_at dksX13_lineCause_0 22 rfl rfl)
theorem dX13_lineCause_23 : decode cX13_lineCause 23 = .ok (.irem, 1) := dk_112 (dk_at dksX13_lineCause_0 23 rfl rfl)
theorem dX13_lineCause_24 : decode cX13_lineCause 24 = .ok (.iadd, 1) := dk_96 (dk_at dksX13_lineCause_1 0 rfl rfl)
theorem dX13_lineCause_25 : decode cX13_lineCause 25 = .ok (.istore 5, 2) := dk_54 5 (dk_at dksX13_lineCause_1 1 rfl rfl)
theorem dX13_lineCause_27 : decode cX13_lineCause 27 = .ok (.iconst 0, 1) := dk_3 (dk_at dksX13_lineCause_1 3 rfl rfl)
theorem dX13_lineCause_28 : decode cX13_lineCause 28 = .ok (.istore 6, 2) := dk_54 6 (dk_at dksX13_lineCause_1 4 rfl rfl)
theorem dX13_lineCause_30 : decode cX13_lineCause 30 = .ok (.iload 6, 2) := dk_21 6 (dk_at dksX13_lineCause_1 6 rfl rfl)
theorem dX13_lineCause_32 : decode cX13_lineCause 32 = .ok (.iconst 2, 1) := dk_5 (dk_at dksX13_lineCause_1 8 rfl rfl)
theorem dX13_lineCause_33 : decode cX13_lineCause 33 = .ok (.if_icmp .ge 70, 3) := dk_162 0 70 (dk_at dksX13_lineCause_1 9 rfl rfl)
theorem dX13_lineCause_36 : decode cX13_lineCause 36 = .ok (.iload 6, 2) := dk_21 6 (dk_at dksX13_lineCause_1 12 rfl rfl)
theorem dX13_lineCause_38 : decode cX13_lineCause 38 = .ok (.ifCond .ne 8, 3) := dk_154 0 8 (dk_at dksX13_lineCause_1 14 rfl rfl)
theorem dX13_lineCause_41 : decode cX13_lineCause 41 = .ok (.iload 4, 2) := dk_21 4 (dk_at dksX13_lineCause_1 17 rfl rfl)
theorem dX13_lineCause_43 : decode cX13_lineCause 43 = .ok (.goto 5, 3) := dk_167 0 5 (dk_at dksX13_lineCause_1 19 rfl rfl)
theorem dX13_lineCause_46 : decode cX13_lineCause 46 = .ok (.iload 5, 2) := dk_21 5 (dk_at dksX13_lineCause_1 22 rfl rfl)
theorem dX13_lineCause_48 : decode cX13_lineCause 48 = .ok (.istore 7, 2) := dk_54 7 (dk_at dksX13_lineCause_2 0 rfl rfl)
theorem dX13_lineCause_50 : decode cX13_lineCause 50 = .ok (.aload_n 0, 1) := dk_42 (dk_at dksX13_lineCause_2 2 rfl rfl)
theorem dX13_lineCause_51 : decode cX13_lineCause 51 = .ok (.getfield 7, 3) := dk_180 0 7 (dk_at dksX13_lineCause_2 3 rfl rfl)
theorem dX13_lineCause_54 : decode cX13_lineCause 54 = .ok (.bipush 83, 2) := dk_16 83 (dk_at dksX13_lineCause_2 6 rfl rfl)
theorem dX13_lineCause_56 : decode cX13_lineCause 56 = .ok (.iload 7, 2) := dk_21 7 (dk_at dksX13_lineCause_2 8 rfl rfl)
theorem dX13_lineCause_58 : decode cX13_lineCause 58 = .ok (.iadd, 1) := dk_96 (dk_at dksX13_lineCause_2 10 rfl rfl)
theorem dX13_lineCause_59 : decode cX13_lineCause 59 = .ok (.iaload, 1) := dk_46 (dk_at dksX13_lineCause_2 11 rfl rfl)
theorem dX13_lineCause_60 : decode cX13_lineCause 60 = .ok (.iconst 1, 1) := dk_4 (dk_at dksX13_lineCause_2 12 rfl rfl)
theorem dX13_lineCause_61 : decode cX13_lineCause 61 = .ok (.if_icmp .ne 36, 3) := dk_160 0 36 (dk_at dksX13_lineCause_2 13 rfl rfl)
theorem dX13_lineCause_64 : decode cX13_lineCause 64 = .ok (.iload_n 1, 1) := dk_27 (dk_at dksX13_lineCause_2 16 rfl rfl)
theorem dX13_lineCause_65 : decode cX13_lineCause 65 = .ok (.iconst 2, 1) := dk_5 (dk_at dksX13_lineCause_2 17 rfl rfl)
theorem dX13_lineCause_66 : decode cX13_lineCause 66 = .ok (.if_icmp .ne 17, 3) := dk_160 0 17 (dk_at dksX13_lineCause_2 18 rfl rfl)
theorem dX13_lineCause_69 : decode cX13_lineCause 69 = .ok (.aload_n 0, 1) := dk_42 (dk_at dksX13_lineCause_2 21 rfl rfl)
theorem dX13_lineCause_70 : decode cX13_lineCause 70 = .ok (.iload 7, 2) := dk_21 7 (dk_at dksX13_lineCause_2 22 rfl rfl)
theorem dX13_lineCause_72 : decode cX13_lineCause 72 = .ok (.iload_n 2, 1) := dk_28 (dk_at dksX13_lineCause_3 0 rfl rfl)
theorem dX13_lineCause_73 : decode cX13_lineCause 73 = .ok (.iload_n 3, 1) := dk_29 (dk_at dksX13_lineCause_3 1 rfl rfl)
theorem dX13_lineCause_74 : decode cX13_lineCause 74 = .ok (.invokevirtual 164, 3) := dk_182 0 164 (dk_at dksX13_lineCause_3 2 rfl rfl)
theorem dX13_lineCause_77 : decode cX13_lineCause 77 = .ok (.ifCond .eq 20, 3) := dk_153 0 20 (dk_at dksX13_lineCause_3 5 rfl rfl)
theorem dX13_lineCause_80 : decode cX13_lineCause 80 = .ok (.goto 14, 3) := dk_167 0 14 (dk_at dksX13_lineCause_3 8 rfl rfl)
theorem dX13_lineCause_83 : decode cX13_lineCause 83 = .ok (.aload_n 0, 1) := dk_42 (dk_at dksX13_lineCause_3 11 rfl rfl)
theorem dX13_lineCause_84 : decode cX13_lineCause 84 = .ok (.iload 7, 2) := dk_21 7 (dk_at dksX13_lineCause_3 12 rfl rfl)
theorem dX13_lineCause_86 : decode cX13_lineCause 86 = .ok (.iload_n 2, 1) := dk_28 (dk_at dksX13_lineCause_3 14 rfl rfl)
theorem dX13_lineCause_87 : decode cX13_lineCause 87 = .ok (.iload_n 3, 1) := dk_29 (dk_at dksX13_lineCause_3 15 rfl rfl)
theorem dX13_lineCause_88 : decode cX13_lineCause 88 = .ok (.invokevirtual 167, 3) := dk_182 0 167 (dk_at dksX13_lineCause_3 16 rfl rfl)
theorem dX13_lineCause_91 : decode cX13_lineCause 91 = .ok (.ifCond .eq 6, 3) := dk_153 0 6 (dk_at dksX13_lineCause_3 19 rfl rfl)
theorem dX13_lineCause_94 : decode cX13_lineCause 94 = .ok (.iload 7, 2) := dk_21 7 (dk_at dksX13_lineCause_3 22 rfl rfl)
theorem dX13_lineCause_96 : decode cX13_lineCause 96 = .ok (.ireturn, 1) := dk_172 (dk_at dksX13_lineCause_4 0 rfl rfl)
theorem dX13_lineCause_97 : decode cX13_lineCause 97 = .ok (.iinc 6 1, 3) := dk_132 6 1 (dk_at dksX13_lineCause_4 1 rfl rfl)
theorem dX13_lineCause_100 : decode cX13_lineCause 100 = .ok (.goto (-70), 3) := dk_167 255 186 (dk_at dksX13_lineCause_4 4 rfl rfl)
theorem dX13_lineCause_103 : decode cX13_lineCause 103 = .ok (.bipush (-99), 2) := dk_16 157 (dk_at dksX13_lineCause_4 7 rfl rfl)
theorem dX13_lineCause_105 : decode cX13_lineCause 105 = .ok (.ireturn, 1) := dk_172 (dk_at dksX13_lineCause_4 9 rfl rfl)
abbrev cX13_isBeyond : ByteArray := prog_28_method_55_code
def yX13_isBeyond : MethodName := ⟨RX13, "isBeyond", "(III)Z"⟩
def dkwX13_isBeyond_4 : List UInt8 := [27, 182, 0, 158, 21, 5, 164, 0, 7, 4, 167, 0, 4, 3, 172]
abbrev dktX13_isBeyond_4 : List UInt8 := dkwX13_isBeyond_4 ++ []
def dkwX13_isBeyond_3 : List UInt8 := [46, 184, 0, 155, 96, 54, 5, 132, 6, 1, 167, 255, 184, 42, 27, 182, 0, 158, 21, 4, 161, 0, 13, 42]
abbrev dktX13_isBeyond_3 : List UInt8 := dkwX13_isBeyond_3 ++ dktX13_isBeyond_4
def dkwX13_isBeyond_2 : List UInt8 := [184, 0, 152, 96, 54, 4, 21, 5, 21, 7, 28, 160, 0, 7, 3, 167, 0, 13, 42, 180, 0, 22, 21, 7]
abbrev dktX13_isBeyond_2 : List UInt8 := dkwX13_isBeyond_2 ++ dktX13_isBeyond_3
def dkwX13_isBeyond_1 : List UInt8 := [182, 0, 96, 54, 7, 21, 4, 21, 7, 28, 160, 0, 7, 3, 167, 0, 13, 42, 180, 0, 22, 21, 7, 46]
abbrev dktX13_isBeyond_1 : List UInt8 := dkwX13_isBeyond_1 ++ dktX13_isBeyond_2
def dkwX13_isBeyond_0 : List UInt8 := [29, 54, 4, 29, 54, 5, 3, 54, 6, 21, 6, 42, 27, 182, 0, 93, 162, 0, 68, 42, 27, 21, 6]
abbrev dktX13_isBeyond_0 : List UInt8 := dkwX13_isBeyond_0 ++ dktX13_isBeyond_1
theorem dksX13_isBeyond_0 : cX13_isBeyond.data.toList.drop 0 = dktX13_isBeyond_0 := by decide +kernel
theorem dksX13_isBeyond_1 : cX13_isBeyond.data.toList.drop 23 = dktX13_isBeyond_1 := dk_seg dksX13_isBeyond_0 23 rfl rfl
theorem dksX13_isBeyond_2 : cX13_isBeyond.data.toList.drop 47 = dktX13_isBeyond_2 := dk_seg dksX13_isBeyond_1 24 rfl rfl
theorem dksX13_isBeyond_3 : cX13_isBeyond.data.toList.drop 71 = dktX13_isBeyond_3 := dk_seg dksX13_isBeyond_2 24 rfl rfl
theorem dksX13_isBeyond_4 : cX13_isBeyond.data.toList.drop 95 = dktX13_isBeyond_4 := dk_seg dksX13_isBeyond_3 24 rfl rfl
theorem dX13_isBeyond_0 : decode cX13_isBeyond 0 = .ok (.iload_n 3, 1) := dk_29 (dk_at dksX13_isBeyond_0 0 rfl rfl)
theorem dX13_isBeyond_1 : decode cX13_isBeyond 1 = .ok (.istore 4, 2) := dk_54 4 (dk_at dksX13_isBeyond_0 1 rfl rfl)
theorem dX13_isBeyond_3 : decode cX13_isBeyond 3 = .ok (.iload_n 3, 1) := dk_29 (dk_at dksX13_isBeyond_0 3 rfl rfl)
theorem dX13_isBeyond_4 : decode cX13_isBeyond 4 = .ok (.istore 5, 2) := dk_54 5 (dk_at dksX13_isBeyond_0 4 rfl rfl)
theorem dX13_isBeyond_6 : decode cX13_isBeyond 6 = .ok (.iconst 0, 1) := dk_3 (dk_at dksX13_isBeyond_0 6 rfl rfl)
theorem dX13_isBeyond_7 : decode cX13_isBeyond 7 = .ok (.istore 6, 2) := dk_54 6 (dk_at dksX13_isBeyond_0 7 rfl rfl)
theorem dX13_isBeyond_9 : decode cX13_isBeyond 9 = .ok (.iload 6, 2) := dk_21 6 (dk_at dksX13_isBeyond_0 9 rfl rfl)
theorem dX13_isBeyond_11 : decode cX13_isBeyond 11 = .ok (.aload_n 0, 1) := dk_42 (dk_at dksX13_isBeyond_0 11 rfl rfl)
theorem dX13_isBeyond_12 : decode cX13_isBeyond 12 = .ok (.iload_n 1, 1) := dk_27 (dk_at dksX13_isBeyond_0 12 rfl rfl)
theorem dX13_isBeyond_13 : decode cX13_isBeyond 13 = .ok (.invokevirtual 93, 3) := dk_182 0 93 (dk_at dksX13_isBeyond_0 13 rfl rfl)
theorem dX13_isBeyond_16 : decode cX13_isBeyond 16 = .ok (.if_icmp .ge 68, 3) := dk_162 0 68 (dk_at dksX13_isBeyond_0 16 rfl rfl)
theorem dX13_isBeyond_19 : decode cX13_isBeyond 19 = .ok (.aload_n 0, 1) := dk_42 (dk_at dksX13_isBeyond_0 19 rfl rfl)
theorem dX13_isBeyond_20 : decode cX13_isBeyond 20 = .ok (.iload_n 1, 1) := dk_27 (dk_at dksX13_isBeyond_0 20 rfl rfl)
theorem dX13_isBeyond_21 : decode cX13_isBeyond 21 = .ok (.iload 6, 2) := dk_21 6 (dk_at dksX13_isBeyond_0 21 rfl rfl)
theorem dX13_isBeyond_23 : decode cX13_isBeyond 23 = .ok (.invokevirtual 96, 3) := dk_182 0 96 (dk_at dksX13_isBeyond_1 0 rfl rfl)
theorem dX13_isBeyond_26 : decode cX13_isBeyond 26 = .ok (.istore 7, 2) := dk_54 7 (dk_at dksX13_isBeyond_1 3 rfl rfl)
theorem dX13_isBeyond_28 : decode cX13_isBeyond 28 = .ok (.iload 4, 2) := dk_21 4 (dk_at dksX13_isBeyond_1 5 rfl rfl)
theorem dX13_isBeyond_30 : decode cX13_isBeyond 30 = .ok (.iload 7, 2) := dk_21 7 (dk_at dksX13_isBeyond_1 7 rfl rfl)
theorem dX13_isBeyond_32 : decode cX13_isBeyond 32 = .ok (.iload_n 2, 1) := dk_28 (dk_at dksX13_isBeyond_1 9 rfl rfl)
theorem dX13_isBeyond_33 : decode cX13_isBeyond 33 = .ok (.if_icmp .ne 7, 3) := dk_160 0 7 (dk_at dksX13_isBeyond_1 10 rfl rfl)
theorem dX13_isBeyond_36 : decode cX13_isBeyond 36 = .ok (.iconst 0, 1) := dk_3 (dk_at dksX13_isBeyond_1 13 rfl rfl)
theorem dX13_isBeyond_37 : decode cX13_isBeyond 37 = .ok (.goto 13, 3) := dk_167 0 13 (dk_at dksX13_isBeyond_1 14 rfl rfl)
theorem dX13_isBeyond_40 : decode cX13_isBeyond 40 = .ok (.aload_n 0, 1) := dk_42 (dk_at dksX13_isBeyond_1 17 rfl rfl)
theorem dX13_isBeyond_41 : decode cX13_isBeyond 41 = .ok (.getfield 22, 3) := dk_180 0 22 (dk_at dksX13_isBeyond_1 18 rfl rfl)
theorem dX13_isBeyond_44 : decode cX13_isBeyond 44 = .ok (.iload 7, 2) := dk_21 7 (dk_at dksX13_isBeyond_1 21 rfl rfl)
theorem dX13_isBeyond_46 : decode cX13_isBeyond 46 = .ok (.iaload, 1) := dk_46 (dk_at dksX13_isBeyond_1 23 rfl rfl)
theorem dX13_isBeyond_47 : decode cX13_isBeyond 47 = .ok (.invokestatic 152, 3) := dk_184 0 152 (dk_at dksX13_isBeyond_2 0 rfl rfl)
theorem dX13_isBeyond_50 : decode cX13_isBeyond 50 = .ok (.iadd, 1) := dk_96 (dk_at dksX13_isBeyond_2 3 rfl rfl)
theorem dX13_isBeyond_51 : decode cX13_isBeyond 51 = .ok (.istore 4, 2) := dk_54 4 (dk_at dksX13_isBeyond_2 4 rfl rfl)
theorem dX13_isBeyond_53 : decode cX13_isBeyond 53 = .ok (.iload 5, 2) := dk_21 5 (dk_at dksX13_isBeyond_2 6 rfl rfl)
theorem dX13_isBeyond_55 : decode cX13_isBeyond 55 = .ok (.iload 7, 2) := dk_21 7 (dk_at dksX13_isBeyond_2 8 rfl rfl)
theorem dX13_isBeyond_57 : decode cX13_isBeyond 57 = .ok (.iload_n 2, 1) := dk_28 (dk_at dksX13_isBeyond_2 10 rfl rfl)
theorem dX13_isBeyond_58 : decode cX13_isBeyond 58 = .ok (.if_icmp .ne 7, 3) := dk_160 0 7 (dk_at dksX13_isBeyond_2 11 rfl rfl)
theorem dX13_isBeyond_61 : decode cX13_isBeyond 61 = .ok (.iconst 0, 1) := dk_3 (dk_at dksX13_isBeyond_2 14 rfl rfl)
theorem dX13_isBeyond_62 : decode cX13_isBeyond 62 = .ok (.goto 13, 3) := dk_167 0 13 (dk_at dksX13_isBeyond_2 15 rfl rfl)
theorem dX13_isBeyond_65 : decode cX13_isBeyond 65 = .ok (.aload_n 0, 1) := dk_42 (dk_at dksX13_isBeyond_2 18 rfl rfl)
theorem dX13_isBeyond_66 : decode cX13_isBeyond 66 = .ok (.getfield 22, 3) := dk_180 0 22 (dk_at dksX13_isBeyond_2 19 rfl rfl)
theorem dX13_isBeyond_69 : decode cX13_isBeyond 69 = .ok (.iload 7, 2) := dk_21 7 (dk_at dksX13_isBeyond_2 22 rfl rfl)
theorem dX13_isBeyond_71 : decode cX13_isBeyond 71 = .ok (.iaload, 1) := dk_46 (dk_at dksX13_isBeyond_3 0 rfl rfl)
theorem dX13_isBeyond_72 : decode cX13_isBeyond 72 = .ok (.invokestatic 155, 3) := dk_184 0 155 (dk_at dksX13_isBeyond_3 1 rfl rfl)
theorem dX13_isBeyond_75 : decode cX13_isBeyond 75 = .ok (.iadd, 1) := dk_96 (dk_at dksX13_isBeyond_3 4 rfl rfl)
theorem dX13_isBeyond_76 : decode cX13_isBeyond 76 = .ok (.istore 5, 2) := dk_54 5 (dk_at dksX13_isBeyond_3 5 rfl rfl)
theorem dX13_isBeyond_78 : decode cX13_isBeyond 78 = .ok (.iinc 6 1, 3) := dk_132 6 1 (dk_at dksX13_isBeyond_3 7 rfl rfl)
theorem dX13_isBeyond_81 : decode cX13_isBeyond 81 = .ok (.goto (-72), 3) := dk_167 255 184 (dk_at dksX13_isBeyond_3 10 rfl rfl)
theorem dX13_isBeyond_84 : decode cX13_isBeyond 84 = .ok (.aload_n 0, 1) := dk_42 (dk_at dksX13_isBeyond_3 13 rfl rfl)
theorem dX13_isBeyond_85 : decode cX13_isBeyond 85 = .ok (.iload_n 1, 1) := dk_27 (dk_at dksX13_isBeyond_3 14 rfl rfl)
theorem dX13_isBeyond_86 : decode cX13_isBeyond 86 = .ok (.invokevirtual 158, 3) := dk_182 0 158 (dk_at dksX13_isBeyond_3 15 rfl rfl)
theorem dX13_isBeyond_89 : decode cX13_isBeyond 89 = .ok (.iload 4, 2) := dk_21 4 (dk_at dksX13_isBeyond_3 18 rfl rfl)
theorem dX13_isBeyond_91 : decode cX13_isBeyond 91 = .ok (.if_icmp .lt 13, 3) := dk_161 0 13 (dk_at dksX13_isBeyond_3 20 rfl rfl)
theorem dX13_isBeyond_94 : decode cX13_isBeyond 94 = .ok (.aload_n 0, 1) := dk_42 (dk_at dksX13_isBeyond_3 23 rfl rfl)
theorem dX13_isBeyond_95 : decode cX13_isBeyond 95 = .ok (.iload_n 1, 1) := dk_27 (dk_at dksX13_isBeyond_4 0 rfl rfl)
theorem dX13_isBeyond_96 : decode cX13_isBeyond 96 = .ok (.invokevirtual 158, 3) := dk_182 0 158 (dk_at dksX13_isBeyond_4 1 rfl rfl)
theorem dX13_isBeyond_99 : decode cX13_isBeyond 99 = .ok (.iload 5, 2) := dk_21 5 (dk_at dksX13_isBeyond_4 4 rfl rfl)
theorem dX13_isBeyond_101 : decode cX13_isBeyond 101 = .ok (.if_icmp .le 7, 3) := dk_164 0 7 (dk_at dksX13_isBeyond_4 6 rfl rfl)
theorem dX13_isBeyond_104 : decode cX13_isBeyond 104 = .ok (.iconst 1, 1) := dk_4 (dk_at dksX13_isBeyond_4 9 rfl rfl)
theorem dX13_isBeyond_105 : decode cX13_isBeyond 105 = .ok (.goto 4, 3) := dk_167 0 4 (dk_at dksX13_isBeyond_4 10 rfl rfl)
theorem dX13_isBeyond_108 : decode cX13_isBeyond 108 = .ok (.iconst 0, 1) := dk_3 (dk_at dksX13_isBeyond_4 13 rfl rfl)
theorem dX13_isBeyond_109 : decode cX13_isBeyond 109 = .ok (.ireturn, 1) := dk_172 (dk_at dksX13_isBeyond_4 14 rfl rfl)
abbrev cX13_highest : ByteArray := prog_28_method_9_code
def yX13_highest : MethodName := ⟨RX13, "highest", "(I)I"⟩
def dkwX13_highest_0 : List UInt8 := [16, 30, 60, 26, 27, 184, 0, 54, 154, 0, 9, 132, 1, 255, 167, 255, 245, 27, 172]
abbrev dktX13_highest_0 : List UInt8 := dkwX13_highest_0 ++ []
theorem dksX13_highest_0 : cX13_highest.data.toList.drop 0 = dktX13_highest_0 := by decide +kernel
theorem dX13_highest_0 : decode cX13_highest 0 = .ok (.bipush 30, 2) := dk_16 30 (dk_at dksX13_highest_0 0 rfl rfl)
theorem dX13_highest_2 : decode cX13_highest 2 = .ok (.istore_n 1, 1) := dk_60 (dk_at dksX13_highest_0 2 rfl rfl)
theorem dX13_highest_3 : decode cX13_highest 3 = .ok (.iload_n 0, 1) := dk_26 (dk_at dksX13_highest_0 3 rfl rfl)
theorem dX13_highest_4 : decode cX13_highest 4 = .ok (.iload_n 1, 1) := dk_27 (dk_at dksX13_highest_0 4 rfl rfl)
theorem dX13_highest_5 : decode cX13_highest 5 = .ok (.invokestatic 54, 3) := dk_184 0 54 (dk_at dksX13_highest_0 5 rfl rfl)
theorem dX13_highest_8 : decode cX13_highest 8 = .ok (.ifCond .ne 9, 3) := dk_154 0 9 (dk_at dksX13_highest_0 8 rfl rfl)
theorem dX13_highest_11 : decode cX13_highest 11 = .ok (.iinc 1 (-1), 3) := dk_132 1 255 (dk_at dksX13_highest_0 11 rfl rfl)
theorem dX13_highest_14 : decode cX13_highest 14 = .ok (.goto (-11), 3) := dk_167 255 245 (dk_at dksX13_highest_0 14 rfl rfl)
theorem dX13_highest_17 : decode cX13_highest 17 = .ok (.iload_n 1, 1) := dk_27 (dk_at dksX13_highest_0 17 rfl rfl)
theorem dX13_highest_18 : decode cX13_highest 18 = .ok (.ireturn, 1) := dk_172 (dk_at dksX13_highest_0 18 rfl rfl)
abbrev cX13_sumOf : ByteArray := prog_28_method_29_code
def yX13_sumOf : MethodName := ⟨RX13, "sumOf", "(I)I"⟩
def dkwX13_sumOf_1 : List UInt8 := [96, 61, 132, 3, 1, 167, 255, 231, 28, 172]
abbrev dktX13_sumOf_1 : List UInt8 := dkwX13_sumOf_1 ++ []
def dkwX13_sumOf_0 : List UInt8 := [3, 61, 3, 62, 29, 42, 27, 182, 0, 93, 162, 0, 22, 28, 42, 42, 27, 29, 182, 0, 96, 182, 0, 99]
abbrev dktX13_sumOf_0 : List UInt8 := dkwX13_sumOf_0 ++ dktX13_sumOf_1
theorem dksX13_sumOf_0 : cX13_sumOf.data.toList.drop 0 = dktX13_sumOf_0 := by decide +kernel
theorem dksX13_sumOf_1 : cX13_sumOf.data.toList.drop 24 = dktX13_sumOf_1 := dk_seg dksX13_sumOf_0 24 rfl rfl
theorem dX13_sumOf_0 : decode cX13_sumOf 0 = .ok (.iconst 0, 1) := dk_3 (dk_at dksX13_sumOf_0 0 rfl rfl)
theorem dX13_sumOf_1 : decode cX13_sumOf 1 = .ok (.istore_n 2, 1) := dk_61 (dk_at dksX13_sumOf_0 1 rfl rfl)
theorem dX13_sumOf_2 : decode cX13_sumOf 2 = .ok (.iconst 0, 1) := dk_3 (dk_at dksX13_sumOf_0 2 rfl rfl)
theorem dX13_sumOf_3 : decode cX13_sumOf 3 = .ok (.istore_n 3, 1) := dk_62 (dk_at dksX13_sumOf_0 3 rfl rfl)
theorem dX13_sumOf_4 : decode cX13_sumOf 4 = .ok (.iload_n 3, 1) := dk_29 (dk_at dksX13_sumOf_0 4 rfl rfl)
theorem dX13_sumOf_5 : decode cX13_sumOf 5 = .ok (.aload_n 0, 1) := dk_42 (dk_at dksX13_sumOf_0 5 rfl rfl)
theorem dX13_sumOf_6 : decode cX13_sumOf 6 = .ok (.iload_n 1, 1) := dk_27 (dk_at dksX13_sumOf_0 6 rfl rfl)
theorem dX13_sumOf_7 : decode cX13_sumOf 7 = .ok (.invokevirtual 93, 3) := dk_182 0 93 (dk_at dksX13_sumOf_0 7 rfl rfl)
theorem dX13_sumOf_10 : decode cX13_sumOf 10 = .ok (.if_icmp .ge 22, 3) := dk_162 0 22 (dk_at dksX13_sumOf_0 10 rfl rfl)
theorem dX13_sumOf_13 : decode cX13_sumOf 13 = .ok (.iload_n 2, 1) := dk_28 (dk_at dksX13_sumOf_0 13 rfl rfl)
theorem dX13_sumOf_14 : decode cX13_sumOf 14 = .ok (.aload_n 0, 1) := dk_42 (dk_at dksX13_sumOf_0 14 rfl rfl)
theorem dX13_sumOf_15 : decode cX13_sumOf 15 = .ok (.aload_n 0, 1) := dk_42 (dk_at dksX13_sumOf_0 15 rfl rfl)
theorem dX13_sumOf_16 : decode cX13_sumOf 16 = .ok (.iload_n 1, 1) := dk_27 (dk_at dksX13_sumOf_0 16 rfl rfl)
theorem dX13_sumOf_17 : decode cX13_sumOf 17 = .ok (.iload_n 3, 1) := dk_29 (dk_at dksX13_sumOf_0 17 rfl rfl)
theorem dX13_sumOf_18 : decode cX13_sumOf 18 = .ok (.invokevirtual 96, 3) := dk_182 0 96 (dk_at dksX13_sumOf_0 18 rfl rfl)
theorem dX13_sumOf_21 : decode cX13_sumOf 21 = .ok (.invokevirtual 99, 3) := dk_182 0 99 (dk_at dksX13_sumOf_0 21 rfl rfl)
theorem dX13_sumOf_24 : decode cX13_sumOf 24 = .ok (.iadd, 1) := dk_96 (dk_at dksX13_sumOf_1 0 rfl rfl)
theorem dX13_sumOf_25 : decode cX13_sumOf 25 = .ok (.istore_n 2, 1) := dk_61 (dk_at dksX13_sumOf_1 1 rfl rfl)
theorem dX13_sumOf_26 : decode cX13_sumOf 26 = .ok (.iinc 3 1, 3) := dk_132 3 1 (dk_at dksX13_sumOf_1 2 rfl rfl)
theorem dX13_sumOf_29 : decode cX13_sumOf 29 = .ok (.goto (-25), 3) := dk_167 255 231 (dk_at dksX13_sumOf_1 5 rfl rfl)
theorem dX13_sumOf_32 : decode cX13_sumOf 32 = .ok (.iload_n 2, 1) := dk_28 (dk_at dksX13_sumOf_1 8 rfl rfl)
theorem dX13_sumOf_33 : decode cX13_sumOf 33 = .ok (.ireturn, 1) := dk_172 (dk_at dksX13_sumOf_1 9 rfl rfl)
abbrev cX13_isMissed : ByteArray := prog_28_method_57_code
def yX13_isMissed : MethodName := ⟨RX13, "isMissed", "(III)Z"⟩
def dkwX13_isMissed_1 : List UInt8 := [184, 0, 54, 154, 0, 7, 4, 167, 0, 4, 3, 172]
abbrev dktX13_isMissed_1 : List UInt8 := dkwX13_isMissed_1 ++ []
def dkwX13_isMissed_0 : List UInt8 := [42, 27, 182, 0, 158, 29, 100, 54, 4, 21, 4, 155, 0, 17, 42, 27, 28, 182, 0, 161, 21, 4]
abbrev dktX13_isMissed_0 : List UInt8 := dkwX13_isMissed_0 ++ dktX13_isMissed_1
theorem dksX13_isMissed_0 : cX13_isMissed.data.toList.drop 0 = dktX13_isMissed_0 := by decide +kernel
theorem dksX13_isMissed_1 : cX13_isMissed.data.toList.drop 22 = dktX13_isMissed_1 := dk_seg dksX13_isMissed_0 22 rfl rfl
theorem dX13_isMissed_0 : decode cX13_isMissed 0 = .ok (.aload_n 0, 1) := dk_42 (dk_at dksX13_isMissed_0 0 rfl rfl)
theorem dX13_isMissed_1 : decode cX13_isMissed 1 = .ok (.iload_n 1, 1) := dk_27 (dk_at dksX13_isMissed_0 1 rfl rfl)
theorem dX13_isMissed_2 : decode cX13_isMissed 2 = .ok (.invokevirtual 158, 3) := dk_182 0 158 (dk_at dksX13_isMissed_0 2 rfl rfl)
theorem dX13_isMissed_5 : decode cX13_isMissed 5 = .ok (.iload_n 3, 1) := dk_29 (dk_at dksX13_isMissed_0 5 rfl rfl)
theorem dX13_isMissed_6 : decode cX13_isMissed 6 = .ok (.isub, 1) := dk_100 (dk_at dksX13_isMissed_0 6 rfl rfl)
theorem dX13_isMissed_7 : decode cX13_isMissed 7 = .ok (.istore 4, 2) := dk_54 4 (dk_at dksX13_isMissed_0 7 rfl rfl)
theorem dX13_isMissed_9 : decode cX13_isMissed 9 = .ok (.iload 4, 2) := dk_21 4 (dk_at dksX13_isMissed_0 9 rfl rfl)
theorem dX13_isMissed_11 : decode cX13_isMissed 11 = .ok (.ifCond .lt 17, 3) := dk_155 0 17 (dk_at dksX13_isMissed_0 11 rfl rfl)
theorem dX13_isMissed_14 : decode cX13_isMissed 14 = .ok (.aload_n 0, 1) := dk_42 (dk_at dksX13_isMissed_0 14 rfl rfl)
theorem dX13_isMissed_15 : decode cX13_isMissed 15 = .ok (.iload_n 1, 1) := dk_27 (dk_at dksX13_isMissed_0 15 rfl rfl)
theorem dX13_isMissed_16 : decode cX13_isMissed 16 = .ok (.iload_n 2, 1) := dk_28 (dk_at dksX13_isMissed_0 16 rfl rfl)
theorem dX13_isMissed_17 : decode cX13_isMissed 17 = .ok (.invokevirtual 161, 3) := dk_182 0 161 (dk_at dksX13_isMissed_0 17 rfl rfl)
theorem dX13_isMissed_20 : decode cX13_isMissed 20 = .ok (.iload 4, 2) := dk_21 4 (dk_at dksX13_isMissed_0 20 rfl rfl)
theorem dX13_isMissed_22 : decode cX13_isMissed 22 = .ok (.invokestatic 54, 3) := dk_184 0 54 (dk_at dksX13_isMissed_1 0 rfl rfl)
theorem dX13_isMissed_25 : decode cX13_isMissed 25 = .ok (.ifCond .ne 7, 3) := dk_154 0 7 (dk_at dksX13_isMissed_1 3 rfl rfl)
theorem dX13_isMissed_28 : decode cX13_isMissed 28 = .ok (.iconst 1, 1) := dk_4 (dk_at dksX13_isMissed_1 6 rfl rfl)
theorem dX13_isMissed_29 : decode cX13_isMissed 29 = .ok (.goto 4, 3) := dk_167 0 4 (dk_at dksX13_isMissed_1 7 rfl rfl)
theorem dX13_isMissed_32 : decode cX13_isMissed 32 = .ok (.iconst 0, 1) := dk_3 (dk_at dksX13_isMissed_1 10 rfl rfl)
theorem dX13_isMissed_33 : decode cX13_isMissed 33 = .ok (.ireturn, 1) := dk_172 (dk_at dksX13_isMissed_1 11 rfl rfl)
abbrev cX13_sumsOf : ByteArray := prog_28_method_56_code
def yX13_sumsOf : MethodName := ⟨RX13, "sumsOf", "(II)I"⟩
def dkwX13_sumsOf_4 : List UInt8 := [167, 255, 168, 29, 172]
abbrev dktX13_sumsOf_4 : List UInt8 := dkwX13_sumsOf_4 ++ []
def dkwX13_sumsOf_3 : List UInt8 := [54, 6, 132, 7, 1, 167, 255, 212, 21, 5, 28, 160, 0, 7, 29, 167, 0, 5, 21, 6, 62, 132, 4, 1]
abbrev dktX13_sumsOf_3 : List UInt8 := dkwX13_sumsOf_3 ++ dktX13_sumsOf_4
def dkwX13_sumsOf_2 : List UInt8 := [180, 0, 22, 21, 5, 46, 21, 7, 184, 0, 54, 153, 0, 10, 29, 21, 7, 120, 167, 0, 4, 3, 128]
abbrev dktX13_sumsOf_2 : List UInt8 := dkwX13_sumsOf_2 ++ dktX13_sumsOf_3
def dkwX13_sumsOf_1 : List UInt8 := [3, 54, 6, 4, 54, 7, 21, 7, 16, 6, 163, 0, 43, 21, 5, 28, 159, 0, 37, 21, 6, 42]
abbrev dktX13_sumsOf_1 : List UInt8 := dkwX13_sumsOf_1 ++ dktX13_sumsOf_2
def dkwX13_sumsOf_0 : List UInt8 := [4, 62, 3, 54, 4, 21, 4, 42, 27, 182, 0, 93, 162, 0, 84, 42, 27, 21, 4, 182, 0, 96, 54, 5]
abbrev dktX13_sumsOf_0 : List UInt8 := dkwX13_sumsOf_0 ++ dktX13_sumsOf_1
theorem dksX13_sumsOf_0 : cX13_sumsOf.data.toList.drop 0 = dktX13_sumsOf_0 := by decide +kernel
theorem dksX13_sumsOf_1 : cX13_sumsOf.data.toList.drop 24 = dktX13_sumsOf_1 := dk_seg dksX13_sumsOf_0 24 rfl rfl
theorem dksX13_sumsOf_2 : cX13_sumsOf.data.toList.drop 46 = dktX13_sumsOf_2 := dk_seg dksX13_sumsOf_1 22 rfl rfl
theorem dksX13_sumsOf_3 : cX13_sumsOf.data.toList.drop 69 = dktX13_sumsOf_3 := dk_seg dksX13_sumsOf_2 23 rfl rfl
theorem dksX13_sumsOf_4 : cX13_sumsOf.data.toList.drop 93 = dktX13_sumsOf_4 := dk_seg dksX13_sumsOf_3 24 rfl rfl
theorem dX13_sumsOf_0 : decode cX13_sumsOf 0 = .ok (.iconst 1, 1) := dk_4 (dk_at dksX13_sumsOf_0 0 rfl rfl)
theorem dX13_sumsOf_1 : decode cX13_sumsOf 1 = .ok (.istore_n 3, 1) := dk_62 (dk_at dksX13_sumsOf_0 1 rfl rfl)
theorem dX13_sumsOf_2 : decode cX13_sumsOf 2 = .ok (.iconst 0, 1) := dk_3 (dk_at dksX13_sumsOf_0 2 rfl rfl)
theorem dX13_sumsOf_3 : decode cX13_sumsOf 3 = .ok (.istore 4, 2) := dk_54 4 (dk_at dksX13_sumsOf_0 3 rfl rfl)
theorem dX13_sumsOf_5 : decode cX13_sumsOf 5 = .ok (.iload 4, 2) := dk_21 4 (dk_at dksX13_sumsOf_0 5 rfl rfl)
theorem dX13_sumsOf_7 : decode cX13_sumsOf 7 = .ok (.aload_n 0, 1) := dk_42 (dk_at dksX13_sumsOf_0 7 rfl rfl)
theorem dX13_sumsOf_8 : decode cX13_sumsOf 8 = .ok (.iload_n 1, 1) := dk_27 (dk_at dksX13_sumsOf_0 8 rfl rfl)
theorem dX13_sumsOf_9 : decode cX13_sumsOf 9 = .ok (.invokevirtual 93, 3) := dk_182 0 93 (dk_at dksX13_sumsOf_0 9 rfl rfl)
theorem dX13_sumsOf_12 : decode cX13_sumsOf 12 = .ok (.if_icmp .ge 84, 3) := dk_162 0 84 (dk_at dksX13_sumsOf_0 12 rfl rfl)
theorem dX13_sumsOf_15 : decode cX13_sumsOf 15 = .ok (.aload_n 0, 1) := dk_42 (dk_at dksX13_sumsOf_0 15 rfl rfl)
theorem dX13_sumsOf_16 : decode cX13_sumsOf 16 = .ok (.iload_n 1, 1) := dk_27 (dk_at dksX13_sumsOf_0 16 rfl rfl)
theorem dX13_sumsOf_17 : decode cX13_sumsOf 17 = .ok (.iload 4, 2) := dk_21 4 (dk_at dksX13_sumsOf_0 17 rfl rfl)
theorem dX13_sumsOf_19 : decode cX13_sumsOf 19 = .ok (.invokevirtual 96, 3) := dk_182 0 96 (dk_at dksX13_sumsOf_0 19 rfl rfl)
theorem dX13_sumsOf_22 : decode cX13_sumsOf 22 = .ok (.istore 5, 2) := dk_54 5 (dk_at dksX13_sumsOf_0 22 rfl rfl)
theorem dX13_sumsOf_24 : decode cX13_sumsOf 24 = .ok (.iconst 0, 1) := dk_3 (dk_at dksX13_sumsOf_1 0 rfl rfl)
theorem dX13_sumsOf_25 : decode cX13_sumsOf 25 = .ok (.istore 6, 2) := dk_54 6 (dk_at dksX13_sumsOf_1 1 rfl rfl)
theorem dX13_sumsOf_27 : decode cX13_sumsOf 27 = .ok (.iconst 1, 1) := dk_4 (dk_at dksX13_sumsOf_1 3 rfl rfl)
theorem dX13_sumsOf_28 : decode cX13_sumsOf 28 = .ok (.istore 7, 2) := dk_54 7 (dk_at dksX13_sumsOf_1 4 rfl rfl)
theorem dX13_sumsOf_30 : decode cX13_sumsOf 30 = .ok (.iload 7, 2) := dk_21 7 (dk_at dksX13_sumsOf_1 6 rfl rfl)
theorem dX13_sumsOf_32 : decode cX13_sumsOf 32 = .ok (.bipush 6, 2) := dk_16 6 (dk_at dksX13_sumsOf_1 8 rfl rfl)
theorem dX13_sumsOf_34 : decode cX13_sumsOf 34 = .ok (.if_icmp .gt 43, 3) := dk_163 0 43 (dk_at dksX13_sumsOf_1 10 rfl rfl)
theorem dX13_sumsOf_37 : decode cX13_sumsOf 37 = .ok (.iload 5, 2) := dk_21 5 (dk_at dksX13_sumsOf_1 13 rfl rfl)
theorem dX13_sumsOf_39 : decode cX13_sumsOf 39 = .ok (.iload_n 2, 1) := dk_28 (dk_at dksX13_sumsOf_1 15 rfl rfl)
theorem dX13_sumsOf_40 : decode cX13_sumsOf 40 = .ok (.if_icmp .eq 37, 3) := dk_159 0 37 (dk_at dksX13_sumsOf_1 16 rfl rfl)
theorem dX13_sumsOf_43 : decode cX13_sumsOf 43 = .ok (.iload 6, 2) := dk_21 6 (dk_at dksX13_sumsOf_1 19 rfl rfl)
theorem dX13_sumsOf_45 : decode cX13_sumsOf 45 = .ok (.aload_n 0, 1) := dk_42 (dk_at dksX13_sumsOf_1 21 rfl rfl)
theorem dX13_sumsOf_46 : decode cX13_sumsOf 46 = .ok (.getfield 22, 3) := dk_180 0 22 (dk_at dksX13_sumsOf_2 0 rfl rfl)
theorem dX13_sumsOf_49 : decode cX13_sumsOf 49 = .ok (.iload 5, 2) := dk_21 5 (dk_at dksX13_sumsOf_2 3 rfl rfl)
theorem dX13_sumsOf_51 : decode cX13_sumsOf 51 = .ok (.iaload, 1) := dk_46 (dk_at dksX13_sumsOf_2 5 rfl rfl)
theorem dX13_sumsOf_52 : decode cX13_sumsOf 52 = .ok (.iload 7, 2) := dk_21 7 (dk_at dksX13_sumsOf_2 6 rfl rfl)
theorem dX13_sumsOf_54 : decode cX13_sumsOf 54 = .ok (.invokestatic 54, 3) := dk_184 0 54 (dk_at dksX13_sumsOf_2 8 rfl rfl)
theorem dX13_sumsOf_57 : decode cX13_sumsOf 57 = .ok (.ifCond .eq 10, 3) := dk_153 0 10 (dk_at dksX13_sumsOf_2 11 rfl rfl)
theorem dX13_sumsOf_60 : decode cX13_sumsOf 60 = .ok (.iload_n 3, 1) := dk_29 (dk_at dksX13_sumsOf_2 14 rfl rfl)
theorem dX13_sumsOf_61 : decode cX13_sumsOf 61 = .ok (.iload 7, 2) := dk_21 7 (dk_at dksX13_sumsOf_2 15 rfl rfl)
theorem dX13_sumsOf_63 : decode cX13_sumsOf 63 = .ok (.ishl, 1) := dk_120 (dk_at dksX13_sumsOf_2 17 rfl rfl)
theorem dX13_sumsOf_64 : decode cX13_sumsOf 64 = .ok (.goto 4, 3) := dk_167 0 4 (dk_at dksX13_sumsOf_2 18 rfl rfl)
theorem dX13_sumsOf_67 : decode cX13_sumsOf 67 = .ok (.iconst 0, 1) := dk_3 (dk_at dksX13_sumsOf_2 21 rfl rfl)
theorem dX13_sumsOf_68 : decode cX13_sumsOf 68 = .ok (.ior, 1) := dk_128 (dk_at dksX13_sumsOf_2 22 rfl rfl)
theorem dX13_sumsOf_69 : decode cX13_sumsOf 69 = .ok (.istore 6, 2) := dk_54 6 (dk_at dksX13_sumsOf_3 0 rfl rfl)
theorem dX13_sumsOf_71 : decode cX13_sumsOf 71 = .ok (.iinc 7 1, 3) := dk_132 7 1 (dk_at dksX13_sumsOf_3 2 rfl rfl)
theorem dX13_sumsOf_74 : decode cX13_sumsOf 74 = .ok (.goto (-44), 3) := dk_167 255 212 (dk_at dksX13_sumsOf_3 5 rfl rfl)
theorem dX13_sumsOf_77 : decode cX13_sumsOf 77 = .ok (.iload 5, 2) := dk_21 5 (dk_at dksX13_sumsOf_3 8 rfl rfl)
theorem dX13_sumsOf_79 : decode cX13_sumsOf 79 = .ok (.iload_n 2, 1) := dk_28 (dk_at dksX13_sumsOf_3 10 rfl rfl)
theorem dX13_sumsOf_80 : decode cX13_sumsOf 80 = .ok (.if_icmp .ne 7, 3) := dk_160 0 7 (dk_at dksX13_sumsOf_3 11 rfl rfl)
theorem dX13_sumsOf_83 : decode cX13_sumsOf 83 = .ok (.iload_n 3, 1) := dk_29 (dk_at dksX13_sumsOf_3 14 rfl rfl)
theorem dX13_sumsOf_84 : decode cX13_sumsOf 84 = .ok (.goto 5, 3) := dk_167 0 5 (dk_at dksX13_sumsOf_3 15 rfl rfl)
theorem dX13_sumsOf_87 : decode cX13_sumsOf 87 = .ok (.iload 6, 2) := dk_21 6 (dk_at dksX13_sumsOf_3 18 rfl rfl)
theorem dX13_sumsOf_89 : decode cX13_sumsOf 89 = .ok (.istore_n 3, 1) := dk_62 (dk_at dksX13_sumsOf_3 20 rfl rfl)
theorem dX13_sumsOf_90 : decode cX13_sumsOf 90 = .ok (.iinc 4 1, 3) := dk_132 4 1 (dk_at dksX13_sumsOf_3 21 rfl rfl)
theorem dX13_sumsOf_93 : decode cX13_sumsOf 93 = .ok (.goto (-88), 3) := dk_167 255 168 (dk_at dksX13_sumsOf_4 0 rfl rfl)
theorem dX13_sumsOf_96 : decode cX13_sumsOf 96 = .ok (.iload_n 3, 1) := dk_29 (dk_at dksX13_sumsOf_4 3 rfl rfl)
theorem dX13_sumsOf_97 : decode cX13_sumsOf 97 = .ok (.ireturn, 1) := dk_172 (dk_at dksX13_sumsOf_4 4 rfl rfl)
abbrev cX13_pairCause : ByteArray := prog_28_method_59_code
def yX13_pairCause : MethodName := ⟨RX13, "pairCause", "(II)I"⟩
def dkwX13_pairCause_5 : List UInt8 := [172, 132, 5, 1, 167, 255, 201, 132, 3, 1, 167, 255, 131, 16, 157, 172]
abbrev dktX13_pairCause_5 : List UInt8 := dkwX13_pairCause_5 ++ []
def dkwX13_pairCause_4 : List UInt8 := [27, 182, 0, 72, 160, 0, 21, 42, 180, 0, 22, 21, 5, 46, 42, 180, 0, 22, 29, 46, 160, 0, 5, 29]
abbrev dktX13_pairCause_4 : List UInt8 := dkwX13_pairCause_4 ++ dktX13_pairCause_5
def dkwX13_pairCause_3 : List UInt8 := [182, 0, 61, 162, 0, 52, 21, 4, 153, 0, 47, 21, 5, 27, 159, 0, 35, 42, 21, 5, 182, 0, 72, 42]
abbrev dktX13_pairCause_3 : List UInt8 := dkwX13_pairCause_3 ++ dktX13_pairCause_4
def dkwX13_pairCause_2 : List UInt8 := [46, 28, 184, 0, 54, 153, 0, 7, 4, 167, 0, 4, 3, 54, 4, 29, 4, 96, 54, 5, 21, 5, 42]
abbrev dktX13_pairCause_2 : List UInt8 := dkwX13_pairCause_2 ++ dktX13_pairCause_3
def dkwX13_pairCause_1 : List UInt8 := [182, 0, 72, 160, 0, 33, 42, 180, 0, 22, 29, 46, 184, 0, 142, 5, 160, 0, 20, 42, 180, 0, 22, 29]
abbrev dktX13_pairCause_1 : List UInt8 := dkwX13_pairCause_1 ++ dktX13_pairCause_2
def dkwX13_pairCause_0 : List UInt8 := [3, 62, 29, 42, 182, 0, 61, 162, 0, 123, 29, 27, 159, 0, 46, 42, 29, 182, 0, 72, 42, 27]
abbrev dktX13_pairCause_0 : List UInt8 := dkwX13_pairCause_0 ++ dktX13_pairCause_1
theorem dksX13_pairCause_0 : cX13_pairCause.data.toList.drop 0 = dktX13_pairCause_0 := by decide +kernel
theorem dksX13_pairCause_1 : cX13_pairCause.data.toList.drop 22 = dktX13_pairCause_1 := dk_seg dksX13_pairCause_0 22 rfl rfl
theorem dksX13_pairCause_2 : cX13_pairCause.data.toList.drop 46 = dktX13_pairCause_2 := dk_seg dksX13_pairCause_1 24 rfl rfl
theorem dksX13_pairCause_3 : cX13_pairCause.data.toList.drop 69 = dktX13_pairCause_3 := dk_seg dksX13_pairCause_2 23 rfl rfl
theorem dksX13_pairCause_4 : cX13_pairCause.data.toList.drop 93 = dktX13_pairCause_4 := dk_seg dksX13_pairCause_3 24 rfl rfl
theorem dksX13_pairCause_5 : cX13_pairCause.data.toList.drop 117 = dktX13_pairCause_5 := dk_seg dksX13_pairCause_4 24 rfl rfl
theorem dX13_pairCause_0 : decode cX13_pairCause 0 = .ok (.iconst 0, 1) := dk_3 (dk_at dksX13_pairCause_0 0 rfl rfl)
theorem dX13_pairCause_1 : decode cX13_pairCause 1 = .ok (.istore_n 3, 1) := dk_62 (dk_at dksX13_pairCause_0 1 rfl rfl)
theorem dX13_pairCause_2 : decode cX13_pairCause 2 = .ok (.iload_n 3, 1) := dk_29 (dk_at dksX13_pairCause_0 2 rfl rfl)
theorem dX13_pairCause_3 : decode cX13_pairCause 3 = .ok (.aload_n 0, 1) := dk_42 (dk_at dksX13_pairCause_0 3 rfl rfl)
theorem dX13_pairCause_4 : decode cX13_pairCause 4 = .ok (.invokevirtual 61, 3) := dk_182 0 61 (dk_at dksX13_pairCause_0 4 rfl rfl)
theorem dX13_pairCause_7 : decode cX13_pairCause 7 = .ok (.if_icmp .ge 123, 3) := dk_162 0 123 (dk_at dksX13_pairCause_0 7 rfl rfl)
theorem dX13_pairCause_10 : decode cX13_pairCause 10 = .ok (.iload_n 3, 1) := dk_29 (dk_at dksX13_pairCause_0 10 rfl rfl)
theorem dX13_pairCause_11 : decode cX13_pairCause 11 = .ok (.iload_n 1, 1) := dk_27 (dk_at dksX13_pairCause_0 11 rfl rfl)
theorem dX13_pairCause_12 : decode cX13_pairCause 12 = .ok (.if_icmp .eq 46, 3) := dk_159 0 46 (dk_at dksX13_pairCause_0 12 rfl rfl)
theorem dX13_pairCause_15 : decode cX13_pairCause 15 = .ok (.aload_n 0, 1) := dk_42 (dk_at dksX13_pairCause_0 15 rfl rfl)
theorem dX13_pairCause_16 : decode cX13_pairCause 16 = .ok (.iload_n 3, 1) := dk_29 (dk_at dksX13_pairCause_0 16 rfl rfl)
theorem dX13_pairCause_17 : decode cX13_pairCause 17 = .ok (.invokevirtual 72, 3) := dk_182 0 72 (dk_at dksX13_pairCause_0 17 rfl rfl)
theorem dX13_pairCause_20 : decode cX13_pairCause 20 = .ok (.aload_n 0, 1) := dk_42 (dk_at dksX13_pairCause_0 20 rfl rfl)
theorem dX13_pairCause_21 : decode cX13_pairCause 21 = .ok (.iload_n 1, 1) := dk_27 (dk_at dksX13_pairCause_0 21 rfl rfl)
theorem dX13_pairCause_22 : decode cX13_pairCause 22 = .ok (.invokevirtual 72, 3) := dk_182 0 72 (dk_at dksX13_pairCause_1 0 rfl rfl)
theorem dX13_pairCause_25 : decode cX13_pairCause 25 = .ok (.if_icmp .ne 33, 3) := dk_160 0 33 (dk_at dksX13_pairCause_1 3 rfl rfl)
theorem dX13_pairCause_28 : decode cX13_pairCause 28 = .ok (.aload_n 0, 1) := dk_42 (dk_at dksX13_pairCause_1 6 rfl rfl)
theorem dX13_pairCause_29 : decode cX13_pairCause 29 = .ok (.getfield 22, 3) := dk_180 0 22 (dk_at dksX13_pairCause_1 7 rfl rfl)
theorem dX13_pairCause_32 : decode cX13_pairCause 32 = .ok (.iload_n 3, 1) := dk_29 (dk_at dksX13_pairCause_1 10 rfl rfl)
theorem dX13_pairCause_33 : decode cX13_pairCause 33 = .ok (.iaload, 1) := dk_46 (dk_at dksX13_pairCause_1 11 rfl rfl)
theorem dX13_pairCause_34 : decode cX13_pairCause 34 = .ok (.invokestatic 142, 3) := dk_184 0 142 (dk_at dksX13_pairCause_1 12 rfl rfl)
theorem dX13_pairCause_37 : decode cX13_pairCause 37 = .ok (.iconst 2, 1) := dk_5 (dk_at dksX13_pairCause_1 15 rfl rfl)
theorem dX13_pairCause_38 : decode cX13_pairCause 38 = .ok (.if_icmp .ne 20, 3) := dk_160 0 20 (dk_at dksX13_pairCause_1 16 rfl rfl)
theorem dX13_pairCause_41 : decode cX13_pairCause 41 = .ok (.aload_n 0, 1) := dk_42 (dk_at dksX13_pairCause_1 19 rfl rfl)
theorem dX13_pairCause_42 : decode cX13_pairCause 42 = .ok (.getfield 22, 3) := dk_180 0 22 (dk_at dksX13_pairCause_1 20 rfl rfl)
theorem dX13_pairCause_45 : decode cX13_pairCause 45 = .ok (.iload_n 3, 1) := dk_29 (dk_at dksX13_pairCause_1 23 rfl rfl)
theorem dX13_pairCause_46 : decode cX13_pairCause 46 = .ok (.iaload, 1) := dk_46 (dk_at dksX13_pairCause_2 0 rfl rfl)
theorem dX13_pairCause_47 : decode cX13_pairCause 47 = .ok (.iload_n 2, 1) := dk_28 (dk_at dksX13_pairCause_2 1 rfl rfl)
theorem dX13_pairCause_48 : decode cX13_pairCause 48 = .ok (.invokestatic 54, 3) := dk_184 0 54 (dk_at dksX13_pairCause_2 2 rfl rfl)
theorem dX13_pairCause_51 : decode cX13_pairCause 51 = .ok (.ifCond .eq 7, 3) := dk_153 0 7 (dk_at dksX13_pairCause_2 5 rfl rfl)
theorem dX13_pairCause_54 : decode cX13_pairCause 54 = .ok (.iconst 1, 1) := dk_4 (dk_at dksX13_pairCause_2 8 rfl rfl)
theorem dX13_pairCause_55 : decode cX13_pairCause 55 = .ok (.goto 4, 3) := dk_167 0 4 (dk_at dksX13_pairCause_2 9 rfl rfl)
theorem dX13_pairCause_58 : decode cX13_pairCause 58 = .ok (.iconst 0, 1) := dk_3 (dk_at dksX13_pairCause_2 12 rfl rfl)
theorem dX13_pairCause_59 : decode cX13_pairCause 59 = .ok (.istore 4, 2) := dk_54 4 (dk_at dksX13_pairCause_2 13 rfl rfl)
theorem dX13_pairCause_61 : decode cX13_pairCause 61 = .ok (.iload_n 3, 1) := dk_29 (dk_at dksX13_pairCause_2 15 rfl rfl)
theorem dX13_pairCause_62 : decode cX13_pairCause 62 = .ok (.iconst 1, 1) := dk_4 (dk_at dksX13_pairCause_2 16 rfl rfl)
theorem dX13_pairCause_63 : decode cX13_pairCause 63 = .ok (.iadd, 1) := dk_96 (dk_at dksX13_pairCause_2 17 rfl rfl)
theorem dX13_pairCause_64 : decode cX13_pairCause 64 = .ok (.istore 5, 2) := dk_54 5 (dk_at dksX13_pairCause_2 18 rfl rfl)
theorem dX13_pairCause_66 : decode cX13_pairCause 66 = .ok (.iload 5, 2) := dk_21 5 (dk_at dksX13_pairCause_2 20 rfl rfl)
theorem dX13_pairCause_68 : decode cX13_pairCause 68 = .ok (.aload_n 0, 1) := dk_42 (dk_at dksX13_pairCause_2 22 rfl rfl)
theorem dX13_pairCause_69 : decode cX13_pairCause 69 = .ok (.invokevirtual 61, 3) := dk_182 0 61 (dk_at dksX13_pairCause_3 0 rfl rfl)
theorem dX13_pairCause_72 : decode cX13_pairCause 72 = .ok (.if_icmp .ge 52, 3) := dk_162 0 52 (dk_at dksX13_pairCause_3 3 rfl rfl)
theorem dX13_pairCause_75 : decode cX13_pairCause 75 = .ok (.iload 4, 2) := dk_21 4 (dk_at dksX13_pairCause_3 6 rfl rfl)
theorem dX13_pairCause_77 : decode cX13_pairCause 77 = .ok (.ifCond .eq 47, 3) := dk_153 0 47 (dk_at dksX13_pairCause_3 8 rfl rfl)
theorem dX13_pairCause_80 : decode cX13_pairCause 80 = .ok (.iload 5, 2) := dk_21 5 (dk_at dksX13_pairCause_3 11 rfl rfl)
theorem dX13_pairCause_82 : decode cX13_pairCause 82 = .ok (.iload_n 1, 1) := dk_27 (dk_at dksX13_pairCause_3 13 rfl rfl)
theorem dX13_pairCause_83 : decode cX13_pairCause 83 = .ok (.if_icmp .eq 35, 3) := dk_159 0 35 (dk_at dksX13_pairCause_3 14 rfl rfl)
theorem dX13_pairCause_86 : decode cX13_pairCause 86 = .ok (.aload_n 0, 1) := dk_42 (dk_at dksX13_pairCause_3 17 rfl rfl)
theorem dX13_pairCause_87 : decode cX13_pairCause 87 = .ok (.iload 5, 2) := dk_21 5 (dk_at dksX13_pairCause_3 18 rfl rfl)
theorem dX13_pairCause_89 : decode cX13_pairCause 89 = .ok (.invokevirtual 72, 3) := dk_182 0 72 (dk_at dksX13_pairCause_3 20 rfl rfl)
theorem dX13_pairCause_92 : decode cX13_pairCause 92 = .ok (.aload_n 0, 1) := dk_42 (dk_at dksX13_pairCause_3 23 rfl rfl)
theorem dX13_pairCause_93 : decode cX13_pairCause 93 = .ok (.iload_n 1, 1) := dk_27 (dk_at dksX13_pairCause_4 0 rfl rfl)
theorem dX13_pairCause_94 : decode cX13_pairCause 94 = .ok (.invokevirtual 72, 3) := dk_182 0 72 (dk_at dksX13_pairCause_4 1 rfl rfl)
theorem dX13_pairCause_97 : decode cX13_pairCause 97 = .ok (.if_icmp .ne 21, 3) := dk_160 0 21 (dk_at dksX13_pairCause_4 4 rfl rfl)
theorem dX13_pairCause_100 : decode cX13_pairCause 100 = .ok (.aload_n 0, 1) := dk_42 (dk_at dksX13_pairCause_4 7 rfl rfl)
theorem dX13_pairCause_101 : decode cX13_pairCause 101 = .ok (.getfield 22, 3) := dk_180 0 22 (dk_at dksX13_pairCause_4 8 rfl rfl)
theorem dX13_pairCause_104 : decode cX13_pairCause 104 = .ok (.iload 5, 2) := dk_21 5 (dk_at dksX13_pairCause_4 11 rfl rfl)
theorem dX13_pairCause_106 : decode cX13_pairCause 106 = .ok (.iaload, 1) := dk_46 (dk_at dksX13_pairCause_4 13 rfl rfl)
theorem dX13_pairCause_107 : decode cX13_pairCause 107 = .ok (.aload_n 0, 1) := dk_42 (dk_at dksX13_pairCause_4 14 rfl rfl)
theorem dX13_pairCause_108 : decode cX13_pairCause 108 = .ok (.getfield 22, 3) := dk_180 0 22 (dk_at dksX13_pairCause_4 15 rfl rfl)
theorem dX13_pairCause_111 : decode cX13_pairCause 111 = .ok (.iload_n 3, 1) := dk_29 (dk_at dksX13_pairCause_4 18 rfl rfl)
theorem dX13_pairCause_112 : decode cX13_pairCause 112 = .ok (.iaload, 1) := dk_46 (dk_at dksX13_pairCause_4 19 rfl rfl)
theorem dX13_pairCause_113 : decode cX13_pairCause 113 = .ok (.if_icmp .ne 5, 3) := dk_160 0 5 (dk_at dksX13_pairCause_4 20 rfl rfl)
theorem dX13_pairCause_116 : decode cX13_pairCause 116 = .ok (.iload_n 3, 1) := dk_29 (dk_at dksX13_pairCause_4 23 rfl rfl)
theorem dX13_pairCause_117 : decode cX13_pairCause 117 = .ok (.ireturn, 1) := dk_172 (dk_at dksX13_pairCause_5 0 rfl rfl)
theorem dX13_pairCause_118 : decode cX13_pairCause 118 = .ok (.iinc 5 1, 3) := dk_132 5 1 (dk_at dksX13_pairCause_5 1 rfl rfl)
theorem dX13_pairCause_121 : decode cX13_pairCause 121 = .ok (.goto (-55), 3) := dk_167 255 201 (dk_at dksX13_pairCause_5 4 rfl rfl)
theorem dX13_pairCause_124 : decode cX13_pairCause 124 = .ok (.iinc 3 1, 3) := dk_132 3 1 (dk_at dksX13_pairCause_5 7 rfl rfl)
theorem dX13_pairCause_127 : decode cX13_pairCause 127 = .ok (.goto (-125), 3) := dk_167 255 131 (dk_at dksX13_pairCause_5 10 rfl rfl)
theorem dX13_pairCause_130 : decode cX13_pairCause 130 = .ok (.bipush (-99), 2) := dk_16 157 (dk_at dksX13_pairCause_5 13 rfl rfl)
theorem dX13_pairCause_132 : decode cX13_pairCause 132 = .ok (.ireturn, 1) := dk_172 (dk_at dksX13_pairCause_5 15 rfl rfl)
abbrev cX13_ones : ByteArray := prog_28_method_7_code
def yX13_ones : MethodName := ⟨RX13, "ones", "(I)I"⟩
def dkwX13_ones_1 : List UInt8 := [27, 172]
abbrev dktX13_ones_1 : List UInt8 := dkwX13_ones_1 ++ []
def dkwX13_ones_0 : List UInt8 := [3, 60, 3, 61, 28, 16, 31, 162, 0, 17, 27, 26, 28, 122, 4, 126, 96, 60, 132, 2, 1, 167, 255, 239]
abbrev dktX13_ones_0 : List UInt8 := dkwX13_ones_0 ++ dktX13_ones_1
theorem dksX13_ones_0 : cX13_ones.data.toList.drop 0 = dktX13_ones_0 := by decide +kernel
theorem dksX13_ones_1 : cX13_ones.data.toList.drop 24 = dktX13_ones_1 := dk_seg dksX13_ones_0 24 rfl rfl
theorem dX13_ones_0 : decode cX13_ones 0 = .ok (.iconst 0, 1) := dk_3 (dk_at dksX13_ones_0 0 rfl rfl)
theorem dX13_ones_1 : decode cX13_ones 1 = .ok (.istore_n 1, 1) := dk_60 (dk_at dksX13_ones_0 1 rfl rfl)
theorem dX13_ones_2 : decode cX13_ones 2 = .ok (.iconst 0, 1) := dk_3 (dk_at dksX13_ones_0 2 rfl rfl)
theorem dX13_ones_3 : decode cX13_ones 3 = .ok (.istore_n 2, 1) := dk_61 (dk_at dksX13_ones_0 3 rfl rfl)
theorem dX13_ones_4 : decode cX13_ones 4 = .ok (.iload_n 2, 1) := dk_28 (dk_at dksX13_ones_0 4 rfl rfl)
theorem dX13_ones_5 : decode cX13_ones 5 = .ok (.bipush 31, 2) := dk_16 31 (dk_at dksX13_ones_0 5 rfl rfl)
theorem dX13_ones_7 : decode cX13_ones 7 = .ok (.if_icmp .ge 17, 3) := dk_162 0 17 (dk_at dksX13_ones_0 7 rfl rfl)
theorem dX13_ones_10 : decode cX13_ones 10 = .ok (.iload_n 1, 1) := dk_27 (dk_at dksX13_ones_0 10 rfl rfl)
theorem dX13_ones_11 : decode cX13_ones 11 = .ok (.iload_n 0, 1) := dk_26 (dk_at dksX13_ones_0 11 rfl rfl)
theorem dX13_ones_12 : decode cX13_ones 12 = .ok (.iload_n 2, 1) := dk_28 (dk_at dksX13_ones_0 12 rfl rfl)
theorem dX13_ones_13 : decode cX13_ones 13 = .ok (.ishr, 1) := dk_122 (dk_at dksX13_ones_0 13 rfl rfl)
theorem dX13_ones_14 : decode cX13_ones 14 = .ok (.iconst 1, 1) := dk_4 (dk_at dksX13_ones_0 14 rfl rfl)
theorem dX13_ones_15 : decode cX13_ones 15 = .ok (.iand, 1) := dk_126 (dk_at dksX13_ones_0 15 rfl rfl)
theorem dX13_ones_16 : decode cX13_ones 16 = .ok (.iadd, 1) := dk_96 (dk_at dksX13_ones_0 16 rfl rfl)
theorem dX13_ones_17 : decode cX13_ones 17 = .ok (.istore_n 1, 1) := dk_60 (dk_at dksX13_ones_0 17 rfl rfl)
theorem dX13_ones_18 : decode cX13_ones 18 = .ok (.iinc 2 1, 3) := dk_132 2 1 (dk_at dksX13_ones_0 18 rfl rfl)
theorem dX13_ones_21 : decode cX13_ones 21 = .ok (.goto (-17), 3) := dk_167 255 239 (dk_at dksX13_ones_0 21 rfl rfl)
theorem dX13_ones_24 : decode cX13_ones 24 = .ok (.iload_n 1, 1) := dk_27 (dk_at dksX13_ones_1 0 rfl rfl)
theorem dX13_ones_25 : decode cX13_ones 25 = .ok (.ireturn, 1) := dk_172 (dk_at dksX13_ones_1 1 rfl rfl)
abbrev cX13_how : ByteArray := prog_28_method_52_code
def yX13_how : MethodName := ⟨RX13, "how", "()I"⟩
def dkwX13_how_1 : List UInt8 := [167, 0, 4, 3, 172]
abbrev dktX13_how_1 : List UInt8 := dkwX13_how_1 ++ []
def dkwX13_how_0 : List UInt8 := [42, 182, 0, 145, 153, 0, 7, 5, 167, 0, 19, 42, 182, 0, 149, 42, 182, 0, 61, 160, 0, 7, 4]
abbrev dktX13_how_0 : List UInt8 := dkwX13_how_0 ++ dktX13_how_1
theorem dksX13_how_0 : cX13_how.data.toList.drop 0 = dktX13_how_0 := by decide +kernel
theorem dksX13_how_1 : cX13_how.data.toList.drop 23 = dktX13_how_1 := dk_seg dksX13_how_0 23 rfl rfl
theorem dX13_how_0 : decode cX13_how 0 = .ok (.aload_n 0, 1) := dk_42 (dk_at dksX13_how_0 0 rfl rfl)
theorem dX13_how_1 : decode cX13_how 1 = .ok (.invokevirtual 145, 3) := dk_182 0 145 (dk_at dksX13_how_0 1 rfl rfl)
theorem dX13_how_4 : decode cX13_how 4 = .ok (.ifCond .eq 7, 3) := dk_153 0 7 (dk_at dksX13_how_0 4 rfl rfl)
theorem dX13_how_7 : decode cX13_how 7 = .ok (.iconst 2, 1) := dk_5 (dk_at dksX13_how_0 7 rfl rfl)
theorem dX13_how_8 : decode cX13_how 8 = .ok (.goto 19, 3) := dk_167 0 19 (dk_at dksX13_how_0 8 rfl rfl)
theorem dX13_how_11 : decode cX13_how 11 = .ok (.aload_n 0, 1) := dk_42 (dk_at dksX13_how_0 11 rfl rfl)
theorem dX13_how_12 : decode cX13_how 12 = .ok (.invokevirtual 149, 3) := dk_182 0 149 (dk_at dksX13_how_0 12 rfl rfl)
theorem dX13_how_15 : decode cX13_how 15 = .ok (.aload_n 0, 1) := dk_42 (dk_at dksX13_how_0 15 rfl rfl)
theorem dX13_how_16 : decode cX13_how 16 = .ok (.invokevirtual 61, 3) := dk_182 0 61 (dk_at dksX13_how_0 16 rfl rfl)
theorem dX13_how_19 : decode cX13_how 19 = .ok (.if_icmp .ne 7, 3) := dk_160 0 7 (dk_at dksX13_how_0 19 rfl rfl)
theorem dX13_how_22 : decode cX13_how 22 = .ok (.iconst 1, 1) := dk_4 (dk_at dksX13_how_0 22 rfl rfl)
theorem dX13_how_23 : decode cX13_how 23 = .ok (.goto 4, 3) := dk_167 0 4 (dk_at dksX13_how_1 0 rfl rfl)
theorem dX13_how_26 : decode cX13_how 26 = .ok (.iconst 0, 1) := dk_3 (dk_at dksX13_how_1 3 rfl rfl)
theorem dX13_how_27 : decode cX13_how 27 = .ok (.ireturn, 1) := dk_172 (dk_at dksX13_how_1 4 rfl rfl)
abbrev cX13_singleMany : ByteArray := prog_28_method_50_code
def yX13_singleMany : MethodName := ⟨RX13, "singleMany", "()I"⟩
def dkwX13_singleMany_1 : List UInt8 := [160, 0, 7, 4, 167, 0, 4, 3, 96, 60, 132, 2, 1, 167, 255, 224, 27, 172]
abbrev dktX13_singleMany_1 : List UInt8 := dkwX13_singleMany_1 ++ []
def dkwX13_singleMany_0 : List UInt8 := [3, 60, 3, 61, 28, 42, 182, 0, 61, 162, 0, 30, 27, 42, 180, 0, 22, 28, 46, 184, 0, 142, 4]
abbrev dktX13_singleMany_0 : List UInt8 := dkwX13_singleMany_0 ++ dktX13_singleMany_1
theorem dksX13_singleMany_0 : cX13_singleMany.data.toList.drop 0 = dktX13_singleMany_0 := by decide +kernel
theorem dksX13_singleMany_1 : cX13_singleMany.data.toList.drop 23 = dktX13_singleMany_1 := dk_seg dksX13_singleMany_0 23 rfl rfl
theorem dX13_singleMany_0 : decode cX13_singleMany 0 = .ok (.iconst 0, 1) := dk_3 (dk_at dksX13_singleMany_0 0 rfl rfl)
theorem dX13_singleMany_1 : decode cX13_singleMany 1 = .ok (.istore_n 1, 1) := dk_60 (dk_at dksX13_singleMany_0 1 rfl rfl)
theorem dX13_singleMany_2 : decode cX13_singleMany 2 = .ok (.iconst 0, 1) := dk_3 (dk_at dksX13_singleMany_0 2 rfl rfl)
theorem dX13_singleMany_3 : decode cX13_singleMany 3 = .ok (.istore_n 2, 1) := dk_61 (dk_at dksX13_singleMany_0 3 rfl rfl)
theorem dX13_singleMany_4 : decode cX13_singleMany 4 = .ok (.iload_n 2, 1) := dk_28 (dk_at dksX13_singleMany_0 4 rfl rfl)
theorem dX13_singleMany_5 : decode cX13_singleMany 5 = .ok (.aload_n 0, 1) := dk_42 (dk_at dksX13_singleMany_0 5 rfl rfl)
theorem dX13_singleMany_6 : decode cX13_singleMany 6 = .ok (.invokevirtual 61, 3) := dk_182 0 61 (dk_at dksX13_singleMany_0 6 rfl rfl)
theorem dX13_singleMany_9 : decode cX13_singleMany 9 = .ok (.if_icmp .ge 30, 3) := dk_162 0 30 (dk_at dksX13_singleMany_0 9 rfl rfl)
theorem dX13_singleMany_12 : decode cX13_singleMany 12 = .ok (.iload_n 1, 1) := dk_27 (dk_at dksX13_singleMany_0 12 rfl rfl)
theorem dX13_singleMany_13 : decode cX13_singleMany 13 = .ok (.aload_n 0, 1) := dk_42 (dk_at dksX13_singleMany_0 13 rfl rfl)
theorem dX13_singleMany_14 : decode cX13_singleMany 14 = .ok (.getfield 22, 3) := dk_180 0 22 (dk_at dksX13_singleMany_0 14 rfl rfl)
theorem dX13_singleMany_17 : decode cX13_singleMany 17 = .ok (.iload_n 2, 1) := dk_28 (dk_at dksX13_singleMany_0 17 rfl rfl)
theorem dX13_singleMany_18 : decode cX13_singleMany 18 = .ok (.iaload, 1) := dk_46 (dk_at dksX13_singleMany_0 18 rfl rfl)
theorem dX13_singleMany_19 : decode cX13_singleMany 19 = .ok (.invokestatic 142, 3) := dk_184 0 142 (dk_at dksX13_singleMany_0 19 rfl rfl)
theorem dX13_singleMany_22 : decode cX13_singleMany 22 = .ok (.iconst 1, 1) := dk_4 (dk_at dksX13_singleMany_0 22 rfl rfl)
theorem dX13_singleMany_23 : decode cX13_singleMany 23 = .ok (.if_icmp .ne 7, 3) := dk_160 0 7 (dk_at dksX13_singleMany_1 0 rfl rfl)
theorem dX13_singleMany_26 : decode cX13_singleMany 26 = .ok (.iconst 1, 1) := dk_4 (dk_at dksX13_singleMany_1 3 rfl rfl)
theorem dX13_singleMany_27 : decode cX13_singleMany 27 = .ok (.goto 4, 3) := dk_167 0 4 (dk_at dksX13_singleMany_1 4 rfl rfl)
theorem dX13_singleMany_30 : decode cX13_singleMany 30 = .ok (.iconst 0, 1) := dk_3 (dk_at dksX13_singleMany_1 7 rfl rfl)
theorem dX13_singleMany_31 : decode cX13_singleMany 31 = .ok (.iadd, 1) := dk_96 (dk_at dksX13_singleMany_1 8 rfl rfl)
theorem dX13_singleMany_32 : decode cX13_singleMany 32 = .ok (.istore_n 1, 1) := dk_60 (dk_at dksX13_singleMany_1 9 rfl rfl)
theorem dX13_singleMany_33 : decode cX13_singleMany 33 = .ok (.iinc 2 1, 3) := dk_132 2 1 (dk_at dksX13_singleMany_1 10 rfl rfl)
theorem dX13_singleMany_36 : decode cX13_singleMany 36 = .ok (.goto (-32), 3) := dk_167 255 224 (dk_at dksX13_singleMany_1 13 rfl rfl)
theorem dX13_singleMany_39 : decode cX13_singleMany 39 = .ok (.iload_n 1, 1) := dk_27 (dk_at dksX13_singleMany_1 16 rfl rfl)
theorem dX13_singleMany_40 : decode cX13_singleMany 40 = .ok (.ireturn, 1) := dk_172 (dk_at dksX13_singleMany_1 17 rfl rfl)
abbrev cX13_listClues : ByteArray := prog_28_method_69_code
def yX13_listClues : MethodName := ⟨RX13, "listClues", "(II)I"⟩
def dkwX13_listClues_6 : List UInt8 := [132, 5, 1, 167, 255, 133, 29, 172]
abbrev dktX13_listClues_6 : List UInt8 := dkwX13_listClues_6 ++ []
def dkwX13_listClues_5 : List UInt8 := [21, 7, 4, 100, 46, 79, 132, 7, 255, 167, 255, 203, 42, 180, 0, 34, 21, 7, 21, 6, 79, 132, 3, 1]
abbrev dktX13_listClues_5 : List UInt8 := dkwX13_listClues_5 ++ dktX13_listClues_6
def dkwX13_listClues_4 : List UInt8 := [182, 0, 225, 42, 27, 21, 6, 182, 0, 225, 162, 0, 25, 42, 180, 0, 34, 21, 7, 42, 180, 0, 34]
abbrev dktX13_listClues_4 : List UInt8 := dkwX13_listClues_4 ++ dktX13_listClues_5
def dkwX13_listClues_3 : List UInt8 := [54, 7, 21, 7, 158, 0, 54, 28, 5, 160, 0, 49, 42, 27, 42, 180, 0, 34, 21, 7, 4, 100, 46]
abbrev dktX13_listClues_3 : List UInt8 := dkwX13_listClues_3 ++ dktX13_listClues_4
def dkwX13_listClues_2 : List UInt8 := [42, 180, 0, 7, 27, 154, 0, 8, 16, 58, 167, 0, 5, 16, 83, 21, 6, 96, 46, 4, 160, 0, 74, 29]
abbrev dktX13_listClues_2 : List UInt8 := dkwX13_listClues_2 ++ dktX13_listClues_3
def dkwX13_listClues_1 : List UInt8 := [21, 4, 162, 0, 122, 28, 4, 160, 0, 13, 21, 4, 4, 100, 21, 5, 100, 167, 0, 5, 21, 5, 54, 6]
abbrev dktX13_listClues_1 : List UInt8 := dkwX13_listClues_1 ++ dktX13_listClues_2
def dkwX13_listClues_0 : List UInt8 := [3, 62, 27, 154, 0, 10, 42, 182, 0, 61, 167, 0, 7, 42, 182, 0, 69, 54, 4, 3, 54, 5, 21, 5]
abbrev dktX13_listClues_0 : List UInt8 := dkwX13_listClues_0 ++ dktX13_listClues_1
theorem dksX13_listClues_0 : cX13_listClues.data.toList.drop 0 = dktX13_listClues_0 := by decide +kernel
theorem dksX13_listClues_1 : cX13_listClues.data.toList.drop 24 = dktX13_listClues_1 := dk_seg dksX13_listClues_0 24 rfl rfl
theorem dksX13_listClues_2 : cX13_listClues.data.toList.drop 48 = dktX13_listClues_2 := dk_seg dksX13_listClues_1 24 rfl rfl
theorem dksX13_listClues_3 : cX13_listClues.data.toList.drop 72 = dktX13_listClues_3 := dk_seg dksX13_listClues_2 24 rfl rfl
theorem dksX13_listClues_4 : cX13_listClues.data.toList.drop 95 = dktX13_listClues_4 := dk_seg dksX13_listClues_3 23 rfl rfl
theorem dksX13_listClues_5 : cX13_listClues.data.toList.drop 118 = dktX13_listClues_5 := dk_seg dksX13_listClues_4 23 rfl rfl
theorem dksX13_listClues_6 : cX13_listClues.data.toList.drop 142 = dktX13_listClues_6 := dk_seg dksX13_listClues_5 24 rfl rfl
theorem dX13_listClues_0 : decode cX13_listClues 0 = .ok (.iconst 0, 1) := dk_3 (dk_at dksX13_listClues_0 0 rfl rfl)
theorem dX13_listClues_1 : decode cX13_listClues 1 = .ok (.istore_n 3, 1) := dk_62 (dk_at dksX13_listClues_0 1 rfl rfl)
theorem dX13_listClues_2 : decode cX13_listClues 2 = .ok (.iload_n 1, 1) := dk_27 (dk_at dksX13_listClues_0 2 rfl rfl)
theorem dX13_listClues_3 : decode cX13_listClues 3 = .ok (.ifCond .ne 10, 3) := dk_154 0 10 (dk_at dksX13_listClues_0 3 rfl rfl)
theorem dX13_listClues_6 : decode cX13_listClues 6 = .ok (.aload_n 0, 1) := dk_42 (dk_at dksX13_listClues_0 6 rfl rfl)
theorem dX13_listClues_7 : decode cX13_listClues 7 = .ok (.invokevirtual 61, 3) := dk_182 0 61 (dk_at dksX13_listClues_0 7 rfl rfl)
theorem dX13_listClues_10 : decode cX13_listClues 10 = .ok (.goto 7, 3) := dk_167 0 7 (dk_at dksX13_listClues_0 10 rfl rfl)
theorem dX13_listClues_13 : decode cX13_listClues 13 = .ok (.aload_n 0, 1) := dk_42 (dk_at dksX13_listClues_0 13 rfl rfl)
theorem dX13_listClues_14 : decode cX13_listClues 14 = .ok (.invokevirtual 69, 3) := dk_182 0 69 (dk_at dksX13_listClues_0 14 rfl rfl)
theorem dX13_listClues_17 : decode cX13_listClues 17 = .ok (.istore 4, 2) := dk_54 4 (dk_at dksX13_listClues_0 17 rfl rfl)
theorem dX13_listClues_19 : decode cX13_listClues 19 = .ok (.iconst 0, 1) := dk_3 (dk_at dksX13_listClues_0 19 rfl rfl)
theorem dX13_listClues_20 : decode cX13_listClues 20 = .ok (.istore 5, 2) := dk_54 5 (dk_at dksX13_listClues_0 20 rfl rfl)
theorem dX13_listClues_22 : decode cX13_listClues 22 = .ok (.iload 5, 2) := dk_21 5 (dk_at dksX13_listClues_0 22 rfl rfl)
theorem dX13_listClues_24 : decode cX13_listClues 24 = .ok (.iload 4, 2) := dk_21 4 (dk_at dksX13_listClues_1 0 rfl rfl)
theorem dX13_listClues_26 : decode cX13_listClues 26 = .ok (.if_icmp .ge 122, 3) := dk_162 0 122 (dk_at dksX13_listClues_1 2 rfl rfl)
theorem dX13_listClues_29 : decode cX13_listClues 29 = .ok (.iload_n 2, 1) := dk_28 (dk_at dksX13_listClues_1 5 rfl rfl)
theorem dX13_listClues_30 : decode cX13_listClues 30 = .ok (.iconst 1, 1) := dk_4 (dk_at dksX13_listClues_1 6 rfl rfl)
theorem dX13_listClues_31 : decode cX13_listClues 31 = .ok (.if_icmp .ne 13, 3) := dk_160 0 13 (dk_at dksX13_listClues_1 7 rfl rfl)
theorem dX13_listClues_34 : decode cX13_listClues 34 = .ok (.iload 4, 2) := dk_21 4 (dk_at dksX13_listClues_1 10 rfl rfl)
theorem dX13_listClues_36 : decode cX13_listClues 36 = .ok (.iconst 1, 1) := dk_4 (dk_at dksX13_listClues_1 12 rfl rfl)
theorem dX13_listClues_37 : decode cX13_listClues 37 = .ok (.isub, 1) := dk_100 (dk_at dksX13_listClues_1 13 rfl rfl)
theorem dX13_listClues_38 : decode cX13_listClues 38 = .ok (.iload 5, 2) := dk_21 5 (dk_at dksX13_listClues_1 14 rfl rfl)
theorem dX13_listClues_40 : decode cX13_listClues 40 = .ok (.isub, 1) := dk_100 (dk_at dksX13_listClues_1 16 rfl rfl)
theorem dX13_listClues_41 : decode cX13_listClues 41 = .ok (.goto 5, 3) := dk_167 0 5 (dk_at dksX13_listClues_1 17 rfl rfl)
theorem dX13_listClues_44 : decode cX13_listClues 44 = .ok (.iload 5, 2) := dk_21 5 (dk_at dksX13_listClues_1 20 rfl rfl)
theorem dX13_listClues_46 : decode cX13_listClues 46 = .ok (.istore 6, 2) := dk_54 6 (dk_at dksX13_listClues_1 22 rfl rfl)
theorem dX13_listClues_48 : decode cX13_listClues 48 = .ok (.aload_n 0, 1) := dk_42 (dk_at dksX13_listClues_2 0 rfl rfl)
theorem dX13_listClues_49 : decode cX13_listClues 49 = .ok (.getfield 7, 3) := dk_180 0 7 (dk_at dksX13_listClues_2 1 rfl rfl)
theorem dX13_listClues_52 : decode cX13_listClues 52 = .ok (.iload_n 1, 1) := dk_27 (dk_at dksX13_listClues_2 4 rfl rfl)
theorem dX13_listClues_53 : decode cX13_listClues 53 = .ok (.ifCond .ne 8, 3) := dk_154 0 8 (dk_at dksX13_listClues_2 5 rfl rfl)
theorem dX13_listClues_56 : decode cX13_listClues 56 = .ok (.bipush 58, 2) := dk_16 58 (dk_at dksX13_listClues_2 8 rfl rfl)
theorem dX13_listClues_58 : decode cX13_listClues 58 = .ok (.goto 5, 3) := dk_167 0 5 (dk_at dksX13_listClues_2 10 rfl rfl)
theorem dX13_listClues_61 : decode cX13_listClues 61 = .ok (.bipush 83, 2) := dk_16 83 (dk_at dksX13_listClues_2 13 rfl rfl)
theorem dX13_listClues_63 : decode cX13_listClues 63 = .ok (.iload 6, 2) := dk_21 6 (dk_at dksX13_listClues_2 15 rfl rfl)
theorem dX13_listClues_65 : decode cX13_listClues 65 = .ok (.iadd, 1) := dk_96 (dk_at dksX13_listClues_2 17 rfl rfl)
theorem dX13_listClues_66 : decode cX13_listClues 66 = .ok (.iaload, 1) := dk_46 (dk_at dksX13_listClues_2 18 rfl rfl)
theorem dX13_listClues_67 : decode cX13_listClues 67 = .ok (.iconst 1, 1) := dk_4 (dk_at dksX13_listClues_2 19 rfl rfl)
theorem dX13_listClues_68 : decode cX13_listClues 68 = .ok (.if_icmp .ne 74, 3) := dk_160 0 74 (dk_at dksX13_listClues_2 20 rfl rfl)
theorem dX13_listClues_71 : decode cX13_listClues 71 = .ok (.iload_n 3, 1) := dk_29 (dk_at dksX13_listClues_2 23 rfl rfl)
theorem dX13_listClues_72 : decode cX13_listClues 72 = .ok (.istore 7, 2) := dk_54 7 (dk_at dksX13_listClues_3 0 rfl rfl)
theorem dX13_listClues_74 : decode cX13_listClues 74 = .ok (.iload 7, 2) := dk_21 7 (dk_at dksX13_listClues_3 2 rfl rfl)
theorem dX13_listClues_76 : decode cX13_listClues 76 = .ok (.ifCond .le 54, 3) := dk_158 0 54 (dk_at dksX13_listClues_3 4 rfl rfl)
theorem dX13_listClues_79 : decode cX13_listClues 79 = .ok (.iload_n 2, 1) := dk_28 (dk_at dksX13_listClues_3 7 rfl rfl)
theorem dX13_listClues_80 : decode cX13_listClues 80 = .ok (.iconst 2, 1) := dk_5 (dk_at dksX13_listClues_3 8 rfl rfl)
theorem dX13_listClues_81 : decode cX13_listClues 81 = .ok (.if_icmp .ne 49, 3) := dk_160 0 49 (dk_at dksX13_listClues_3 9 rfl rfl)
theorem dX13_listClues_84 : decode cX13_listClues 84 = .ok (.aload_n 0, 1) := dk_42 (dk_at dksX13_listClues_3 12 rfl rfl)
theorem dX13_listClues_85 : decode cX13_listClues 85 = .ok (.iload_n 1, 1) := dk_27 (dk_at dksX13_listClues_3 13 rfl rfl)
theorem dX13_listClues_86 : decode cX13_listClues 86 = .ok (.aload_n 0, 1) := dk_42 (dk_at dksX13_listClues_3 14 rfl rfl)
theorem dX13_listClues_87 : decode cX13_listClues 87 = .ok (.getfield 34, 3) := dk_180 0 34 (dk_at dksX13_listClues_3 15 rfl rfl)
theorem dX13_listClues_90 : decode cX13_listClues 90 = .ok (.iload 7, 2) := dk_21 7 (dk_at dksX13_listClues_3 18 rfl rfl)
theorem dX13_listClues_92 : decode cX13_listClues 92 = .ok (.iconst 1, 1) := dk_4 (dk_at dksX13_listClues_3 20 rfl rfl)
theorem dX13_listClues_93 : decode cX13_listClues 93 = .ok (.isub, 1) := dk_100 (dk_at dksX13_listClues_3 21 rfl rfl)
theorem dX13_listClues_94 : decode cX13_listClues 94 = .ok (.iaload, 1) := dk_46 (dk_at dksX13_listClues_3 22 rfl rfl)
theorem dX13_listClues_95 : decode cX13_listClues 95 = .ok (.invokevirtual 225, 3) := dk_182 0 225 (dk_at dksX13_listClues_4 0 rfl rfl)
theorem dX13_listClues_98 : decode cX13_listClues 98 = .ok (.aload_n 0, 1) := dk_42 (dk_at dksX13_listClues_4 3 rfl rfl)
theorem dX13_listClues_99 : decode cX13_listClues 99 = .ok (.iload_n 1, 1) := dk_27 (dk_at dksX13_listClues_4 4 rfl rfl)
theorem dX13_listClues_100 : decode cX13_listClues 100 = .ok (.iload 6, 2) := dk_21 6 (dk_at dksX13_listClues_4 5 rfl rfl)
theorem dX13_listClues_102 : decode cX13_listClues 102 = .ok (.invokevirtual 225, 3) := dk_182 0 225 (dk_at dksX13_listClues_4 7 rfl rfl)
theorem dX13_listClues_105 : decode cX13_listClues 105 = .ok (.if_icmp .ge 25, 3) := dk_162 0 25 (dk_at dksX13_listClues_4 10 rfl rfl)
theorem dX13_listClues_108 : decode cX13_listClues 108 = .ok (.aload_n 0, 1) := dk_42 (dk_at dksX13_listClues_4 13 rfl rfl)
theorem dX13_listClues_109 : decode cX13_listClues 109 = .ok (.getfield 34, 3) := dk_180 0 34 (dk_at dksX13_listClues_4 14 rfl rfl)
theorem dX13_listClues_112 : decode cX13_listClues 112 = .ok (.iload 7, 2) := dk_21 7 (dk_at dksX13_listClues_4 17 rfl rfl)
theorem dX13_listClues_114 : decode cX13_listClues 114 = .ok (.aload_n 0, 1) := dk_42 (dk_at dksX13_listClues_4 19 rfl rfl)
theorem dX13_listClues_115 : decode cX13_listClues 115 = .ok (.getfield 34, 3) := dk_180 0 34 (dk_at dksX13_listClues_4 20 rfl rfl)
theorem dX13_listClues_118 : decode cX13_listClues 118 = .ok (.iload 7, 2) := dk_21 7 (dk_at dksX13_listClues_5 0 rfl rfl)
theorem dX13_listClues_120 : decode cX13_listClues 120 = .ok (.iconst 1, 1) := dk_4 (dk_at dksX13_listClues_5 2 rfl rfl)
theorem dX13_listClues_121 : decode cX13_listClues 121 = .ok (.isub, 1) := dk_100 (dk_at dksX13_listClues_5 3 rfl rfl)
theorem dX13_listClues_122 : decode cX13_listClues 122 = .ok (.iaload, 1) := dk_46 (dk_at dksX13_listClues_5 4 rfl rfl)
theorem dX13_listClues_123 : decode cX13_listClues 123 = .ok (.iastore, 1) := dk_79 (dk_at dksX13_listClues_5 5 rfl rfl)
theorem dX13_listClues_124 : decode cX13_listClues 124 = .ok (.iinc 7 (-1), 3) := dk_132 7 255 (dk_at dksX13_listClues_5 6 rfl rfl)
theorem dX13_listClues_127 : decode cX13_listClues 127 = .ok (.goto (-53), 3) := dk_167 255 203 (dk_at dksX13_listClues_5 9 rfl rfl)
theorem dX13_listClues_130 : decode cX13_listClues 130 = .ok (.aload_n 0, 1) := dk_42 (dk_at dksX13_listClues_5 12 rfl rfl)
theorem dX13_listClues_131 : decode cX13_listClues 131 = .ok (.getfield 34, 3) := dk_180 0 34 (dk_at dksX13_listClues_5 13 rfl rfl)
theorem dX13_listClues_134 : decode cX13_listClues 134 = .ok (.iload 7, 2) := dk_21 7 (dk_at dksX13_listClues_5 16 rfl rfl)
theorem dX13_listClues_136 : decode cX13_listClues 136 = .ok (.iload 6, 2) := dk_21 6 (dk_at dksX13_listClues_5 18 rfl rfl)
theorem dX13_listClues_138 : decode cX13_listClues 138 = .ok (.iastore, 1) := dk_79 (dk_at dksX13_listClues_5 20 rfl rfl)
theorem dX13_listClues_139 : decode cX13_listClues 139 = .ok (.iinc 3 1, 3) := dk_132 3 1 (dk_at dksX13_listClues_5 21 rfl rfl)
theorem dX13_listClues_142 : decode cX13_listClues 142 = .ok (.iinc 5 1, 3) := dk_132 5 1 (dk_at dksX13_listClues_6 0 rfl rfl)
theorem dX13_listClues_145 : decode cX13_listClues 145 = .ok (.goto (-123), 3) := dk_167 255 133 (dk_at dksX13_listClues_6 3 rfl rfl)
theorem dX13_listClues_148 : decode cX13_listClues 148 = .ok (.iload_n 3, 1) := dk_29 (dk_at dksX13_listClues_6 6 rfl rfl)
theorem dX13_listClues_149 : decode cX13_listClues 149 = .ok (.ireturn, 1) := dk_172 (dk_at dksX13_listClues_6 7 rfl rfl)
abbrev cX13_worth : ByteArray := prog_28_method_70_code
def yX13_worth : MethodName := ⟨RX13, "worth", "(II)I"⟩
def dkwX13_worth_0 : List UInt8 := [27, 154, 0, 11, 42, 28, 182, 0, 99, 167, 0, 8, 42, 28, 182, 0, 158, 172]
abbrev dktX13_worth_0 : List UInt8 := dkwX13_worth_0 ++ []
theorem dksX13_worth_0 : cX13_worth.data.toList.drop 0 = dktX13_worth_0 := by decide +kernel
theorem dX13_worth_0 : decode cX13_worth 0 = .ok (.iload_n 1, 1) := dk_27 (dk_at dksX13_worth_0 0 rfl rfl)
theorem dX13_worth_1 : decode cX13_worth 1 = .ok (.ifCond .ne 11, 3) := dk_154 0 11 (dk_at dksX13_worth_0 1 rfl rfl)
theorem dX13_worth_4 : decode cX13_worth 4 = .ok (.aload_n 0, 1) := dk_42 (dk_at dksX13_worth_0 4 rfl rfl)
theorem dX13_worth_5 : decode cX13_worth 5 = .ok (.iload_n 2, 1) := dk_28 (dk_at dksX13_worth_0 5 rfl rfl)
theorem dX13_worth_6 : decode cX13_worth 6 = .ok (.invokevirtual 99, 3) := dk_182 0 99 (dk_at dksX13_worth_0 6 rfl rfl)
theorem dX13_worth_9 : decode cX13_worth 9 = .ok (.goto 8, 3) := dk_167 0 8 (dk_at dksX13_worth_0 9 rfl rfl)
theorem dX13_worth_12 : decode cX13_worth 12 = .ok (.aload_n 0, 1) := dk_42 (dk_at dksX13_worth_0 12 rfl rfl)
theorem dX13_worth_13 : decode cX13_worth 13 = .ok (.iload_n 2, 1) := dk_28 (dk_at dksX13_worth_0 13 rfl rfl)
theorem dX13_worth_14 : decode cX13_worth 14 = .ok (.invokevirtual 158, 3) := dk_182 0 158 (dk_at dksX13_worth_0 14 rfl rfl)
theorem dX13_worth_17 : decode cX13_worth 17 = .ok (.ireturn, 1) := dk_172 (dk_at dksX13_worth_0 17 rfl rfl)
abbrev cX13_support : ByteArray := prog_28_method_72_code
def yX13_support : MethodName := ⟨RX13, "support", "()I"⟩
def dkwX13_support_4 : List UInt8 := [167, 255, 191, 42, 182, 0, 51, 27, 172]
abbrev dktX13_support_4 : List UInt8 := dkwX13_support_4 ++ []
def dkwX13_support_3 : List UInt8 := [167, 0, 4, 28, 61, 132, 3, 1, 167, 255, 218, 42, 180, 0, 7, 16, 58, 28, 96, 4, 79, 132, 1, 1]
abbrev dktX13_support_3 : List UInt8 := dkwX13_support_3 ++ dktX13_support_4
def dkwX13_support_2 : List UInt8 := [42, 180, 0, 22, 29, 46, 184, 0, 142, 42, 180, 0, 22, 28, 46, 184, 0, 142, 164, 0, 7, 29]
abbrev dktX13_support_2 : List UInt8 := dkwX13_support_2 ++ dktX13_support_3
def dkwX13_support_1 : List UInt8 := [182, 0, 102, 3, 60, 42, 182, 0, 228, 154, 0, 64, 3, 61, 4, 62, 29, 42, 182, 0, 61, 162, 0, 36]
abbrev dktX13_support_1 : List UInt8 := dkwX13_support_1 ++ dktX13_support_2
def dkwX13_support_0 : List UInt8 := [42, 3, 181, 0, 43, 42, 182, 0, 136, 157, 0, 10, 42, 182, 0, 228, 153, 0, 6, 16, 254, 172, 42]
abbrev dktX13_support_0 : List UInt8 := dkwX13_support_0 ++ dktX13_support_1
theorem dksX13_support_0 : cX13_support.data.toList.drop 0 = dktX13_support_0 := by decide +kernel
theorem dksX13_support_1 : cX13_support.data.toList.drop 23 = dktX13_support_1 := dk_seg dksX13_support_0 23 rfl rfl
theorem dksX13_support_2 : cX13_support.data.toList.drop 47 = dktX13_support_2 := dk_seg dksX13_support_1 24 rfl rfl
theorem dksX13_support_3 : cX13_support.data.toList.drop 69 = dktX13_support_3 := dk_seg dksX13_support_2 22 rfl rfl
theorem dksX13_support_4 : cX13_support.data.toList.drop 93 = dktX13_support_4 := dk_seg dksX13_support_3 24 rfl rfl
theorem dX13_support_0 : decode cX13_support 0 = .ok (.aload_n 0, 1) := dk_42 (dk_at dksX13_support_0 0 rfl rfl)
theorem dX13_support_1 : decode cX13_support 1 = .ok (.iconst 0, 1) := dk_3 (dk_at dksX13_support_0 1 rfl rfl)
theorem dX13_support_2 : decode cX13_support 2 = .ok (.putfield 43, 3) := dk_181 0 43 (dk_at dksX13_support_0 2 rfl rfl)
theorem dX13_support_5 : decode cX13_support 5 = .ok (.aload_n 0, 1) := dk_42 (dk_at dksX13_support_0 5 rfl rfl)
theorem dX13_support_6 : decode cX13_support 6 = .ok (.invokevirtual 136, 3) := dk_182 0 136 (dk_at dksX13_support_0 6 rfl rfl)
theorem dX13_support_9 : decode cX13_support 9 = .ok (.ifCond .gt 10, 3) := dk_157 0 10 (dk_at dksX13_support_0 9 rfl rfl)
theorem dX13_support_12 : decode cX13_support 12 = .ok (.aload_n 0, 1) := dk_42 (dk_at dksX13_support_0 12 rfl rfl)
theorem dX13_support_13 : decode cX13_support 13 = .ok (.invokevirtual 228, 3) := dk_182 0 228 (dk_at dksX13_support_0 13 rfl rfl)
theorem dX13_support_16 : decode cX13_support 16 = .ok (.ifCond .eq 6, 3) := dk_153 0 6 (dk_at dksX13_support_0 16 rfl rfl)
theorem dX13_support_19 : decode cX13_support 19 = .ok (.bipush (-2), 2) := dk_16 254 (dk_at dksX13_support_0 19 rfl rfl)
theorem dX13_support_21 : decode cX13_support 21 = .ok (.ireturn, 1) := dk_172 (dk_at dksX13_support_0 21 rfl rfl)
theorem dX13_support_22 : decode cX13_support 22 = .ok (.aload_n 0, 1) := dk_42 (dk_at dksX13_support_0 22 rfl rfl)
theorem dX13_support_23 : decode cX13_support 23 = .ok (.invokevirtual 102, 3) := dk_182 0 102 (dk_at dksX13_support_1 0 rfl rfl)
theorem dX13_support_26 : decode cX13_support 26 = .ok (.iconst 0, 1) := dk_3 (dk_at dksX13_support_1 3 rfl rfl)
theorem dX13_support_27 : decode cX13_support 27 = .ok (.istore_n 1, 1) := dk_60 (dk_at dksX13_support_1 4 rfl rfl)
theorem dX13_support_28 : decode cX13_support 28 = .ok (.aload_n 0, 1) := dk_42 (dk_at dksX13_support_1 5 rfl rfl)
theorem dX13_support_29 : decode cX13_support 29 = .ok (.invokevirtual 228, 3) := dk_182 0 228 (dk_at dksX13_support_1 6 rfl rfl)
theorem dX13_support_32 : decode cX13_support 32 = .ok (.ifCond .ne 64, 3) := dk_154 0 64 (dk_at dksX13_support_1 9 rfl rfl)
theorem dX13_support_35 : decode cX13_support 35 = .ok (.iconst 0, 1) := dk_3 (dk_at dksX13_support_1 12 rfl rfl)
theorem dX13_support_36 : decode cX13_support 36 = .ok (.istore_n 2, 1) := dk_61 (dk_at dksX13_support_1 13 rfl rfl)
theorem dX13_support_37 : decode cX13_support 37 = .ok (.iconst 1, 1) := dk_4 (dk_at dksX13_support_1 14 rfl rfl)
theorem dX13_support_38 : decode cX13_support 38 = .ok (.istore_n 3, 1) := dk_62 (dk_at dksX13_support_1 15 rfl rfl)
theorem dX13_support_39 : decode cX13_support 39 = .ok (.iload_n 3, 1) := dk_29 (dk_at dksX13_support_1 16 rfl rfl)
theorem dX13_support_40 : decode cX13_support 40 = .ok (.aload_n 0, 1) := dk_42 (dk_at dksX13_support_1 17 rfl rfl)
theorem dX13_support_41 : decode cX13_support 41 = .ok (.invokevirtual 61, 3) := dk_182 0 61 (dk_at dksX13_support_1 18 rfl rfl)
theorem dX13_support_44 : decode cX13_support 44 = .ok (.if_icmp .ge 36, 3) := dk_162 0 36 (dk_at dksX13_support_1 21 rfl rfl)
theorem dX13_support_47 : decode cX13_support 47 = .ok (.aload_n 0, 1) := dk_42 (dk_at dksX13_support_2 0 rfl rfl)
theorem dX13_support_48 : decode cX13_support 48 = .ok (.getfield 22, 3) := dk_180 0 22 (dk_at dksX13_support_2 1 rfl rfl)
theorem dX13_support_51 : decode cX13_support 51 = .ok (.iload_n 3, 1) := dk_29 (dk_at dksX13_support_2 4 rfl rfl)
theorem dX13_support_52 : decode cX13_support 52 = .ok (.iaload, 1) := dk_46 (dk_at dksX13_support_2 5 rfl rfl)
theorem dX13_support_53 : decode cX13_support 53 = .ok (.invokestatic 142, 3) := dk_184 0 142 (dk_at dksX13_support_2 6 rfl rfl)
theorem dX13_support_56 : decode cX13_support 56 = .ok (.aload_n 0, 1) := dk_42 (dk_at dksX13_support_2 9 rfl rfl)
theorem dX13_support_57 : decode cX13_support 57 = .ok (.getfield 22, 3) := dk_180 0 22 (dk_at dksX13_support_2 10 rfl rfl)
theorem dX13_support_60 : decode cX13_support 60 = .ok (.iload_n 2, 1) := dk_28 (dk_at dksX13_support_2 13 rfl rfl)
theorem dX13_support_61 : decode cX13_support 61 = .ok (.iaload, 1) := dk_46 (dk_at dksX13_support_2 14 rfl rfl)
theorem dX13_support_62 : decode cX13_support 62 = .ok (.invokestatic 142, 3) := dk_184 0 142 (dk_at dksX13_support_2 15 rfl rfl)
theorem dX13_support_65 : decode cX13_support 65 = .ok (.if_icmp .le 7, 3) := dk_164 0 7 (dk_at dksX13_support_2 18 rfl rfl)
theorem dX13_support_68 : decode cX13_support 68 = .ok (.iload_n 3, 1) := dk_29 (dk_at dksX13_support_2 21 rfl rfl)
theorem dX13_support_69 : decode cX13_support 69 = .ok (.goto 4, 3) := dk_167 0 4 (dk_at dksX13_support_3 0 rfl rfl)
theorem dX13_support_72 : decode cX13_support 72 = .ok (.iload_n 2, 1) := dk_28 (dk_at dksX13_support_3 3 rfl rfl)
theorem dX13_support_73 : decode cX13_support 73 = .ok (.istore_n 2, 1) := dk_61 (dk_at dksX13_support_3 4 rfl rfl)
theorem dX13_support_74 : decode cX13_support 74 = .ok (.iinc 3 1, 3) := dk_132 3 1 (dk_at dksX13_support_3 5 rfl rfl)
theorem dX13_support_77 : decode cX13_support 77 = .ok (.goto (-38), 3) := dk_167 255 218 (dk_at dksX13_support_3 8 rfl rfl)
theorem dX13_support_80 : decode cX13_support 80 = .ok (.aload_n 0, 1) := dk_42 (dk_at dksX13_support_3 11 rfl rfl)
theorem dX13_support_81 : decode cX13_support 81 = .ok (.getfield 7, 3) := dk_180 0 7 (dk_at dksX13_support_3 12 rfl rfl)
theorem dX13_support_84 : decode cX13_support 84 = .ok (.bipush 58, 2) := dk_16 58 (dk_at dksX13_support_3 15 rfl rfl)
theorem dX13_support_86 : decode cX13_support 86 = .ok (.iload_n 2, 1) := dk_28 (dk_at dksX13_support_3 17 rfl rfl)
theorem dX13_support_87 : decode cX13_support 87 = .ok (.iadd, 1) := dk_96 (dk_at dksX13_support_3 18 rfl rfl)
theorem dX13_support_88 : decode cX13_support 88 = .ok (.iconst 1, 1) := dk_4 (dk_at dksX13_support_3 19 rfl rfl)
theorem dX13_support_89 : decode cX13_support 89 = .ok (.iastore, 1) := dk_79 (dk_at dksX13_support_3 20 rfl rfl)
theorem dX13_support_90 : decode cX13_support 90 = .ok (.iinc 1 1, 3) := dk_132 1 1 (dk_at dksX13_support_3 21 rfl rfl)
theorem dX13_support_93 : decode cX13_support 93 = .ok (.goto (-65), 3) := dk_167 255 191 (dk_at dksX13_support_4 0 rfl rfl)
theorem dX13_support_96 : decode cX13_support 96 = .ok (.aload_n 0, 1) := dk_42 (dk_at dksX13_support_4 3 rfl rfl)
theorem dX13_support_97 : decode cX13_support 97 = .ok (.invokevirtual 51, 3) := dk_182 0 51 (dk_at dksX13_support_4 4 rfl rfl)
theorem dX13_support_100 : decode cX13_support 100 = .ok (.iload_n 1, 1) := dk_27 (dk_at dksX13_support_4 7 rfl rfl)
theorem dX13_support_101 : decode cX13_support 101 = .ok (.ireturn, 1) := dk_172 (dk_at dksX13_support_4 8 rfl rfl)
abbrev cX13_allow : ByteArray := prog_28_method_73_code
def yX13_allow : MethodName := ⟨RX13, "allow", "(II)I"⟩
def dkwX13_allow_2 : List UInt8 := [120, 128, 79, 42, 180, 0, 7, 5, 46, 184, 0, 142, 172]
abbrev dktX13_allow_2 : List UInt8 := dkwX13_allow_2 ++ []
def dkwX13_allow_1 : List UInt8 := [172, 42, 182, 0, 102, 42, 180, 0, 7, 5, 42, 180, 0, 7, 5, 46, 4, 27, 120, 2, 130, 126, 28, 27]
abbrev dktX13_allow_1 : List UInt8 := dkwX13_allow_1 ++ dktX13_allow_2
def dkwX13_allow_0 : List UInt8 := [42, 3, 181, 0, 43, 27, 3, 7, 184, 0, 65, 153, 0, 12, 28, 3, 4, 184, 0, 65, 154, 0, 5, 2]
abbrev dktX13_allow_0 : List UInt8 := dkwX13_allow_0 ++ dktX13_allow_1
theorem dksX13_allow_0 : cX13_allow.data.toList.drop 0 = dktX13_allow_0 := by decide +kernel
theorem dksX13_allow_1 : cX13_allow.data.toList.drop 24 = dktX13_allow_1 := dk_seg dksX13_allow_0 24 rfl rfl
theorem dksX13_allow_2 : cX13_allow.data.toList.drop 48 = dktX13_allow_2 := dk_seg dksX13_allow_1 24 rfl rfl
theorem dX13_allow_0 : decode cX13_allow 0 = .ok (.aload_n 0, 1) := dk_42 (dk_at dksX13_allow_0 0 rfl rfl)
theorem dX13_allow_1 : decode cX13_allow 1 = .ok (.iconst 0, 1) := dk_3 (dk_at dksX13_allow_0 1 rfl rfl)
theorem dX13_allow_2 : decode cX13_allow 2 = .ok (.putfield 43, 3) := dk_181 0 43 (dk_at dksX13_allow_0 2 rfl rfl)
theorem dX13_allow_5 : decode cX13_allow 5 = .ok (.iload_n 1, 1) := dk_27 (dk_at dksX13_allow_0 5 rfl rfl)
theorem dX13_allow_6 : decode cX13_allow 6 = .ok (.iconst 0, 1) := dk_3 (dk_at dksX13_allow_0 6 rfl rfl)
theorem dX13_allow_7 : decode cX13_allow 7 = .ok (.iconst 4, 1) := dk_7 (dk_at dksX13_allow_0 7 rfl rfl)
theorem dX13_allow_8 : decode cX13_allow 8 = .ok (.invokestatic 65, 3) := dk_184 0 65 (dk_at dksX13_allow_0 8 rfl rfl)
theorem dX13_allow_11 : decode cX13_allow 11 = .ok (.ifCond .eq 12, 3) := dk_153 0 12 (dk_at dksX13_allow_0 11 rfl rfl)
theorem dX13_allow_14 : decode cX13_allow 14 = .ok (.iload_n 2, 1) := dk_28 (dk_at dksX13_allow_0 14 rfl rfl)
theorem dX13_allow_15 : decode cX13_allow 15 = .ok (.iconst 0, 1) := dk_3 (dk_at dksX13_allow_0 15 rfl rfl)
theorem dX13_allow_16 : decode cX13_allow 16 = .ok (.iconst 1, 1) := dk_4 (dk_at dksX13_allow_0 16 rfl rfl)
theorem dX13_allow_17 : decode cX13_allow 17 = .ok (.invokestatic 65, 3) := dk_184 0 65 (dk_at dksX13_allow_0 17 rfl rfl)
theorem dX13_allow_20 : decode cX13_allow 20 = .ok (.ifCond .ne 5, 3) := dk_154 0 5 (dk_at dksX13_allow_0 20 rfl rfl)
theorem dX13_allow_23 : decode cX13_allow 23 = .ok (.iconst (-1), 1) := dk_2 (dk_at dksX13_allow_0 23 rfl rfl)
theorem dX13_allow_24 : decode cX13_allow 24 = .ok (.ireturn, 1) := dk_172 (dk_at dksX13_allow_1 0 rfl rfl)
theorem dX13_allow_25 : decode cX13_allow 25 = .ok (.aload_n 0, 1) := dk_42 (dk_at dksX13_allow_1 1 rfl rfl)
theorem dX13_allow_26 : decode cX13_allow 26 = .ok (.invokevirtual 102, 3) := dk_182 0 102 (dk_at dksX13_allow_1 2 rfl rfl)
theorem dX13_allow_29 : decode cX13_allow 29 = .ok (.aload_n 0, 1) := dk_42 (dk_at dksX13_allow_1 5 rfl rfl)
theorem dX13_allow_30 : decode cX13_allow 30 = .ok (.getfield 7, 3) := dk_180 0 7 (dk_at dksX13_allow_1 6 rfl rfl)
theorem dX13_allow_33 : decode cX13_allow 33 = .ok (.iconst 2, 1) := dk_5 (dk_at dksX13_allow_1 9 rfl rfl)
theorem dX13_allow_34 : decode cX13_allow 34 = .ok (.aload_n 0, 1) := dk_42 (dk_at dksX13_allow_1 10 rfl rfl)
theorem dX13_allow_35 : decode cX13_allow 35 = .ok (.getfield 7, 3) := dk_180 0 7 (dk_at dksX13_allow_1 11 rfl rfl)
theorem dX13_allow_38 : decode cX13_allow 38 = .ok (.iconst 2, 1) := dk_5 (dk_at dksX13_allow_1 14 rfl rfl)
theorem dX13_allow_39 : decode cX13_allow 39 = .ok (.iaload, 1) := dk_46 (dk_at dksX13_allow_1 15 rfl rfl)
theorem dX13_allow_40 : decode cX13_allow 40 = .ok (.iconst 1, 1) := dk_4 (dk_at dksX13_allow_1 16 rfl rfl)
theorem dX13_allow_41 : decode cX13_allow 41 = .ok (.iload_n 1, 1) := dk_27 (dk_at dksX13_allow_1 17 rfl rfl)
theorem dX13_allow_42 : decode cX13_allow 42 = .ok (.ishl, 1) := dk_120 (dk_at dksX13_allow_1 18 rfl rfl)
theorem dX13_allow_43 : decode cX13_allow 43 = .ok (.iconst (-1), 1) := dk_2 (dk_at dksX13_allow_1 19 rfl rfl)
theorem dX13_allow_44 : decode cX13_allow 44 = .ok (.ixor, 1) := dk_130 (dk_at dksX13_allow_1 20 rfl rfl)
theorem dX13_allow_45 : decode cX13_allow 45 = .ok (.iand, 1) := dk_126 (dk_at dksX13_allow_1 21 rfl rfl)
theorem dX13_allow_46 : decode cX13_allow 46 = .ok (.iload_n 2, 1) := dk_28 (dk_at dksX13_allow_1 22 rfl rfl)
theorem dX13_allow_47 : decode cX13_allow 47 = .ok (.iload_n 1, 1) := dk_27 (dk_at dksX13_allow_1 23 rfl rfl)
theorem dX13_allow_48 : decode cX13_allow 48 = .ok (.ishl, 1) := dk_120 (dk_at dksX13_allow_2 0 rfl rfl)
theorem dX13_allow_49 : decode cX13_allow 49 = .ok (.ior, 1) := dk_128 (dk_at dksX13_allow_2 1 rfl rfl)
theorem dX13_allow_50 : decode cX13_allow 50 = .ok (.iastore, 1) := dk_79 (dk_at dksX13_allow_2 2 rfl rfl)
theorem dX13_allow_51 : decode cX13_allow 51 = .ok (.aload_n 0, 1) := dk_42 (dk_at dksX13_allow_2 3 rfl rfl)
theorem dX13_allow_52 : decode cX13_allow 52 = .ok (.getfield 7, 3) := dk_180 0 7 (dk_at dksX13_allow_2 4 rfl rfl)
theorem dX13_allow_55 : decode cX13_allow 55 = .ok (.iconst 2, 1) := dk_5 (dk_at dksX13_allow_2 7 rfl rfl)
theorem dX13_allow_56 : decode cX13_allow 56 = .ok (.iaload, 1) := dk_46 (dk_at dksX13_allow_2 8 rfl rfl)
theorem dX13_allow_57 : decode cX13_allow 57 = .ok (.invokestatic 142, 3) := dk_184 0 142 (dk_at dksX13_allow_2 9 rfl rfl)
theorem dX13_allow_60 : decode cX13_allow 60 = .ok (.ireturn, 1) := dk_172 (dk_at dksX13_allow_2 12 rfl rfl)
abbrev cX13_setCost : ByteArray := prog_28_method_74_code
def yX13_setCost : MethodName := ⟨RX13, "setCost", "(II)I"⟩
def dkwX13_setCost_2 : List UInt8 := [29, 172]
abbrev dktX13_setCost_2 : List UInt8 := dkwX13_setCost_2 ++ []
def dkwX13_setCost_1 : List UInt8 := [2, 172, 42, 182, 0, 102, 42, 180, 0, 7, 6, 27, 96, 46, 62, 42, 180, 0, 7, 6, 27, 96, 28, 79]
abbrev dktX13_setCost_1 : List UInt8 := dkwX13_setCost_1 ++ dktX13_setCost_2
def dkwX13_setCost_0 : List UInt8 := [42, 3, 181, 0, 43, 27, 3, 7, 184, 0, 65, 153, 0, 13, 28, 4, 16, 9, 184, 0, 65, 154, 0, 5]
abbrev dktX13_setCost_0 : List UInt8 := dkwX13_setCost_0 ++ dktX13_setCost_1
theorem dksX13_setCost_0 : cX13_setCost.data.toList.drop 0 = dktX13_setCost_0 := by decide +kernel
theorem dksX13_setCost_1 : cX13_setCost.data.toList.drop 24 = dktX13_setCost_1 := dk_seg dksX13_setCost_0 24 rfl rfl
theorem dksX13_setCost_2 : cX13_setCost.data.toList.drop 48 = dktX13_setCost_2 := dk_seg dksX13_setCost_1 24 rfl rfl
theorem dX13_setCost_0 : decode cX13_setCost 0 = .ok (.aload_n 0, 1) := dk_42 (dk_at dksX13_setCost_0 0 rfl rfl)
theorem dX13_setCost_1 : decode cX13_setCost 1 = .ok (.iconst 0, 1) := dk_3 (dk_at dksX13_setCost_0 1 rfl rfl)
theorem dX13_setCost_2 : decode cX13_setCost 2 = .ok (.putfield 43, 3) := dk_181 0 43 (dk_at dksX13_setCost_0 2 rfl rfl)
theorem dX13_setCost_5 : decode cX13_setCost 5 = .ok (.iload_n 1, 1) := dk_27 (dk_at dksX13_setCost_0 5 rfl rfl)
theorem dX13_setCost_6 : decode cX13_setCost 6 = .ok (.iconst 0, 1) := dk_3 (dk_at dksX13_setCost_0 6 rfl rfl)
theorem dX13_setCost_7 : decode cX13_setCost 7 = .ok (.iconst 4, 1) := dk_7 (dk_at dksX13_setCost_0 7 rfl rfl)
theorem dX13_setCost_8 : decode cX13_setCost 8 = .ok (.invokestatic 65, 3) := dk_184 0 65 (dk_at dksX13_setCost_0 8 rfl rfl)
theorem dX13_setCost_11 : decode cX13_setCost 11 = .ok (.ifCond .eq 13, 3) := dk_153 0 13 (dk_at dksX13_setCost_0 11 rfl rfl)
theorem dX13_setCost_14 : decode cX13_setCost 14 = .ok (.iload_n 2, 1) := dk_28 (dk_at dksX13_setCost_0 14 rfl rfl)
theorem dX13_setCost_15 : decode cX13_setCost 15 = .ok (.iconst 1, 1) := dk_4 (dk_at dksX13_setCost_0 15 rfl rfl)
theorem dX13_setCost_16 : decode cX13_setCost 16 = .ok (.bipush 9, 2) := dk_16 9 (dk_at dksX13_setCost_0 16 rfl rfl)
theorem dX13_setCost_18 : decode cX13_setCost 18 = .ok (.invokestatic 65, 3) := dk_184 0 65 (dk_at dksX13_setCost_0 18 rfl rfl)
theorem dX13_setCost_21 : decode cX13_setCost 21 = .ok (.ifCond .ne 5, 3) := dk_154 0 5 (dk_at dksX13_setCost_0 21 rfl rfl)
theorem dX13_setCost_24 : decode cX13_setCost 24 = .ok (.iconst (-1), 1) := dk_2 (dk_at dksX13_setCost_1 0 rfl rfl)
theorem dX13_setCost_25 : decode cX13_setCost 25 = .ok (.ireturn, 1) := dk_172 (dk_at dksX13_setCost_1 1 rfl rfl)
theorem dX13_setCost_26 : decode cX13_setCost 26 = .ok (.aload_n 0, 1) := dk_42 (dk_at dksX13_setCost_1 2 rfl rfl)
theorem dX13_setCost_27 : decode cX13_setCost 27 = .ok (.invokevirtual 102, 3) := dk_182 0 102 (dk_at dksX13_setCost_1 3 rfl rfl)
theorem dX13_setCost_30 : decode cX13_setCost 30 = .ok (.aload_n 0, 1) := dk_42 (dk_at dksX13_setCost_1 6 rfl rfl)
theorem dX13_setCost_31 : decode cX13_setCost 31 = .ok (.getfield 7, 3) := dk_180 0 7 (dk_at dksX13_setCost_1 7 rfl rfl)
theorem dX13_setCost_34 : decode cX13_setCost 34 = .ok (.iconst 3, 1) := dk_6 (dk_at dksX13_setCost_1 10 rfl rfl)
theorem dX13_setCost_35 : decode cX13_setCost 35 = .ok (.iload_n 1, 1) := dk_27 (dk_at dksX13_setCost_1 11 rfl rfl)
theorem dX13_setCost_36 : decode cX13_setCost 36 = .ok (.iadd, 1) := dk_96 (dk_at dksX13_setCost_1 12 rfl rfl)
theorem dX13_setCost_37 : decode cX13_setCost 37 = .ok (.iaload, 1) := dk_46 (dk_at dksX13_setCost_1 13 rfl rfl)
theorem dX13_setCost_38 : decode cX13_setCost 38 = .ok (.istore_n 3, 1) := dk_62 (dk_at dksX13_setCost_1 14 rfl rfl)
theorem dX13_setCost_39 : decode cX13_setCost 39 = .ok (.aload_n 0, 1) := dk_42 (dk_at dksX13_setCost_1 15 rfl rfl)
theorem dX13_setCost_40 : decode cX13_setCost 40 = .ok (.getfield 7, 3) := dk_180 0 7 (dk_at dksX13_setCost_1 16 rfl rfl)
theorem dX13_setCost_43 : decode cX13_setCost 43 = .ok (.iconst 3, 1) := dk_6 (dk_at dksX13_setCost_1 19 rfl rfl)
theorem dX13_setCost_44 : decode cX13_setCost 44 = .ok (.iload_n 1, 1) := dk_27 (dk_at dksX13_setCost_1 20 rfl rfl)
theorem dX13_setCost_45 : decode cX13_setCost 45 = .ok (.iadd, 1) := dk_96 (dk_at dksX13_setCost_1 21 rfl rfl)
theorem dX13_setCost_46 : decode cX13_setCost 46 = .ok (.iload_n 2, 1) := dk_28 (dk_at dksX13_setCost_1 22 rfl rfl)
theorem dX13_setCost_47 : decode cX13_setCost 47 = .ok (.iastore, 1) := dk_79 (dk_at dksX13_setCost_1 23 rfl rfl)
theorem dX13_setCost_48 : decode cX13_setCost 48 = .ok (.iload_n 3, 1) := dk_29 (dk_at dksX13_setCost_2 0 rfl rfl)
theorem dX13_setCost_49 : decode cX13_setCost 49 = .ok (.ireturn, 1) := dk_172 (dk_at dksX13_setCost_2 1 rfl rfl)
abbrev cX13_strike : ByteArray := prog_28_method_76_code
def yX13_strike : MethodName := ⟨RX13, "strike", "(II)I"⟩
def dkwX13_strike_2 : List UInt8 := [96, 92, 46, 4, 28, 120, 2, 130, 126, 79, 29, 172]
abbrev dktX13_strike_2 : List UInt8 := dkwX13_strike_2 ++ []
def dkwX13_strike_1 : List UInt8 := [182, 0, 240, 62, 29, 16, 157, 160, 0, 6, 16, 254, 172, 42, 182, 0, 102, 42, 180, 0, 7, 16, 93, 27]
abbrev dktX13_strike_1 : List UInt8 := dkwX13_strike_1 ++ dktX13_strike_2
def dkwX13_strike_0 : List UInt8 := [42, 3, 181, 0, 43, 42, 27, 28, 182, 0, 234, 154, 0, 5, 2, 172, 42, 182, 0, 237, 42, 27, 28]
abbrev dktX13_strike_0 : List UInt8 := dkwX13_strike_0 ++ dktX13_strike_1
theorem dksX13_strike_0 : cX13_strike.data.toList.drop 0 = dktX13_strike_0 := by decide +kernel
theorem dksX13_strike_1 : cX13_strike.data.toList.drop 23 = dktX13_strike_1 := dk_seg dksX13_strike_0 23 rfl rfl
theorem dksX13_strike_2 : cX13_strike.data.toList.drop 47 = dktX13_strike_2 := dk_seg dksX13_strike_1 24 rfl rfl
theorem dX13_strike_0 : decode cX13_strike 0 = .ok (.aload_n 0, 1) := dk_42 (dk_at dksX13_strike_0 0 rfl rfl)
theorem dX13_strike_1 : decode cX13_strike 1 = .ok (.iconst 0, 1) := dk_3 (dk_at dksX13_strike_0 1 rfl rfl)
theorem dX13_strike_2 : decode cX13_strike 2 = .ok (.putfield 43, 3) := dk_181 0 43 (dk_at dksX13_strike_0 2 rfl rfl)
theorem dX13_strike_5 : decode cX13_strike 5 = .ok (.aload_n 0, 1) := dk_42 (dk_at dksX13_strike_0 5 rfl rfl)
theorem dX13_strike_6 : decode cX13_strike 6 = .ok (.iload_n 1, 1) := dk_27 (dk_at dksX13_strike_0 6 rfl rfl)
theorem dX13_strike_7 : decode cX13_strike 7 = .ok (.iload_n 2, 1) := dk_28 (dk_at dksX13_strike_0 7 rfl rfl)
theorem dX13_strike_8 : decode cX13_strike 8 = .ok (.invokevirtual 234, 3) := dk_182 0 234 (dk_at dksX13_strike_0 8 rfl rfl)
theorem dX13_strike_11 : decode cX13_strike 11 = .ok (.ifCond .ne 5, 3) := dk_154 0 5 (dk_at dksX13_strike_0 11 rfl rfl)
theorem dX13_strike_14 : decode cX13_strike 14 = .ok (.iconst (-1), 1) := dk_2 (dk_at dksX13_strike_0 14 rfl rfl)
theorem dX13_strike_15 : decode cX13_strike 15 = .ok (.ireturn, 1) := dk_172 (dk_at dksX13_strike_0 15 rfl rfl)
theorem dX13_strike_16 : decode cX13_strike 16 = .ok (.aload_n 0, 1) := dk_42 (dk_at dksX13_strike_0 16 rfl rfl)
theorem dX13_strike_17 : decode cX13_strike 17 = .ok (.invokevirtual 237, 3) := dk_182 0 237 (dk_at dksX13_strike_0 17 rfl rfl)
theorem dX13_strike_20 : decode cX13_strike 20 = .ok (.aload_n 0, 1) := dk_42 (dk_at dksX13_strike_0 20 rfl rfl)
theorem dX13_strike_21 : decode cX13_strike 21 = .ok (.iload_n 1, 1) := dk_27 (dk_at dksX13_strike_0 21 rfl rfl)
theorem dX13_strike_22 : decode cX13_strike 22 = .ok (.iload_n 2, 1) := dk_28 (dk_at dksX13_strike_0 22 rfl rfl)
theorem dX13_strike_23 : decode cX13_strike 23 = .ok (.invokevirtual 240, 3) := dk_182 0 240 (dk_at dksX13_strike_1 0 rfl rfl)
theorem dX13_strike_26 : decode cX13_strike 26 = .ok (.istore_n 3, 1) := dk_62 (dk_at dksX13_strike_1 3 rfl rfl)
theorem dX13_strike_27 : decode cX13_strike 27 = .ok (.iload_n 3, 1) := dk_29 (dk_at dksX13_strike_1 4 rfl rfl)
theorem dX13_strike_28 : decode cX13_strike 28 = .ok (.bipush (-99), 2) := dk_16 157 (dk_at dksX13_strike_1 5 rfl rfl)
theorem dX13_strike_30 : decode cX13_strike 30 = .ok (.if_icmp .ne 6, 3) := dk_160 0 6 (dk_at dksX13_strike_1 7 rfl rfl)
theorem dX13_strike_33 : decode cX13_strike 33 = .ok (.bipush (-2), 2) := dk_16 254 (dk_at dksX13_strike_1 10 rfl rfl)
theorem dX13_strike_35 : decode cX13_strike 35 = .ok (.ireturn, 1) := dk_172 (dk_at dksX13_strike_1 12 rfl rfl)
theorem dX13_strike_36 : decode cX13_strike 36 = .ok (.aload_n 0, 1) := dk_42 (dk_at dksX13_strike_1 13 rfl rfl)
theorem dX13_strike_37 : decode cX13_strike 37 = .ok (.invokevirtual 102, 3) := dk_182 0 102 (dk_at dksX13_strike_1 14 rfl rfl)
theorem dX13_strike_40 : decode cX13_strike 40 = .ok (.aload_n 0, 1) := dk_42 (dk_at dksX13_strike_1 17 rfl rfl)
theorem dX13_strike_41 : decode cX13_strike 41 = .ok (.getfield 7, 3) := dk_180 0 7 (dk_at dksX13_strike_1 18 rfl rfl)
theorem dX13_strike_44 : decode cX13_strike 44 = .ok (.bipush 93, 2) := dk_16 93 (dk_at dksX13_strike_1 21 rfl rfl)
theorem dX13_strike_46 : decode cX13_strike 46 = .ok (.iload_n 1, 1) := dk_27 (dk_at dksX13_strike_1 23 rfl rfl)
theorem dX13_strike_47 : decode cX13_strike 47 = .ok (.iadd, 1) := dk_96 (dk_at dksX13_strike_2 0 rfl rfl)
theorem dX13_strike_48 : decode cX13_strike 48 = .ok (.dup2, 1) := dk_92 (dk_at dksX13_strike_2 1 rfl rfl)
theorem dX13_strike_49 : decode cX13_strike 49 = .ok (.iaload, 1) := dk_46 (dk_at dksX13_strike_2 2 rfl rfl)
theorem dX13_strike_50 : decode cX13_strike 50 = .ok (.iconst 1, 1) := dk_4 (dk_at dksX13_strike_2 3 rfl rfl)
theorem dX13_strike_51 : decode cX13_strike 51 = .ok (.iload_n 2, 1) := dk_28 (dk_at dksX13_strike_2 4 rfl rfl)
theorem dX13_strike_52 : decode cX13_strike 52 = .ok (.ishl, 1) := dk_120 (dk_at dksX13_strike_2 5 rfl rfl)
theorem dX13_strike_53 : decode cX13_strike 53 = .ok (.iconst (-1), 1) := dk_2 (dk_at dksX13_strike_2 6 rfl rfl)
theorem dX13_strike_54 : decode cX13_strike 54 = .ok (.ixor, 1) := dk_130 (dk_at dksX13_strike_2 7 rfl rfl)
theorem dX13_strike_55 : decode cX13_strike 55 = .ok (.iand, 1) := dk_126 (dk_at dksX13_strike_2 8 rfl rfl)
theorem dX13_strike_56 : decode cX13_strike 56 = .ok (.iastore, 1) := dk_79 (dk_at dksX13_strike_2 9 rfl rfl)
theorem dX13_strike_57 : decode cX13_strike 57 = .ok (.iload_n 3, 1) := dk_29 (dk_at dksX13_strike_2 10 rfl rfl)
theorem dX13_strike_58 : decode cX13_strike 58 = .ok (.ireturn, 1) := dk_172 (dk_at dksX13_strike_2 11 rfl rfl)
abbrev cX13_isNumber : ByteArray := prog_28_method_75_code
def yX13_isNumber : MethodName := ⟨RX13, "isNumber", "(II)Z"⟩
def dkwX13_isNumber_1 : List UInt8 := [167, 0, 4, 3, 172]
abbrev dktX13_isNumber_1 : List UInt8 := dkwX13_isNumber_1 ++ []
def dkwX13_isNumber_0 : List UInt8 := [42, 27, 182, 0, 108, 153, 0, 20, 28, 4, 42, 27, 182, 0, 121, 184, 0, 65, 153, 0, 7, 4]
abbrev dktX13_isNumber_0 : List UInt8 := dkwX13_isNumber_0 ++ dktX13_isNumber_1
theorem dksX13_isNumber_0 : cX13_isNumber.data.toList.drop 0 = dktX13_isNumber_0 := by decide +kernel
theorem dksX13_isNumber_1 : cX13_isNumber.data.toList.drop 22 = dktX13_isNumber_1 := dk_seg dksX13_isNumber_0 22 rfl rfl
theorem dX13_isNumber_0 : decode cX13_isNumber 0 = .ok (.aload_n 0, 1) := dk_42 (dk_at dksX13_isNumber_0 0 rfl rfl)
theorem dX13_isNumber_1 : decode cX13_isNumber 1 = .ok (.iload_n 1, 1) := dk_27 (dk_at dksX13_isNumber_0 1 rfl rfl)
theorem dX13_isNumber_2 : decode cX13_isNumber 2 = .ok (.invokevirtual 108, 3) := dk_182 0 108 (dk_at dksX13_isNumber_0 2 rfl rfl)
theorem dX13_isNumber_5 : decode cX13_isNumber 5 = .ok (.ifCond .eq 20, 3) := dk_153 0 20 (dk_at dksX13_isNumber_0 5 rfl rfl)
theorem dX13_isNumber_8 : decode cX13_isNumber 8 = .ok (.iload_n 2, 1) := dk_28 (dk_at dksX13_isNumber_0 8 rfl rfl)
theorem dX13_isNumber_9 : decode cX13_isNumber 9 = .ok (.iconst 1, 1) := dk_4 (dk_at dksX13_isNumber_0 9 rfl rfl)
theorem dX13_isNumber_10 : decode cX13_isNumber 10 = .ok (.aload_n 0, 1) := dk_42 (dk_at dksX13_isNumber_0 10 rfl rfl)
theorem dX13_isNumber_11 : decode cX13_isNumber 11 = .ok (.iload_n 1, 1) := dk_27 (dk_at dksX13_isNumber_0 11 rfl rfl)
theorem dX13_isNumber_12 : decode cX13_isNumber 12 = .ok (.invokevirtual 121, 3) := dk_182 0 121 (dk_at dksX13_isNumber_0 12 rfl rfl)
theorem dX13_isNumber_15 : decode cX13_isNumber 15 = .ok (.invokestatic 65, 3) := dk_184 0 65 (dk_at dksX13_isNumber_0 15 rfl rfl)
theorem dX13_isNumber_18 : decode cX13_isNumber 18 = .ok (.ifCond .eq 7, 3) := dk_153 0 7 (dk_at dksX13_isNumber_0 18 rfl rfl)
theorem dX13_isNumber_21 : decode cX13_isNumber 21 = .ok (.iconst 1, 1) := dk_4 (dk_at dksX13_isNumber_0 21 rfl rfl)
theorem dX13_isNumber_22 : decode cX13_isNumber 22 = .ok (.goto 4, 3) := dk_167 0 4 (dk_at dksX13_isNumber_1 0 rfl rfl)
theorem dX13_isNumber_25 : decode cX13_isNumber 25 = .ok (.iconst 0, 1) := dk_3 (dk_at dksX13_isNumber_1 3 rfl rfl)
theorem dX13_isNumber_26 : decode cX13_isNumber 26 = .ok (.ireturn, 1) := dk_172 (dk_at dksX13_isNumber_1 4 rfl rfl)
abbrev cX13_layPlayers : ByteArray := prog_28_method_47_code
def yX13_layPlayers : MethodName := ⟨RX13, "layPlayers", "()V"⟩
def dkwX13_layPlayers_1 : List UInt8 := [79, 132, 1, 1, 167, 255, 230, 177]
abbrev dktX13_layPlayers_1 : List UInt8 := dkwX13_layPlayers_1 ++ []
def dkwX13_layPlayers_0 : List UInt8 := [3, 60, 27, 42, 182, 0, 61, 162, 0, 24, 42, 180, 0, 22, 27, 42, 180, 0, 7, 16, 93, 27, 96, 46]
abbrev dktX13_layPlayers_0 : List UInt8 := dkwX13_layPlayers_0 ++ dktX13_layPlayers_1
theorem dksX13_layPlayers_0 : cX13_layPlayers.data.toList.drop 0 = dktX13_layPlayers_0 := by decide +kernel
theorem dksX13_layPlayers_1 : cX13_layPlayers.data.toList.drop 24 = dktX13_layPlayers_1 := dk_seg dksX13_layPlayers_0 24 rfl rfl
theorem dX13_layPlayers_0 : decode cX13_layPlayers 0 = .ok (.iconst 0, 1) := dk_3 (dk_at dksX13_layPlayers_0 0 rfl rfl)
theorem dX13_layPlayers_1 : decode cX13_layPlayers 1 = .ok (.istore_n 1, 1) := dk_60 (dk_at dksX13_layPlayers_0 1 rfl rfl)
theorem dX13_layPlayers_2 : decode cX13_layPlayers 2 = .ok (.iload_n 1, 1) := dk_27 (dk_at dksX13_layPlayers_0 2 rfl rfl)
theorem dX13_layPlayers_3 : decode cX13_layPlayers 3 = .ok (.aload_n 0, 1) := dk_42 (dk_at dksX13_layPlayers_0 3 rfl rfl)
theorem dX13_layPlayers_4 : decode cX13_layPlayers 4 = .ok (.invokevirtual 61, 3) := dk_182 0 61 (dk_at dksX13_layPlayers_0 4 rfl rfl)
theorem dX13_layPlayers_7 : decode cX13_layPlayers 7 = .ok (.if_icmp .ge 24, 3) := dk_162 0 24 (dk_at dksX13_layPlayers_0 7 rfl rfl)
theorem dX13_layPlayers_10 : decode cX13_layPlayers 10 = .ok (.aload_n 0, 1) := dk_42 (dk_at dksX13_layPlayers_0 10 rfl rfl)
theorem dX13_layPlayers_11 : decode cX13_layPlayers 11 = .ok (.getfield 22, 3) := dk_180 0 22 (dk_at dksX13_layPlayers_0 11 rfl rfl)
theorem dX13_layPlayers_14 : decode cX13_layPlayers 14 = .ok (.iload_n 1, 1) := dk_27 (dk_at dksX13_layPlayers_0 14 rfl rfl)
theorem dX13_layPlayers_15 : decode cX13_layPlayers 15 = .ok (.aload_n 0, 1) := dk_42 (dk_at dksX13_layPlayers_0 15 rfl rfl)
theorem dX13_layPlayers_16 : decode cX13_layPlayers 16 = .ok (.getfield 7, 3) := dk_180 0 7 (dk_at dksX13_layPlayers_0 16 rfl rfl)
theorem dX13_layPlayers_19 : decode cX13_layPlayers 19 = .ok (.bipush 93, 2) := dk_16 93 (dk_at dksX13_layPlayers_0 19 rfl rfl)
theorem dX13_layPlayers_21 : decode cX13_layPlayers 21 = .ok (.iload_n 1, 1) := dk_27 (dk_at dksX13_layPlayers_0 21 rfl rfl)
theorem dX13_layPlayers_22 : decode cX13_layPlayers 22 = .ok (.iadd, 1) := dk_96 (dk_at dksX13_layPlayers_0 22 rfl rfl)
theorem dX13_layPlayers_23 : decode cX13_layPlayers 23 = .ok (.iaload, 1) := dk_46 (dk_at dksX13_layPlayers_0 23 rfl rfl)
theorem dX13_layPlayers_24 : decode cX13_layPlayers 24 = .ok (.iastore, 1) := dk_79 (dk_at dksX13_layPlayers_1 0 rfl rfl)
theorem dX13_layPlayers_25 : decode cX13_layPlayers 25 = .ok (.iinc 1 1, 3) := dk_132 1 1 (dk_at dksX13_layPlayers_1 1 rfl rfl)
theorem dX13_layPlayers_28 : decode cX13_layPlayers 28 = .ok (.goto (-26), 3) := dk_167 255 230 (dk_at dksX13_layPlayers_1 4 rfl rfl)
theorem dX13_layPlayers_31 : decode cX13_layPlayers 31 = .ok (.return_, 1) := dk_177 (dk_at dksX13_layPlayers_1 7 rfl rfl)
abbrev cX13_strikerOf : ByteArray := prog_28_method_66_code
def yX13_strikerOf : MethodName := ⟨RX13, "strikerOf", "(II)I"⟩
def dkwX13_strikerOf_3 : List UInt8 := [132, 3, 1, 167, 255, 186, 16, 157, 172]
abbrev dktX13_strikerOf_3 : List UInt8 := dkwX13_strikerOf_3 ++ []
def dkwX13_strikerOf_2 : List UInt8 := [167, 0, 5, 16, 157, 54, 4, 21, 4, 16, 157, 159, 0, 11, 42, 21, 4, 181, 0, 195, 29, 172]
abbrev dktX13_strikerOf_2 : List UInt8 := dkwX13_strikerOf_2 ++ dktX13_strikerOf_3
def dkwX13_strikerOf_1 : List UInt8 := [154, 0, 51, 42, 180, 0, 7, 5, 46, 29, 184, 0, 54, 153, 0, 13, 42, 29, 27, 28, 182, 0, 183]
abbrev dktX13_strikerOf_1 : List UInt8 := dkwX13_strikerOf_1 ++ dktX13_strikerOf_2
def dkwX13_strikerOf_0 : List UInt8 := [3, 62, 29, 8, 162, 0, 71, 42, 180, 0, 22, 27, 46, 28, 184, 0, 54, 153, 0, 58, 42, 182, 0, 145]
abbrev dktX13_strikerOf_0 : List UInt8 := dkwX13_strikerOf_0 ++ dktX13_strikerOf_1
theorem dksX13_strikerOf_0 : cX13_strikerOf.data.toList.drop 0 = dktX13_strikerOf_0 := by decide +kernel
theorem dksX13_strikerOf_1 : cX13_strikerOf.data.toList.drop 24 = dktX13_strikerOf_1 := dk_seg dksX13_strikerOf_0 24 rfl rfl
theorem dksX13_strikerOf_2 : cX13_strikerOf.data.toList.drop 47 = dktX13_strikerOf_2 := dk_seg dksX13_strikerOf_1 23 rfl rfl
theorem dksX13_strikerOf_3 : cX13_strikerOf.data.toList.drop 69 = dktX13_strikerOf_3 := dk_seg dksX13_strikerOf_2 22 rfl rfl
theorem dX13_strikerOf_0 : decode cX13_strikerOf 0 = .ok (.iconst 0, 1) := dk_3 (dk_at dksX13_strikerOf_0 0 rfl rfl)
theorem dX13_strikerOf_1 : decode cX13_strikerOf 1 = .ok (.istore_n 3, 1) := dk_62 (dk_at dksX13_strikerOf_0 1 rfl rfl)
theorem dX13_strikerOf_2 : decode cX13_strikerOf 2 = .ok (.iload_n 3, 1) := dk_29 (dk_at dksX13_strikerOf_0 2 rfl rfl)
theorem dX13_strikerOf_3 : decode cX13_strikerOf 3 = .ok (.iconst 5, 1) := dk_8 (dk_at dksX13_strikerOf_0 3 rfl rfl)
theorem dX13_strikerOf_4 : decode cX13_strikerOf 4 = .ok (.if_icmp .ge 71, 3) := dk_162 0 71 (dk_at dksX13_strikerOf_0 4 rfl rfl)
theorem dX13_strikerOf_7 : decode cX13_strikerOf 7 = .ok (.aload_n 0, 1) := dk_42 (dk_at dksX13_strikerOf_0 7 rfl rfl)
theorem dX13_strikerOf_8 : decode cX13_strikerOf 8 = .ok (.getfield 22, 3) := dk_180 0 22 (dk_at dksX13_strikerOf_0 8 rfl rfl)
theorem dX13_strikerOf_11 : decode cX13_strikerOf 11 = .ok (.iload_n 1, 1) := dk_27 (dk_at dksX13_strikerOf_0 11 rfl rfl)
theorem dX13_strikerOf_12 : decode cX13_strikerOf 12 = .ok (.iaload, 1) := dk_46 (dk_at dksX13_strikerOf_0 12 rfl rfl)
theorem dX13_strikerOf_13 : decode cX13_strikerOf 13 = .ok (.iload_n 2, 1) := dk_28 (dk_at dksX13_strikerOf_0 13 rfl rfl)
theorem dX13_strikerOf_14 : decode cX13_strikerOf 14 = .ok (.invokestatic 54, 3) := dk_184 0 54 (dk_at dksX13_strikerOf_0 14 rfl rfl)
theorem dX13_strikerOf_17 : decode cX13_strikerOf 17 = .ok (.ifCond .eq 58, 3) := dk_153 0 58 (dk_at dksX13_strikerOf_0 17 rfl rfl)
theorem dX13_strikerOf_20 : decode cX13_strikerOf 20 = .ok (.aload_n 0, 1) := dk_42 (dk_at dksX13_strikerOf_0 20 rfl rfl)
theorem dX13_strikerOf_21 : decode cX13_strikerOf 21 = .ok (.invokevirtual 145, 3) := dk_182 0 145 (dk_at dksX13_strikerOf_0 21 rfl rfl)
theorem dX13_strikerOf_24 : decode cX13_strikerOf 24 = .ok (.ifCond .ne 51, 3) := dk_154 0 51 (dk_at dksX13_strikerOf_1 0 rfl rfl)
theorem dX13_strikerOf_27 : decode cX13_strikerOf 27 = .ok (.aload_n 0, 1) := dk_42 (dk_at dksX13_strikerOf_1 3 rfl rfl)
theorem dX13_strikerOf_28 : decode cX13_strikerOf 28 = .ok (.getfield 7, 3) := dk_180 0 7 (dk_at dksX13_strikerOf_1 4 rfl rfl)
theorem dX13_strikerOf_31 : decode cX13_strikerOf 31 = .ok (.iconst 2, 1) := dk_5 (dk_at dksX13_strikerOf_1 7 rfl rfl)
theorem dX13_strikerOf_32 : decode cX13_strikerOf 32 = .ok (.iaload, 1) := dk_46 (dk_at dksX13_strikerOf_1 8 rfl rfl)
theorem dX13_strikerOf_33 : decode cX13_strikerOf 33 = .ok (.iload_n 3, 1) := dk_29 (dk_at dksX13_strikerOf_1 9 rfl rfl)
theorem dX13_strikerOf_34 : decode cX13_strikerOf 34 = .ok (.invokestatic 54, 3) := dk_184 0 54 (dk_at dksX13_strikerOf_1 10 rfl rfl)
theorem dX13_strikerOf_37 : decode cX13_strikerOf 37 = .ok (.ifCond .eq 13, 3) := dk_153 0 13 (dk_at dksX13_strikerOf_1 13 rfl rfl)
theorem dX13_strikerOf_40 : decode cX13_strikerOf 40 = .ok (.aload_n 0, 1) := dk_42 (dk_at dksX13_strikerOf_1 16 rfl rfl)
theorem dX13_strikerOf_41 : decode cX13_strikerOf 41 = .ok (.iload_n 3, 1) := dk_29 (dk_at dksX13_strikerOf_1 17 rfl rfl)
theorem dX13_strikerOf_42 : decode cX13_strikerOf 42 = .ok (.iload_n 1, 1) := dk_27 (dk_at dksX13_strikerOf_1 18 rfl rfl)
theorem dX13_strikerOf_43 : decode cX13_strikerOf 43 = .ok (.iload_n 2, 1) := dk_28 (dk_at dksX13_strikerOf_1 19 rfl rfl)
theorem dX13_strikerOf_44 : decode cX13_strikerOf 44 = .ok (.invokevirtual 183, 3) := dk_182 0 183 (dk_at dksX13_strikerOf_1 20 rfl rfl)
theorem dX13_strikerOf_47 : decode cX13_strikerOf 47 = .ok (.goto 5, 3) := dk_167 0 5 (dk_at dksX13_strikerOf_2 0 rfl rfl)
theorem dX13_strikerOf_50 : decode cX13_strikerOf 50 = .ok (.bipush (-99), 2) := dk_16 157 (dk_at dksX13_strikerOf_2 3 rfl rfl)
theorem dX13_strikerOf_52 : decode cX13_strikerOf 52 = .ok (.istore 4, 2) := dk_54 4 (dk_at dksX13_strikerOf_2 5 rfl rfl)
theorem dX13_strikerOf_54 : decode cX13_strikerOf 54 = .ok (.iload 4, 2) := dk_21 4 (dk_at dksX13_strikerOf_2 7 rfl rfl)
theorem dX13_strikerOf_56 : decode cX13_strikerOf 56 = .ok (.bipush (-99), 2) := dk_16 157 (dk_at dksX13_strikerOf_2 9 rfl rfl)
theorem dX13_strikerOf_58 : decode cX13_strikerOf 58 = .ok (.if_icmp .eq 11, 3) := dk_159 0 11 (dk_at dksX13_strikerOf_2 11 rfl rfl)
theorem dX13_strikerOf_61 : decode cX13_strikerOf 61 = .ok (.aload_n 0, 1) := dk_42 (dk_at dksX13_strikerOf_2 14 rfl rfl)
theorem dX13_strikerOf_62 : decode cX13_strikerOf 62 = .ok (.iload 4, 2) := dk_21 4 (dk_at dksX13_strikerOf_2 15 rfl rfl)
theorem dX13_strikerOf_64 : decode cX13_strikerOf 64 = .ok (.putfield 195, 3) := dk_181 0 195 (dk_at dksX13_strikerOf_2 17 rfl rfl)
theorem dX13_strikerOf_67 : decode cX13_strikerOf 67 = .ok (.iload_n 3, 1) := dk_29 (dk_at dksX13_strikerOf_2 20 rfl rfl)
theorem dX13_strikerOf_68 : decode cX13_strikerOf 68 = .ok (.ireturn, 1) := dk_172 (dk_at dksX13_strikerOf_2 21 rfl rfl)
theorem dX13_strikerOf_69 : decode cX13_strikerOf 69 = .ok (.iinc 3 1, 3) := dk_132 3 1 (dk_at dksX13_strikerOf_3 0 rfl rfl)
theorem dX13_strikerOf_72 : decode cX13_strikerOf 72 = .ok (.goto (-70), 3) := dk_167 255 186 (dk_at dksX13_strikerOf_3 3 rfl rfl)
theorem dX13_strikerOf_75 : decode cX13_strikerOf 75 = .ok (.bipush (-99), 2) := dk_16 157 (dk_at dksX13_strikerOf_3 6 rfl rfl)
theorem dX13_strikerOf_77 : decode cX13_strikerOf 77 = .ok (.ireturn, 1) := dk_172 (dk_at dksX13_strikerOf_3 8 rfl rfl)
abbrev cX13_advance : ByteArray := prog_28_method_77_code
def yX13_advance : MethodName := ⟨RX13, "advance", "(I)I"⟩
def dkwX13_advance_4 : List UInt8 := [180, 0, 22, 42, 180, 0, 189, 46, 79, 132, 2, 1, 167, 255, 194, 28, 172]
abbrev dktX13_advance_4 : List UInt8 := dkwX13_advance_4 ++ []
def dkwX13_advance_3 : List UInt8 := [92, 46, 4, 42, 180, 0, 192, 120, 2, 130, 126, 79, 42, 180, 0, 7, 16, 93, 42, 180, 0, 189, 96, 42]
abbrev dktX13_advance_3 : List UInt8 := dkwX13_advance_3 ++ dktX13_advance_4
def dkwX13_advance_2 : List UInt8 := [162, 0, 63, 42, 42, 180, 0, 7, 5, 46, 182, 0, 201, 153, 0, 50, 42, 180, 0, 22, 42, 180, 0, 189]
abbrev dktX13_advance_2 : List UInt8 := dkwX13_advance_2 ++ dktX13_advance_3
def dkwX13_advance_1 : List UInt8 := [180, 0, 7, 5, 46, 182, 0, 201, 154, 0, 6, 16, 254, 172, 42, 182, 0, 102, 3, 61, 28, 27]
abbrev dktX13_advance_1 : List UInt8 := dkwX13_advance_1 ++ dktX13_advance_2
def dkwX13_advance_0 : List UInt8 := [42, 3, 181, 0, 43, 27, 4, 16, 99, 184, 0, 65, 154, 0, 5, 2, 172, 42, 182, 0, 237, 42, 42]
abbrev dktX13_advance_0 : List UInt8 := dkwX13_advance_0 ++ dktX13_advance_1
theorem dksX13_advance_0 : cX13_advance.data.toList.drop 0 = dktX13_advance_0 := by decide +kernel
theorem dksX13_advance_1 : cX13_advance.data.toList.drop 23 = dktX13_advance_1 := dk_seg dksX13_advance_0 23 rfl rfl
theorem dksX13_advance_2 : cX13_advance.data.toList.drop 45 = dktX13_advance_2 := dk_seg dksX13_advance_1 22 rfl rfl
theorem dksX13_advance_3 : cX13_advance.data.toList.drop 69 = dktX13_advance_3 := dk_seg dksX13_advance_2 24 rfl rfl
theorem dksX13_advance_4 : cX13_advance.data.toList.drop 93 = dktX13_advance_4 := dk_seg dksX13_advance_3 24 rfl rfl
theorem dX13_advance_0 : decode cX13_advance 0 = .ok (.aload_n 0, 1) := dk_42 (dk_at dksX13_advance_0 0 rfl rfl)
theorem dX13_advance_1 : decode cX13_advance 1 = .ok (.iconst 0, 1) := dk_3 (dk_at dksX13_advance_0 1 rfl rfl)
theorem dX13_advance_2 : decode cX13_advance 2 = .ok (.putfield 43, 3) := dk_181 0 43 (dk_at dksX13_advance_0 2 rfl rfl)
theorem dX13_advance_5 : decode cX13_advance 5 = .ok (.iload_n 1, 1) := dk_27 (dk_at dksX13_advance_0 5 rfl rfl)
theorem dX13_advance_6 : decode cX13_advance 6 = .ok (.iconst 1, 1) := dk_4 (dk_at dksX13_advance_0 6 rfl rfl)
theorem dX13_advance_7 : decode cX13_advance 7 = .ok (.bipush 99, 2) := dk_16 99 (dk_at dksX13_advance_0 7 rfl rfl)
theorem dX13_advance_9 : decode cX13_advance 9 = .ok (.invokestatic 65, 3) := dk_184 0 65 (dk_at dksX13_advance_0 9 rfl rfl)
theorem dX13_advance_12 : decode cX13_advance 12 = .ok (.ifCond .ne 5, 3) := dk_154 0 5 (dk_at dksX13_advance_0 12 rfl rfl)
theorem dX13_advance_15 : decode cX13_advance 15 = .ok (.iconst (-1), 1) := dk_2 (dk_at dksX13_advance_0 15 rfl rfl)
theorem dX13_advance_16 : decode cX13_advance 16 = .ok (.ireturn, 1) := dk_172 (dk_at dksX13_advance_0 16 rfl rfl)
theorem dX13_advance_17 : decode cX13_advance 17 = .ok (.aload_n 0, 1) := dk_42 (dk_at dksX13_advance_0 17 rfl rfl)
theorem dX13_advance_18 : decode cX13_advance 18 = .ok (.invokevirtual 237, 3) := dk_182 0 237 (dk_at dksX13_advance_0 18 rfl rfl)
theorem dX13_advance_21 : decode cX13_advance 21 = .ok (.aload_n 0, 1) := dk_42 (dk_at dksX13_advance_0 21 rfl rfl)
theorem dX13_advance_22 : decode cX13_advance 22 = .ok (.aload_n 0, 1) := dk_42 (dk_at dksX13_advance_0 22 rfl rfl)
theorem dX13_advance_23 : decode cX13_advance 23 = .ok (.getfield 7, 3) := dk_180 0 7 (dk_at dksX13_advance_1 0 rfl rfl)
theorem dX13_advance_26 : decode cX13_advance 26 = .ok (.iconst 2, 1) := dk_5 (dk_at dksX13_advance_1 3 rfl rfl)
theorem dX13_advance_27 : decode cX13_advance 27 = .ok (.iaload, 1) := dk_46 (dk_at dksX13_advance_1 4 rfl rfl)
theorem dX13_advance_28 : decode cX13_advance 28 = .ok (.invokevirtual 201, 3) := dk_182 0 201 (dk_at dksX13_advance_1 5 rfl rfl)
theorem dX13_advance_31 : decode cX13_advance 31 = .ok (.ifCond .ne 6, 3) := dk_154 0 6 (dk_at dksX13_advance_1 8 rfl rfl)
theorem dX13_advance_34 : decode cX13_advance 34 = .ok (.bipush (-2), 2) := dk_16 254 (dk_at dksX13_advance_1 11 rfl rfl)
theorem dX13_advance_36 : decode cX13_advance 36 = .ok (.ireturn, 1) := dk_172 (dk_at dksX13_advance_1 13 rfl rfl)
theorem dX13_advance_37 : decode cX13_advance 37 = .ok (.aload_n 0, 1) := dk_42 (dk_at dksX13_advance_1 14 rfl rfl)
theorem dX13_advance_38 : decode cX13_advance 38 = .ok (.invokevirtual 102, 3) := dk_182 0 102 (dk_at dksX13_advance_1 15 rfl rfl)
theorem dX13_advance_41 : decode cX13_advance 41 = .ok (.iconst 0, 1) := dk_3 (dk_at dksX13_advance_1 18 rfl rfl)
theorem dX13_advance_42 : decode cX13_advance 42 = .ok (.istore_n 2, 1) := dk_61 (dk_at dksX13_advance_1 19 rfl rfl)
theorem dX13_advance_43 : decode cX13_advance 43 = .ok (.iload_n 2, 1) := dk_28 (dk_at dksX13_advance_1 20 rfl rfl)
theorem dX13_advance_44 : decode cX13_advance 44 = .ok (.iload_n 1, 1) := dk_27 (dk_at dksX13_advance_1 21 rfl rfl)
theorem dX13_advance_45 : decode cX13_advance 45 = .ok (.if_icmp .ge 63, 3) := dk_162 0 63 (dk_at dksX13_advance_2 0 rfl rfl)
theorem dX13_advance_48 : decode cX13_advance 48 = .ok (.aload_n 0, 1) := dk_42 (dk_at dksX13_advance_2 3 rfl rfl)
theorem dX13_advance_49 : decode cX13_advance 49 = .ok (.aload_n 0, 1) := dk_42 (dk_at dksX13_advance_2 4 rfl rfl)
theorem dX13_advance_50 : decode cX13_advance 50 = .ok (.getfield 7, 3) := dk_180 0 7 (dk_at dksX13_advance_2 5 rfl rfl)
theorem dX13_advance_53 : decode cX13_advance 53 = .ok (.iconst 2, 1) := dk_5 (dk_at dksX13_advance_2 8 rfl rfl)
theorem dX13_advance_54 : decode cX13_advance 54 = .ok (.iaload, 1) := dk_46 (dk_at dksX13_advance_2 9 rfl rfl)
theorem dX13_advance_55 : decode cX13_advance 55 = .ok (.invokevirtual 201, 3) := dk_182 0 201 (dk_at dksX13_advance_2 10 rfl rfl)
theorem dX13_advance_58 : decode cX13_advance 58 = .ok (.ifCond .eq 50, 3) := dk_153 0 50 (dk_at dksX13_advance_2 13 rfl rfl)
theorem dX13_advance_61 : decode cX13_advance 61 = .ok (.aload_n 0, 1) := dk_42 (dk_at dksX13_advance_2 16 rfl rfl)
theorem dX13_advance_62 : decode cX13_advance 62 = .ok (.getfield 22, 3) := dk_180 0 22 (dk_at dksX13_advance_2 17 rfl rfl)
theorem dX13_advance_65 : decode cX13_advance 65 = .ok (.aload_n 0, 1) := dk_42 (dk_at dksX13_advance_2 20 rfl rfl)
theorem dX13_advance_66 : decode cX13_advance 66 = .ok (.getfield 189, 3) := dk_180 0 189 (dk_at dksX13_advance_2 21 rfl rfl)
theorem dX13_advance_69 : decode cX13_advance 69 = .ok (.dup2, 1) := dk_92 (dk_at dksX13_advance_3 0 rfl rfl)
theorem dX13_advance_70 : decode cX13_advance 70 = .ok (.iaload, 1) := dk_46 (dk_at dksX13_advance_3 1 rfl rfl)
theorem dX13_advance_71 : decode cX13_advance 71 = .ok (.iconst 1, 1) := dk_4 (dk_at dksX13_advance_3 2 rfl rfl)
theorem dX13_advance_72 : decode cX13_advance 72 = .ok (.aload_n 0, 1) := dk_42 (dk_at dksX13_advance_3 3 rfl rfl)
theorem dX13_advance_73 : decode cX13_advance 73 = .ok (.getfield 192, 3) := dk_180 0 192 (dk_at dksX13_advance_3 4 rfl rfl)
theorem dX13_advance_76 : decode cX13_advance 76 = .ok (.ishl, 1) := dk_120 (dk_at dksX13_advance_3 7 rfl rfl)
theorem dX13_advance_77 : decode cX13_advance 77 = .ok (.iconst (-1), 1) := dk_2 (dk_at dksX13_advance_3 8 rfl rfl)
theorem dX13_advance_78 : decode cX13_advance 78 = .ok (.ixor, 1) := dk_130 (dk_at dksX13_advance_3 9 rfl rfl)
theorem dX13_advance_79 : decode cX13_advance 79 = .ok (.iand, 1) := dk_126 (dk_at dksX13_advance_3 10 rfl rfl)
theorem dX13_advance_80 : decode cX13_advance 80 = .ok (.iastore, 1) := dk_79 (dk_at dksX13_advance_3 11 rfl rfl)
theorem dX13_advance_81 : decode cX13_advance 81 = .ok (.aload_n 0, 1) := dk_42 (dk_at dksX13_advance_3 12 rfl rfl)
theorem dX13_advance_82 : decode cX13_advance 82 = .ok (.getfield 7, 3) := dk_180 0 7 (dk_at dksX13_advance_3 13 rfl rfl)
theorem dX13_advance_85 : decode cX13_advance 85 = .ok (.bipush 93, 2) := dk_16 93 (dk_at dksX13_advance_3 16 rfl rfl)
theorem dX13_advance_87 : decode cX13_advance 87 = .ok (.aload_n 0, 1) := dk_42 (dk_at dksX13_advance_3 18 rfl rfl)
theorem dX13_advance_88 : decode cX13_advance 88 = .ok (.getfield 189, 3) := dk_180 0 189 (dk_at dksX13_advance_3 19 rfl rfl)
theorem dX13_advance_91 : decode cX13_advance 91 = .ok (.iadd, 1) := dk_96 (dk_at dksX13_advance_3 22 rfl rfl)
theorem dX13_advance_92 : decode cX13_advance 92 = .ok (.aload_n 0, 1) := dk_42 (dk_at dksX13_advance_3 23 rfl rfl)
theorem dX13_advance_93 : decode cX13_advance 93 = .ok (.getfield 22, 3) := dk_180 0 22 (dk_at dksX13_advance_4 0 rfl rfl)
theorem dX13_advance_96 : decode cX13_advance 96 = .ok (.aload_n 0, 1) := dk_42 (dk_at dksX13_advance_4 3 rfl rfl)
theorem dX13_advance_97 : decode cX13_advance 97 = .ok (.getfield 189, 3) := dk_180 0 189 (dk_at dksX13_advance_4 4 rfl rfl)
theorem dX13_advance_100 : decode cX13_advance 100 = .ok (.iaload, 1) := dk_46 (dk_at dksX13_advance_4 7 rfl rfl)
theorem dX13_advance_101 : decode cX13_advance 101 = .ok (.iastore, 1) := dk_79 (dk_at dksX13_advance_4 8 rfl rfl)
theorem dX13_advance_102 : decode cX13_advance 102 = .ok (.iinc 2 1, 3) := dk_132 2 1 (dk_at dksX13_advance_4 9 rfl rfl)
theorem dX13_advance_105 : decode cX13_advance 105 = .ok (.goto (-62), 3) := dk_167 255 194 (dk_at dksX13_advance_4 12 rfl rfl)
theorem dX13_advance_108 : decode cX13_advance 108 = .ok (.iload_n 2, 1) := dk_28 (dk_at dksX13_advance_4 15 rfl rfl)
theorem dX13_advance_109 : decode cX13_advance 109 = .ok (.ireturn, 1) := dk_172 (dk_at dksX13_advance_4 16 rfl rfl)
abbrev cX13_restart : ByteArray := prog_28_method_78_code
def yX13_restart : MethodName := ⟨RX13, "restart", "()I"⟩
def dkwX13_restart_0 : List UInt8 := [42, 3, 181, 0, 43, 42, 182, 0, 102, 42, 182, 0, 51, 42, 182, 0, 243, 172]
abbrev dktX13_restart_0 : List UInt8 := dkwX13_restart_0 ++ []
theorem dksX13_restart_0 : cX13_restart.data.toList.drop 0 = dktX13_restart_0 := by decide +kernel
theorem dX13_restart_0 : decode cX13_restart 0 = .ok (.aload_n 0, 1) := dk_42 (dk_at dksX13_restart_0 0 rfl rfl)
theorem dX13_restart_1 : decode cX13_restart 1 = .ok (.iconst 0, 1) := dk_3 (dk_at dksX13_restart_0 1 rfl rfl)
theorem dX13_restart_2 : decode cX13_restart 2 = .ok (.putfield 43, 3) := dk_181 0 43 (dk_at dksX13_restart_0 2 rfl rfl)
theorem dX13_restart_5 : decode cX13_restart 5 = .ok (.aload_n 0, 1) := dk_42 (dk_at dksX13_restart_0 5 rfl rfl)
theorem dX13_restart_6 : decode cX13_restart 6 = .ok (.invokevirtual 102, 3) := dk_182 0 102 (dk_at dksX13_restart_0 6 rfl rfl)
theorem dX13_restart_9 : decode cX13_restart 9 = .ok (.aload_n 0, 1) := dk_42 (dk_at dksX13_restart_0 9 rfl rfl)
theorem dX13_restart_10 : decode cX13_restart 10 = .ok (.invokevirtual 51, 3) := dk_182 0 51 (dk_at dksX13_restart_0 10 rfl rfl)
theorem dX13_restart_13 : decode cX13_restart 13 = .ok (.aload_n 0, 1) := dk_42 (dk_at dksX13_restart_0 13 rfl rfl)
theorem dX13_restart_14 : decode cX13_restart 14 = .ok (.invokevirtual 243, 3) := dk_182 0 243 (dk_at dksX13_restart_0 14 rfl rfl)
theorem dX13_restart_17 : decode cX13_restart 17 = .ok (.ireturn, 1) := dk_172 (dk_at dksX13_restart_0 17 rfl rfl)
abbrev cX13_possibleMany : ByteArray := prog_28_method_49_code
def yX13_possibleMany : MethodName := ⟨RX13, "possibleMany", "()I"⟩
def dkwX13_possibleMany_1 : List UInt8 := [132, 2, 1, 167, 255, 233, 27, 172]
abbrev dktX13_possibleMany_1 : List UInt8 := dkwX13_possibleMany_1 ++ []
def dkwX13_possibleMany_0 : List UInt8 := [3, 60, 3, 61, 28, 42, 182, 0, 61, 162, 0, 21, 27, 42, 180, 0, 22, 28, 46, 184, 0, 142, 96, 60]
abbrev dktX13_possibleMany_0 : List UInt8 := dkwX13_possibleMany_0 ++ dktX13_possibleMany_1
theorem dksX13_possibleMany_0 : cX13_possibleMany.data.toList.drop 0 = dktX13_possibleMany_0 := by decide +kernel
theorem dksX13_possibleMany_1 : cX13_possibleMany.data.toList.drop 24 = dktX13_possibleMany_1 := dk_seg dksX13_possibleMany_0 24 rfl rfl
theorem dX13_possibleMany_0 : decode cX13_possibleMany 0 = .ok (.iconst 0, 1) := dk_3 (dk_at dksX13_possibleMany_0 0 rfl rfl)
theorem dX13_possibleMany_1 : decode cX13_possibleMany 1 = .ok (.istore_n 1, 1) := dk_60 (dk_at dksX13_possibleMany_0 1 rfl rfl)
theorem dX13_possibleMany_2 : decode cX13_possibleMany 2 = .ok (.iconst 0, 1) := dk_3 (dk_at dksX13_possibleMany_0 2 rfl rfl)
theorem dX13_possibleMany_3 : decode cX13_possibleMany 3 = .ok (.istore_n 2, 1) := dk_61 (dk_at dksX13_possibleMany_0 3 rfl rfl)
theorem dX13_possibleMany_4 : decode cX13_possibleMany 4 = .ok (.iload_n 2, 1) := dk_28 (dk_at dksX13_possibleMany_0 4 rfl rfl)
theorem dX13_possibleMany_5 : decode cX13_possibleMany 5 = .ok (.aload_n 0, 1) := dk_42 (dk_at dksX13_possibleMany_0 5 rfl rfl)
theorem dX13_possibleMany_6 : decode cX13_possibleMany 6 = .ok (.invokevirtual 61, 3) := dk_182 0 61 (dk_at dksX13_possibleMany_0 6 rfl rfl)
theorem dX13_possibleMany_9 : decode cX13_possibleMany 9 = .ok (.if_icmp .ge 21, 3) := dk_162 0 21 (dk_at dksX13_possibleMany_0 9 rfl rfl)
theorem dX13_possibleMany_12 : decode cX13_possibleMany 12 = .ok (.iload_n 1, 1) := dk_27 (dk_at dksX13_possibleMany_0 12 rfl rfl)
theorem dX13_possibleMany_13 : decode cX13_possibleMany 13 = .ok (.aload_n 0, 1) := dk_42 (dk_at dksX13_possibleMany_0 13 rfl rfl)
theorem dX13_possibleMany_14 : decode cX13_possibleMany 14 = .ok (.getfield 22, 3) := dk_180 0 22 (dk_at dksX13_possibleMany_0 14 rfl rfl)
theorem dX13_possibleMany_17 : decode cX13_possibleMany 17 = .ok (.iload_n 2, 1) := dk_28 (dk_at dksX13_possibleMany_0 17 rfl rfl)
theorem dX13_possibleMany_18 : decode cX13_possibleMany 18 = .ok (.iaload, 1) := dk_46 (dk_at dksX13_possibleMany_0 18 rfl rfl)
theorem dX13_possibleMany_19 : decode cX13_possibleMany 19 = .ok (.invokestatic 142, 3) := dk_184 0 142 (dk_at dksX13_possibleMany_0 19 rfl rfl)
theorem dX13_possibleMany_22 : decode cX13_possibleMany 22 = .ok (.iadd, 1) := dk_96 (dk_at dksX13_possibleMany_0 22 rfl rfl)
theorem dX13_possibleMany_23 : decode cX13_possibleMany 23 = .ok (.istore_n 1, 1) := dk_60 (dk_at dksX13_possibleMany_0 23 rfl rfl)
theorem dX13_possibleMany_24 : decode cX13_possibleMany 24 = .ok (.iinc 2 1, 3) := dk_132 2 1 (dk_at dksX13_possibleMany_1 0 rfl rfl)
theorem dX13_possibleMany_27 : decode cX13_possibleMany 27 = .ok (.goto (-23), 3) := dk_167 255 233 (dk_at dksX13_possibleMany_1 3 rfl rfl)
theorem dX13_possibleMany_30 : decode cX13_possibleMany 30 = .ok (.iload_n 1, 1) := dk_27 (dk_at dksX13_possibleMany_1 6 rfl rfl)
theorem dX13_possibleMany_31 : decode cX13_possibleMany 31 = .ok (.ireturn, 1) := dk_172 (dk_at dksX13_possibleMany_1 7 rfl rfl)
abbrev cX13_take : ByteArray := prog_28_method_80_code
def yX13_take : MethodName := ⟨RX13, "take", "(I)I"⟩
def dkwX13_take_2 : List UInt8 := [4, 96, 29, 96, 42, 180, 0, 7, 29, 46, 79, 132, 3, 1, 167, 255, 231, 42, 182, 0, 246, 172]
abbrev dktX13_take_2 : List UInt8 := dkwX13_take_2 ++ []
def dkwX13_take_1 : List UInt8 := [27, 104, 96, 61, 42, 180, 0, 7, 28, 4, 79, 3, 62, 29, 16, 118, 162, 0, 25, 42, 180, 0, 7, 28]
abbrev dktX13_take_1 : List UInt8 := dkwX13_take_1 ++ dktX13_take_2
def dkwX13_take_0 : List UInt8 := [42, 3, 181, 0, 43, 27, 3, 4, 184, 0, 65, 154, 0, 5, 2, 172, 42, 182, 0, 102, 16, 118, 16, 119]
abbrev dktX13_take_0 : List UInt8 := dkwX13_take_0 ++ dktX13_take_1
theorem dksX13_take_0 : cX13_take.data.toList.drop 0 = dktX13_take_0 := by decide +kernel
theorem dksX13_take_1 : cX13_take.data.toList.drop 24 = dktX13_take_1 := dk_seg dksX13_take_0 24 rfl rfl
theorem dksX13_take_2 : cX13_take.data.toList.drop 48 = dktX13_take_2 := dk_seg dksX13_take_1 24 rfl rfl
theorem dX13_take_0 : decode cX13_take 0 = .ok (.aload_n 0, 1) := dk_42 (dk_at dksX13_take_0 0 rfl rfl)
theorem dX13_take_1 : decode cX13_take 1 = .ok (.iconst 0, 1) := dk_3 (dk_at dksX13_take_0 1 rfl rfl)
theorem dX13_take_2 : decode cX13_take 2 = .ok (.putfield 43, 3) := dk_181 0 43 (dk_at dksX13_take_0 2 rfl rfl)
theorem dX13_take_5 : decode cX13_take 5 = .ok (.iload_n 1, 1) := dk_27 (dk_at dksX13_take_0 5 rfl rfl)
theorem dX13_take_6 : decode cX13_take 6 = .ok (.iconst 0, 1) := dk_3 (dk_at dksX13_take_0 6 rfl rfl)
theorem dX13_take_7 : decode cX13_take 7 = .ok (.iconst 1, 1) := dk_4 (dk_at dksX13_take_0 7 rfl rfl)
theorem dX13_take_8 : decode cX13_take 8 = .ok (.invokestatic 65, 3) := dk_184 0 65 (dk_at dksX13_take_0 8 rfl rfl)
theorem dX13_take_11 : decode cX13_take 11 = .ok (.ifCond .ne 5, 3) := dk_154 0 5 (dk_at dksX13_take_0 11 rfl rfl)
theorem dX13_take_14 : decode cX13_take 14 = .ok (.iconst (-1), 1) := dk_2 (dk_at dksX13_take_0 14 rfl rfl)
theorem dX13_take_15 : decode cX13_take 15 = .ok (.ireturn, 1) := dk_172 (dk_at dksX13_take_0 15 rfl rfl)
theorem dX13_take_16 : decode cX13_take 16 = .ok (.aload_n 0, 1) := dk_42 (dk_at dksX13_take_0 16 rfl rfl)
theorem dX13_take_17 : decode cX13_take 17 = .ok (.invokevirtual 102, 3) := dk_182 0 102 (dk_at dksX13_take_0 17 rfl rfl)
theorem dX13_take_20 : decode cX13_take 20 = .ok (.bipush 118, 2) := dk_16 118 (dk_at dksX13_take_0 20 rfl rfl)
theorem dX13_take_22 : decode cX13_take 22 = .ok (.bipush 119, 2) := dk_16 119 (dk_at dksX13_take_0 22 rfl rfl)
theorem dX13_take_24 : decode cX13_take 24 = .ok (.iload_n 1, 1) := dk_27 (dk_at dksX13_take_1 0 rfl rfl)
theorem dX13_take_25 : decode cX13_take 25 = .ok (.imul, 1) := dk_104 (dk_at dksX13_take_1 1 rfl rfl)
theorem dX13_take_26 : decode cX13_take 26 = .ok (.iadd, 1) := dk_96 (dk_at dksX13_take_1 2 rfl rfl)
theorem dX13_take_27 : decode cX13_take 27 = .ok (.istore_n 2, 1) := dk_61 (dk_at dksX13_take_1 3 rfl rfl)
theorem dX13_take_28 : decode cX13_take 28 = .ok (.aload_n 0, 1) := dk_42 (dk_at dksX13_take_1 4 rfl rfl)
theorem dX13_take_29 : decode cX13_take 29 = .ok (.getfield 7, 3) := dk_180 0 7 (dk_at dksX13_take_1 5 rfl rfl)
theorem dX13_take_32 : decode cX13_take 32 = .ok (.iload_n 2, 1) := dk_28 (dk_at dksX13_take_1 8 rfl rfl)
theorem dX13_take_33 : decode cX13_take 33 = .ok (.iconst 1, 1) := dk_4 (dk_at dksX13_take_1 9 rfl rfl)
theorem dX13_take_34 : decode cX13_take 34 = .ok (.iastore, 1) := dk_79 (dk_at dksX13_take_1 10 rfl rfl)
theorem dX13_take_35 : decode cX13_take 35 = .ok (.iconst 0, 1) := dk_3 (dk_at dksX13_take_1 11 rfl rfl)
theorem dX13_take_36 : decode cX13_take 36 = .ok (.istore_n 3, 1) := dk_62 (dk_at dksX13_take_1 12 rfl rfl)
theorem dX13_take_37 : decode cX13_take 37 = .ok (.iload_n 3, 1) := dk_29 (dk_at dksX13_take_1 13 rfl rfl)
theorem dX13_take_38 : decode cX13_take 38 = .ok (.bipush 118, 2) := dk_16 118 (dk_at dksX13_take_1 14 rfl rfl)
theorem dX13_take_40 : decode cX13_take 40 = .ok (.if_icmp .ge 25, 3) := dk_162 0 25 (dk_at dksX13_take_1 16 rfl rfl)
theorem dX13_take_43 : decode cX13_take 43 = .ok (.aload_n 0, 1) := dk_42 (dk_at dksX13_take_1 19 rfl rfl)
theorem dX13_take_44 : decode cX13_take 44 = .ok (.getfield 7, 3) := dk_180 0 7 (dk_at dksX13_take_1 20 rfl rfl)
theorem dX13_take_47 : decode cX13_take 47 = .ok (.iload_n 2, 1) := dk_28 (dk_at dksX13_take_1 23 rfl rfl)
theorem dX13_take_48 : decode cX13_take 48 = .ok (.iconst 1, 1) := dk_4 (dk_at dksX13_take_2 0 rfl rfl)
theorem dX13_take_49 : decode cX13_take 49 = .ok (.iadd, 1) := dk_96 (dk_at dksX13_take_2 1 rfl rfl)
theorem dX13_take_50 : decode cX13_take 50 = .ok (.iload_n 3, 1) := dk_29 (dk_at dksX13_take_2 2 rfl rfl)
theorem dX13_take_51 : decode cX13_take 51 = .ok (.iadd, 1) := dk_96 (dk_at dksX13_take_2 3 rfl rfl)
theorem dX13_take_52 : decode cX13_take 52 = .ok (.aload_n 0, 1) := dk_42 (dk_at dksX13_take_2 4 rfl rfl)
theorem dX13_take_53 : decode cX13_take 53 = .ok (.getfield 7, 3) := dk_180 0 7 (dk_at dksX13_take_2 5 rfl rfl)
theorem dX13_take_56 : decode cX13_take 56 = .ok (.iload_n 3, 1) := dk_29 (dk_at dksX13_take_2 8 rfl rfl)
theorem dX13_take_57 : decode cX13_take 57 = .ok (.iaload, 1) := dk_46 (dk_at dksX13_take_2 9 rfl rfl)
theorem dX13_take_58 : decode cX13_take 58 = .ok (.iastore, 1) := dk_79 (dk_at dksX13_take_2 10 rfl rfl)
theorem dX13_take_59 : decode cX13_take 59 = .ok (.iinc 3 1, 3) := dk_132 3 1 (dk_at dksX13_take_2 11 rfl rfl)
theorem dX13_take_62 : decode cX13_take 62 = .ok (.goto (-25), 3) := dk_167 255 231 (dk_at dksX13_take_2 14 rfl rfl)
theorem dX13_take_65 : decode cX13_take 65 = .ok (.aload_n 0, 1) := dk_42 (dk_at dksX13_take_2 17 rfl rfl)
theorem dX13_take_66 : decode cX13_take 66 = .ok (.invokevirtual 246, 3) := dk_182 0 246 (dk_at dksX13_take_2 18 rfl rfl)
theorem dX13_take_69 : decode cX13_take 69 = .ok (.ireturn, 1) := dk_172 (dk_at dksX13_take_2 21 rfl rfl)
abbrev cX13_clues : ByteArray := prog_28_method_79_code
def yX13_clues : MethodName := ⟨RX13, "clues", "()I"⟩
def dkwX13_clues_0 : List UInt8 := [42, 182, 0, 213, 42, 182, 0, 222, 96, 172]
abbrev dktX13_clues_0 : List UInt8 := dkwX13_clues_0 ++ []
theorem dksX13_clues_0 : cX13_clues.data.toList.drop 0 = dktX13_clues_0 := by decide +kernel
theorem dX13_clues_0 : decode cX13_clues 0 = .ok (.aload_n 0, 1) := dk_42 (dk_at dksX13_clues_0 0 rfl rfl)
theorem dX13_clues_1 : decode cX13_clues 1 = .ok (.invokevirtual 213, 3) := dk_182 0 213 (dk_at dksX13_clues_0 1 rfl rfl)
theorem dX13_clues_4 : decode cX13_clues 4 = .ok (.aload_n 0, 1) := dk_42 (dk_at dksX13_clues_0 4 rfl rfl)
theorem dX13_clues_5 : decode cX13_clues 5 = .ok (.invokevirtual 222, 3) := dk_182 0 222 (dk_at dksX13_clues_0 5 rfl rfl)
theorem dX13_clues_8 : decode cX13_clues 8 = .ok (.iadd, 1) := dk_96 (dk_at dksX13_clues_0 8 rfl rfl)
theorem dX13_clues_9 : decode cX13_clues 9 = .ok (.ireturn, 1) := dk_172 (dk_at dksX13_clues_0 9 rfl rfl)
abbrev cX13_restore : ByteArray := prog_28_method_81_code
def yX13_restore : MethodName := ⟨RX13, "restore", "(I)I"⟩
def dkwX13_restore_3 : List UInt8 := [182, 0, 246, 172]
abbrev dktX13_restore_3 : List UInt8 := dkwX13_restore_3 ++ []
def dkwX13_restore_2 : List UInt8 := [42, 180, 0, 7, 29, 42, 180, 0, 7, 28, 4, 96, 29, 96, 46, 79, 132, 3, 1, 167, 255, 231, 42]
abbrev dktX13_restore_2 : List UInt8 := dkwX13_restore_2 ++ dktX13_restore_3
def dkwX13_restore_1 : List UInt8 := [42, 180, 0, 7, 28, 46, 154, 0, 6, 16, 254, 172, 42, 182, 0, 102, 3, 62, 29, 16, 118, 162, 0, 25]
abbrev dktX13_restore_1 : List UInt8 := dkwX13_restore_1 ++ dktX13_restore_2
def dkwX13_restore_0 : List UInt8 := [42, 3, 181, 0, 43, 27, 3, 4, 184, 0, 65, 154, 0, 5, 2, 172, 16, 118, 16, 119, 27, 104, 96, 61]
abbrev dktX13_restore_0 : List UInt8 := dkwX13_restore_0 ++ dktX13_restore_1
theorem dksX13_restore_0 : cX13_restore.data.toList.drop 0 = dktX13_restore_0 := by decide +kernel
theorem dksX13_restore_1 : cX13_restore.data.toList.drop 24 = dktX13_restore_1 := dk_seg dksX13_restore_0 24 rfl rfl
theorem dksX13_restore_2 : cX13_restore.data.toList.drop 48 = dktX13_restore_2 := dk_seg dksX13_restore_1 24 rfl rfl
theorem dksX13_restore_3 : cX13_restore.data.toList.drop 71 = dktX13_restore_3 := dk_seg dksX13_restore_2 23 rfl rfl
theorem dX13_restore_0 : decode cX13_restore 0 = .ok (.aload_n 0, 1) := dk_42 (dk_at dksX13_restore_0 0 rfl rfl)
theorem dX13_restore_1 : decode cX13_restore 1 = .ok (.iconst 0, 1) := dk_3 (dk_at dksX13_restore_0 1 rfl rfl)
theorem dX13_restore_2 : decode cX13_restore 2 = .ok (.putfield 43, 3) := dk_181 0 43 (dk_at dksX13_restore_0 2 rfl rfl)
theorem dX13_restore_5 : decode cX13_restore 5 = .ok (.iload_n 1, 1) := dk_27 (dk_at dksX13_restore_0 5 rfl rfl)
theorem dX13_restore_6 : decode cX13_restore 6 = .ok (.iconst 0, 1) := dk_3 (dk_at dksX13_restore_0 6 rfl rfl)
theorem dX13_restore_7 : decode cX13_restore 7 = .ok (.iconst 1, 1) := dk_4 (dk_at dksX13_restore_0 7 rfl rfl)
theorem dX13_restore_8 : decode cX13_restore 8 = .ok (.invokestatic 65, 3) := dk_184 0 65 (dk_at dksX13_restore_0 8 rfl rfl)
theorem dX13_restore_11 : decode cX13_restore 11 = .ok (.ifCond .ne 5, 3) := dk_154 0 5 (dk_at dksX13_restore_0 11 rfl rfl)
theorem dX13_restore_14 : decode cX13_restore 14 = .ok (.iconst (-1), 1) := dk_2 (dk_at dksX13_restore_0 14 rfl rfl)
theorem dX13_restore_15 : decode cX13_restore 15 = .ok (.ireturn, 1) := dk_172 (dk_at dksX13_restore_0 15 rfl rfl)
theorem dX13_restore_16 : decode cX13_restore 16 = .ok (.bipush 118, 2) := dk_16 118 (dk_at dksX13_restore_0 16 rfl rfl)
theorem dX13_restore_18 : decode cX13_restore 18 = .ok (.bipush 119, 2) := dk_16 119 (dk_at dksX13_restore_0 18 rfl rfl)
theorem dX13_restore_20 : decode cX13_restore 20 = .ok (.iload_n 1, 1) := dk_27 (dk_at dksX13_restore_0 20 rfl rfl)
theorem dX13_restore_21 : decode cX13_restore 21 = .ok (.imul, 1) := dk_104 (dk_at dksX13_restore_0 21 rfl rfl)
theorem dX13_restore_22 : decode cX13_restore 22 = .ok (.iadd, 1) := dk_96 (dk_at dksX13_restore_0 22 rfl rfl)
theorem dX13_restore_23 : decode cX13_restore 23 = .ok (.istore_n 2, 1) := dk_61 (dk_at dksX13_restore_0 23 rfl rfl)
theorem dX13_restore_24 : decode cX13_restore 24 = .ok (.aload_n 0, 1) := dk_42 (dk_at dksX13_restore_1 0 rfl rfl)
theorem dX13_restore_25 : decode cX13_restore 25 = .ok (.getfield 7, 3) := dk_180 0 7 (dk_at dksX13_restore_1 1 rfl rfl)
theorem dX13_restore_28 : decode cX13_restore 28 = .ok (.iload_n 2, 1) := dk_28 (dk_at dksX13_restore_1 4 rfl rfl)
theorem dX13_restore_29 : decode cX13_restore 29 = .ok (.iaload, 1) := dk_46 (dk_at dksX13_restore_1 5 rfl rfl)
theorem dX13_restore_30 : decode cX13_restore 30 = .ok (.ifCond .ne 6, 3) := dk_154 0 6 (dk_at dksX13_restore_1 6 rfl rfl)
theorem dX13_restore_33 : decode cX13_restore 33 = .ok (.bipush (-2), 2) := dk_16 254 (dk_at dksX13_restore_1 9 rfl rfl)
theorem dX13_restore_35 : decode cX13_restore 35 = .ok (.ireturn, 1) := dk_172 (dk_at dksX13_restore_1 11 rfl rfl)
theorem dX13_restore_36 : decode cX13_restore 36 = .ok (.aload_n 0, 1) := dk_42 (dk_at dksX13_restore_1 12 rfl rfl)
theorem dX13_restore_37 : decode cX13_restore 37 = .ok (.invokevirtual 102, 3) := dk_182 0 102 (dk_at dksX13_restore_1 13 rfl rfl)
theorem dX13_restore_40 : decode cX13_restore 40 = .ok (.iconst 0, 1) := dk_3 (dk_at dksX13_restore_1 16 rfl rfl)
theorem dX13_restore_41 : decode cX13_restore 41 = .ok (.istore_n 3, 1) := dk_62 (dk_at dksX13_restore_1 17 rfl rfl)
theorem dX13_restore_42 : decode cX13_restore 42 = .ok (.iload_n 3, 1) := dk_29 (dk_at dksX13_restore_1 18 rfl rfl)
theorem dX13_restore_43 : decode cX13_restore 43 = .ok (.bipush 118, 2) := dk_16 118 (dk_at dksX13_restore_1 19 rfl rfl)
theorem dX13_restore_45 : decode cX13_restore 45 = .ok (.if_icmp .ge 25, 3) := dk_162 0 25 (dk_at dksX13_restore_1 21 rfl rfl)
theorem dX13_restore_48 : decode cX13_restore 48 = .ok (.aload_n 0, 1) := dk_42 (dk_at dksX13_restore_2 0 rfl rfl)
theorem dX13_restore_49 : decode cX13_restore 49 = .ok (.getfield 7, 3) := dk_180 0 7 (dk_at dksX13_restore_2 1 rfl rfl)
theorem dX13_restore_52 : decode cX13_restore 52 = .ok (.iload_n 3, 1) := dk_29 (dk_at dksX13_restore_2 4 rfl rfl)
theorem dX13_restore_53 : decode cX13_restore 53 = .ok (.aload_n 0, 1) := dk_42 (dk_at dksX13_restore_2 5 rfl rfl)
theorem dX13_restore_54 : decode cX13_restore 54 = .ok (.getfield 7, 3) := dk_180 0 7 (dk_at dksX13_restore_2 6 rfl rfl)
theorem dX13_restore_57 : decode cX13_restore 57 = .ok (.iload_n 2, 1) := dk_28 (dk_at dksX13_restore_2 9 rfl rfl)
theorem dX13_restore_58 : decode cX13_restore 58 = .ok (.iconst 1, 1) := dk_4 (dk_at dksX13_restore_2 10 rfl rfl)
theorem dX13_restore_59 : decode cX13_restore 59 = .ok (.iadd, 1) := dk_96 (dk_at dksX13_restore_2 11 rfl rfl)
theorem dX13_restore_60 : decode cX13_restore 60 = .ok (.iload_n 3, 1) := dk_29 (dk_at dksX13_restore_2 12 rfl rfl)
theorem dX13_restore_61 : decode cX13_restore 61 = .ok (.iadd, 1) := dk_96 (dk_at dksX13_restore_2 13 rfl rfl)
theorem dX13_restore_62 : decode cX13_restore 62 = .ok (.iaload, 1) := dk_46 (dk_at dksX13_restore_2 14 rfl rfl)
theorem dX13_restore_63 : decode cX13_restore 63 = .ok (.iastore, 1) := dk_79 (dk_at dksX13_restore_2 15 rfl rfl)
theorem dX13_restore_64 : decode cX13_restore 64 = .ok (.iinc 3 1, 3) := dk_132 3 1 (dk_at dksX13_restore_2 16 rfl rfl)
theorem dX13_restore_67 : decode cX13_restore 67 = .ok (.goto (-25), 3) := dk_167 255 231 (dk_at dksX13_restore_2 19 rfl rfl)
theorem dX13_restore_70 : decode cX13_restore 70 = .ok (.aload_n 0, 1) := dk_42 (dk_at dksX13_restore_2 22 rfl rfl)
theorem dX13_restore_71 : decode cX13_restore 71 = .ok (.invokevirtual 246, 3) := dk_182 0 246 (dk_at dksX13_restore_3 0 rfl rfl)
theorem dX13_restore_74 : decode cX13_restore 74 = .ok (.ireturn, 1) := dk_172 (dk_at dksX13_restore_3 3 rfl rfl)
abbrev cX13_undo : ByteArray := prog_28_method_82_code
def yX13_undo : MethodName := ⟨RX13, "undo", "()I"⟩
def dkwX13_undo_2 : List UInt8 := [42, 180, 0, 58, 104, 27, 96, 46, 79, 132, 1, 1, 167, 255, 225, 42, 180, 0, 58, 172]
abbrev dktX13_undo_2 : List UInt8 := dkwX13_undo_2 ++ []
def dkwX13_undo_1 : List UInt8 := [181, 0, 58, 3, 60, 27, 17, 1, 100, 162, 0, 30, 42, 180, 0, 7, 27, 42, 180, 0, 16, 17, 1, 100]
abbrev dktX13_undo_1 : List UInt8 := dkwX13_undo_1 ++ dktX13_undo_2
def dkwX13_undo_0 : List UInt8 := [42, 3, 181, 0, 43, 42, 180, 0, 58, 154, 0, 6, 16, 254, 172, 42, 89, 180, 0, 58, 4, 100]
abbrev dktX13_undo_0 : List UInt8 := dkwX13_undo_0 ++ dktX13_undo_1
theorem dksX13_undo_0 : cX13_undo.data.toList.drop 0 = dktX13_undo_0 := by decide +kernel
theorem dksX13_undo_1 : cX13_undo.data.toList.drop 22 = dktX13_undo_1 := dk_seg dksX13_undo_0 22 rfl rfl
theorem dksX13_undo_2 : cX13_undo.data.toList.drop 46 = dktX13_undo_2 := dk_seg dksX13_undo_1 24 rfl rfl
theorem dX13_undo_0 : decode cX13_undo 0 = .ok (.aload_n 0, 1) := dk_42 (dk_at dksX13_undo_0 0 rfl rfl)
theorem dX13_undo_1 : decode cX13_undo 1 = .ok (.iconst 0, 1) := dk_3 (dk_at dksX13_undo_0 1 rfl rfl)
theorem dX13_undo_2 : decode cX13_undo 2 = .ok (.putfield 43, 3) := dk_181 0 43 (dk_at dksX13_undo_0 2 rfl rfl)
theorem dX13_undo_5 : decode cX13_undo 5 = .ok (.aload_n 0, 1) := dk_42 (dk_at dksX13_undo_0 5 rfl rfl)
theorem dX13_undo_6 : decode cX13_undo 6 = .ok (.getfield 58, 3) := dk_180 0 58 (dk_at dksX13_undo_0 6 rfl rfl)
theorem dX13_undo_9 : decode cX13_undo 9 = .ok (.ifCond .ne 6, 3) := dk_154 0 6 (dk_at dksX13_undo_0 9 rfl rfl)
theorem dX13_undo_12 : decode cX13_undo 12 = .ok (.bipush (-2), 2) := dk_16 254 (dk_at dksX13_undo_0 12 rfl rfl)
theorem dX13_undo_14 : decode cX13_undo 14 = .ok (.ireturn, 1) := dk_172 (dk_at dksX13_undo_0 14 rfl rfl)
theorem dX13_undo_15 : decode cX13_undo 15 = .ok (.aload_n 0, 1) := dk_42 (dk_at dksX13_undo_0 15 rfl rfl)
theorem dX13_undo_16 : decode cX13_undo 16 = .ok (.dup, 1) := dk_89 (dk_at dksX13_undo_0 16 rfl rfl)
theorem dX13_undo_17 : decode cX13_undo 17 = .ok (.getfield 58, 3) := dk_180 0 58 (dk_at dksX13_undo_0 17 rfl rfl)
theorem dX13_undo_20 : decode cX13_undo 20 = .ok (.iconst 1, 1) := dk_4 (dk_at dksX13_undo_0 20 rfl rfl)
theorem dX13_undo_21 : decode cX13_undo 21 = .ok (.isub, 1) := dk_100 (dk_at dksX13_undo_0 21 rfl rfl)
theorem dX13_undo_22 : decode cX13_undo 22 = .ok (.putfield 58, 3) := dk_181 0 58 (dk_at dksX13_undo_1 0 rfl rfl)
theorem dX13_undo_25 : decode cX13_undo 25 = .ok (.iconst 0, 1) := dk_3 (dk_at dksX13_undo_1 3 rfl rfl)
theorem dX13_undo_26 : decode cX13_undo 26 = .ok (.istore_n 1, 1) := dk_60 (dk_at dksX13_undo_1 4 rfl rfl)
theorem dX13_undo_27 : decode cX13_undo 27 = .ok (.iload_n 1, 1) := dk_27 (dk_at dksX13_undo_1 5 rfl rfl)
theorem dX13_undo_28 : decode cX13_undo 28 = .ok (.sipush 356, 3) := dk_17 1 100 (dk_at dksX13_undo_1 6 rfl rfl)
theorem dX13_undo_31 : decode cX13_undo 31 = .ok (.if_icmp .ge 30, 3) := dk_162 0 30 (dk_at dksX13_undo_1 9 rfl rfl)
theorem dX13_undo_34 : decode cX13_undo 34 = .ok (.aload_n 0, 1) := dk_42 (dk_at dksX13_undo_1 12 rfl rfl)
theorem dX13_undo_35 : decode cX13_undo 35 = .ok (.getfield 7, 3) := dk_180 0 7 (dk_at dksX13_undo_1 13 rfl rfl)
theorem dX13_undo_38 : decode cX13_undo 38 = .ok (.iload_n 1, 1) := dk_27 (dk_at dksX13_undo_1 16 rfl rfl)
theorem dX13_undo_39 : decode cX13_undo 39 = .ok (.aload_n 0, 1) := dk_42 (dk_at dksX13_undo_1 17 rfl rfl)
theorem dX13_undo_40 : decode cX13_undo 40 = .ok (.getfield 16, 3) := dk_180 0 16 (dk_at dksX13_undo_1 18 rfl rfl)
theorem dX13_undo_43 : decode cX13_undo 43 = .ok (.sipush 356, 3) := dk_17 1 100 (dk_at dksX13_undo_1 21 rfl rfl)
theorem dX13_undo_46 : decode cX13_undo 46 = .ok (.aload_n 0, 1) := dk_42 (dk_at dksX13_undo_2 0 rfl rfl)
theorem dX13_undo_47 : decode cX13_undo 47 = .ok (.getfield 58, 3) := dk_180 0 58 (dk_at dksX13_undo_2 1 rfl rfl)
theorem dX13_undo_50 : decode cX13_undo 50 = .ok (.imul, 1) := dk_104 (dk_at dksX13_undo_2 4 rfl rfl)
theorem dX13_undo_51 : decode cX13_undo 51 = .ok (.iload_n 1, 1) := dk_27 (dk_at dksX13_undo_2 5 rfl rfl)
theorem dX13_undo_52 : decode cX13_undo 52 = .ok (.iadd, 1) := dk_96 (dk_at dksX13_undo_2 6 rfl rfl)
theorem dX13_undo_53 : decode cX13_undo 53 = .ok (.iaload, 1) := dk_46 (dk_at dksX13_undo_2 7 rfl rfl)
theorem dX13_undo_54 : decode cX13_undo 54 = .ok (.iastore, 1) := dk_79 (dk_at dksX13_undo_2 8 rfl rfl)
theorem dX13_undo_55 : decode cX13_undo 55 = .ok (.iinc 1 1, 3) := dk_132 1 1 (dk_at dksX13_undo_2 9 rfl rfl)
theorem dX13_undo_58 : decode cX13_undo 58 = .ok (.goto (-31), 3) := dk_167 255 225 (dk_at dksX13_undo_2 12 rfl rfl)
theorem dX13_undo_61 : decode cX13_undo 61 = .ok (.aload_n 0, 1) := dk_42 (dk_at dksX13_undo_2 15 rfl rfl)
theorem dX13_undo_62 : decode cX13_undo 62 = .ok (.getfield 58, 3) := dk_180 0 58 (dk_at dksX13_undo_2 16 rfl rfl)
theorem dX13_undo_65 : decode cX13_undo 65 = .ok (.ireturn, 1) := dk_172 (dk_at dksX13_undo_2 19 rfl rfl)
abbrev cX13_append : ByteArray := prog_28_method_83_code
def yX13_append : MethodName := ⟨RX13, "append", "(I)I"⟩
def dkwX13_append_2 : List UInt8 := [4, 96, 181, 0, 249, 42, 180, 0, 249, 172]
abbrev dktX13_append_2 : List UInt8 := dkwX13_append_2 ++ []
def dkwX13_append_1 : List UInt8 := [17, 0, 140, 160, 0, 6, 16, 253, 172, 42, 180, 0, 19, 42, 180, 0, 249, 27, 79, 42, 89, 180, 0, 249]
abbrev dktX13_append_1 : List UInt8 := dkwX13_append_1 ++ dktX13_append_2
def dkwX13_append_0 : List UInt8 := [42, 3, 181, 0, 43, 27, 4, 17, 0, 255, 184, 0, 65, 154, 0, 5, 2, 172, 42, 180, 0, 249]
abbrev dktX13_append_0 : List UInt8 := dkwX13_append_0 ++ dktX13_append_1
theorem dksX13_append_0 : cX13_append.data.toList.drop 0 = dktX13_append_0 := by decide +kernel
theorem dksX13_append_1 : cX13_append.data.toList.drop 22 = dktX13_append_1 := dk_seg dksX13_append_0 22 rfl rfl
theorem dksX13_append_2 : cX13_append.data.toList.drop 46 = dktX13_append_2 := dk_seg dksX13_append_1 24 rfl rfl
theorem dX13_append_0 : decode cX13_append 0 = .ok (.aload_n 0, 1) := dk_42 (dk_at dksX13_append_0 0 rfl rfl)
theorem dX13_append_1 : decode cX13_append 1 = .ok (.iconst 0, 1) := dk_3 (dk_at dksX13_append_0 1 rfl rfl)
theorem dX13_append_2 : decode cX13_append 2 = .ok (.putfield 43, 3) := dk_181 0 43 (dk_at dksX13_append_0 2 rfl rfl)
theorem dX13_append_5 : decode cX13_append 5 = .ok (.iload_n 1, 1) := dk_27 (dk_at dksX13_append_0 5 rfl rfl)
theorem dX13_append_6 : decode cX13_append 6 = .ok (.iconst 1, 1) := dk_4 (dk_at dksX13_append_0 6 rfl rfl)
theorem dX13_append_7 : decode cX13_append 7 = .ok (.sipush 255, 3) := dk_17 0 255 (dk_at dksX13_append_0 7 rfl rfl)
theorem dX13_append_10 : decode cX13_append 10 = .ok (.invokestatic 65, 3) := dk_184 0 65 (dk_at dksX13_append_0 10 rfl rfl)
theorem dX13_append_13 : decode cX13_append 13 = .ok (.ifCond .ne 5, 3) := dk_154 0 5 (dk_at dksX13_append_0 13 rfl rfl)
theorem dX13_append_16 : decode cX13_append 16 = .ok (.iconst (-1), 1) := dk_2 (dk_at dksX13_append_0 16 rfl rfl)
theorem dX13_append_17 : decode cX13_append 17 = .ok (.ireturn, 1) := dk_172 (dk_at dksX13_append_0 17 rfl rfl)
theorem dX13_append_18 : decode cX13_append 18 = .ok (.aload_n 0, 1) := dk_42 (dk_at dksX13_append_0 18 rfl rfl)
theorem dX13_append_19 : decode cX13_append 19 = .ok (.getfield 249, 3) := dk_180 0 249 (dk_at dksX13_append_0 19 rfl rfl)
theorem dX13_append_22 : decode cX13_append 22 = .ok (.sipush 140, 3) := dk_17 0 140 (dk_at dksX13_append_1 0 rfl rfl)
theorem dX13_append_25 : decode cX13_append 25 = .ok (.if_icmp .ne 6, 3) := dk_160 0 6 (dk_at dksX13_append_1 3 rfl rfl)
theorem dX13_append_28 : decode cX13_append 28 = .ok (.bipush (-3), 2) := dk_16 253 (dk_at dksX13_append_1 6 rfl rfl)
theorem dX13_append_30 : decode cX13_append 30 = .ok (.ireturn, 1) := dk_172 (dk_at dksX13_append_1 8 rfl rfl)
theorem dX13_append_31 : decode cX13_append 31 = .ok (.aload_n 0, 1) := dk_42 (dk_at dksX13_append_1 9 rfl rfl)
theorem dX13_append_32 : decode cX13_append 32 = .ok (.getfield 19, 3) := dk_180 0 19 (dk_at dksX13_append_1 10 rfl rfl)
theorem dX13_append_35 : decode cX13_append 35 = .ok (.aload_n 0, 1) := dk_42 (dk_at dksX13_append_1 13 rfl rfl)
theorem dX13_append_36 : decode cX13_append 36 = .ok (.getfield 249, 3) := dk_180 0 249 (dk_at dksX13_append_1 14 rfl rfl)
theorem dX13_append_39 : decode cX13_append 39 = .ok (.iload_n 1, 1) := dk_27 (dk_at dksX13_append_1 17 rfl rfl)
theorem dX13_append_40 : decode cX13_append 40 = .ok (.iastore, 1) := dk_79 (dk_at dksX13_append_1 18 rfl rfl)
theorem dX13_append_41 : decode cX13_append 41 = .ok (.aload_n 0, 1) := dk_42 (dk_at dksX13_append_1 19 rfl rfl)
theorem dX13_append_42 : decode cX13_append 42 = .ok (.dup, 1) := dk_89 (dk_at dksX13_append_1 20 rfl rfl)
theorem dX13_append_43 : decode cX13_append 43 = .ok (.getfield 249, 3) := dk_180 0 249 (dk_at dksX13_append_1 21 rfl rfl)
theorem dX13_append_46 : decode cX13_append 46 = .ok (.iconst 1, 1) := dk_4 (dk_at dksX13_append_2 0 rfl rfl)
theorem dX13_append_47 : decode cX13_append 47 = .ok (.iadd, 1) := dk_96 (dk_at dksX13_append_2 1 rfl rfl)
theorem dX13_append_48 : decode cX13_append 48 = .ok (.putfield 249, 3) := dk_181 0 249 (dk_at dksX13_append_2 2 rfl rfl)
theorem dX13_append_51 : decode cX13_append 51 = .ok (.aload_n 0, 1) := dk_42 (dk_at dksX13_append_2 5 rfl rfl)
theorem dX13_append_52 : decode cX13_append 52 = .ok (.getfield 249, 3) := dk_180 0 249 (dk_at dksX13_append_2 6 rfl rfl)
theorem dX13_append_55 : decode cX13_append 55 = .ok (.ireturn, 1) := dk_172 (dk_at dksX13_append_2 9 rfl rfl)
abbrev cX13_clearText : ByteArray := prog_28_method_84_code
def yX13_clearText : MethodName := ⟨RX13, "clearText", "()I"⟩
def dkwX13_clearText_0 : List UInt8 := [42, 3, 181, 0, 43, 42, 180, 0, 249, 60, 42, 3, 181, 0, 249, 27, 172]
abbrev dktX13_clearText_0 : List UInt8 := dkwX13_clearText_0 ++ []
theorem dksX13_clearText_0 : cX13_clearText.data.toList.drop 0 = dktX13_clearText_0 := by decide +kernel
theorem dX13_clearText_0 : decode cX13_clearText 0 = .ok (.aload_n 0, 1) := dk_42 (dk_at dksX13_clearText_0 0 rfl rfl)
theorem dX13_clearText_1 : decode cX13_clearText 1 = .ok (.iconst 0, 1) := dk_3 (dk_at dksX13_clearText_0 1 rfl rfl)
theorem dX13_clearText_2 : decode cX13_clearText 2 = .ok (.putfield 43, 3) := dk_181 0 43 (dk_at dksX13_clearText_0 2 rfl rfl)
theorem dX13_clearText_5 : decode cX13_clearText 5 = .ok (.aload_n 0, 1) := dk_42 (dk_at dksX13_clearText_0 5 rfl rfl)
theorem dX13_clearText_6 : decode cX13_clearText 6 = .ok (.getfield 249, 3) := dk_180 0 249 (dk_at dksX13_clearText_0 6 rfl rfl)
theorem dX13_clearText_9 : decode cX13_clearText 9 = .ok (.istore_n 1, 1) := dk_60 (dk_at dksX13_clearText_0 9 rfl rfl)
theorem dX13_clearText_10 : decode cX13_clearText 10 = .ok (.aload_n 0, 1) := dk_42 (dk_at dksX13_clearText_0 10 rfl rfl)
theorem dX13_clearText_11 : decode cX13_clearText 11 = .ok (.iconst 0, 1) := dk_3 (dk_at dksX13_clearText_0 11 rfl rfl)
theorem dX13_clearText_12 : decode cX13_clearText 12 = .ok (.putfield 249, 3) := dk_181 0 249 (dk_at dksX13_clearText_0 12 rfl rfl)
theorem dX13_clearText_15 : decode cX13_clearText 15 = .ok (.iload_n 1, 1) := dk_27 (dk_at dksX13_clearText_0 15 rfl rfl)
theorem dX13_clearText_16 : decode cX13_clearText 16 = .ok (.ireturn, 1) := dk_172 (dk_at dksX13_clearText_0 16 rfl rfl)
abbrev cX13_load : ByteArray := prog_28_method_102_code
def yX13_load : MethodName := ⟨RX13, "load", "()I"⟩
def dkwX13_load_7 : List UInt8 := [182, 0, 51, 42, 3, 181, 0, 249, 27, 172]
abbrev dktX13_load_7 : List UInt8 := dkwX13_load_7 ++ []
def dkwX13_load_6 : List UInt8 := [162, 0, 21, 42, 180, 0, 7, 28, 42, 180, 0, 13, 28, 46, 79, 132, 2, 1, 167, 255, 234, 42]
abbrev dktX13_load_6 : List UInt8 := dkwX13_load_6 ++ dktX13_load_7
def dkwX13_load_5 : List UInt8 := [154, 0, 12, 17, 252, 24, 42, 180, 1, 8, 100, 172, 42, 182, 0, 102, 3, 61, 28, 17, 1, 100]
abbrev dktX13_load_5 : List UInt8 := dkwX13_load_5 ++ dktX13_load_6
def dkwX13_load_4 : List UInt8 := [180, 0, 13, 28, 46, 79, 42, 180, 0, 13, 28, 29, 79, 132, 2, 1, 167, 255, 220, 42, 182, 1, 21]
abbrev dktX13_load_4 : List UInt8 := dkwX13_load_4 ++ dktX13_load_5
def dkwX13_load_3 : List UInt8 := [3, 61, 28, 17, 1, 100, 162, 0, 35, 42, 180, 0, 7, 28, 46, 62, 42, 180, 0, 7, 28, 42]
abbrev dktX13_load_3 : List UInt8 := dkwX13_load_3 ++ dktX13_load_4
def dkwX13_load_2 : List UInt8 := [42, 182, 1, 21, 153, 0, 20, 42, 180, 1, 5, 153, 0, 13, 42, 182, 1, 61, 132, 1, 1, 167, 255, 235]
abbrev dktX13_load_2 : List UInt8 := dkwX13_load_2 ++ dktX13_load_3
def dkwX13_load_1 : List UInt8 := [46, 79, 132, 1, 1, 167, 255, 234, 42, 3, 181, 0, 252, 42, 2, 181, 1, 8, 3, 60, 42, 182, 1, 27]
abbrev dktX13_load_1 : List UInt8 := dkwX13_load_1 ++ dktX13_load_2
def dkwX13_load_0 : List UInt8 := [42, 3, 181, 0, 43, 3, 60, 27, 17, 1, 100, 162, 0, 21, 42, 180, 0, 13, 27, 42, 180, 0, 7, 27]
abbrev dktX13_load_0 : List UInt8 := dkwX13_load_0 ++ dktX13_load_1
theorem dksX13_load_0 : cX13_load.data.toList.drop 0 = dktX13_load_0 := by decide +kernel
theorem dksX13_load_1 : cX13_load.data.toList.drop 24 = dktX13_load_1 := dk_seg dksX13_load_0 24 rfl rfl
theorem dksX13_load_2 : cX13_load.data.toList.drop 48 = dktX13_load_2 := dk_seg dksX13_load_1 24 rfl rfl
theorem dksX13_load_3 : cX13_load.data.toList.drop 72 = dktX13_load_3 := dk_seg dksX13_load_2 24 rfl rfl
theorem dksX13_load_4 : cX13_load.data.toList.drop 94 = dktX13_load_4 := dk_seg dksX13_load_3 22 rfl rfl
theorem dksX13_load_5 : cX13_load.data.toList.drop 117 = dktX13_load_5 := dk_seg dksX13_load_4 23 rfl rfl
theorem dksX13_load_6 : cX13_load.data.toList.drop 139 = dktX13_load_6 := dk_seg dksX13_load_5 22 rfl rfl
theorem dksX13_load_7 : cX13_load.data.toList.drop 161 = dktX13_load_7 := dk_seg dksX13_load_6 22 rfl rfl
theorem dX13_load_0 : decode cX13_load 0 = .ok (.aload_n 0, 1) := dk_42 (dk_at dksX13_load_0 0 rfl rfl)
theorem dX13_load_1 : decode cX13_load 1 = .ok (.iconst 0, 1) := dk_3 (dk_at dksX13_load_0 1 rfl rfl)
theorem dX13_load_2 : decode cX13_load 2 = .ok (.putfield 43, 3) := dk_181 0 43 (dk_at dksX13_load_0 2 rfl rfl)
theorem dX13_load_5 : decode cX13_load 5 = .ok (.iconst 0, 1) := dk_3 (dk_at dksX13_load_0 5 rfl rfl)
theorem dX13_load_6 : decode cX13_load 6 = .ok (.istore_n 1, 1) := dk_60 (dk_at dksX13_load_0 6 rfl rfl)
theorem dX13_load_7 : decode cX13_load 7 = .ok (.iload_n 1, 1) := dk_27 (dk_at dksX13_load_0 7 rfl rfl)
theorem dX13_load_8 : decode cX13_load 8 = .ok (.sipush 356, 3) := dk_17 1 100 (dk_at dksX13_load_0 8 rfl rfl)
theorem dX13_load_11 : decode cX13_load 11 = .ok (.if_icmp .ge 21, 3) := dk_162 0 21 (dk_at dksX13_load_0 11 rfl rfl)
theorem dX13_load_14 : decode cX13_load 14 = .ok (.aload_n 0, 1) := dk_42 (dk_at dksX13_load_0 14 rfl rfl)
theorem dX13_load_15 : decode cX13_load 15 = .ok (.getfield 13, 3) := dk_180 0 13 (dk_at dksX13_load_0 15 rfl rfl)
theorem dX13_load_18 : decode cX13_load 18 = .ok (.iload_n 1, 1) := dk_27 (dk_at dksX13_load_0 18 rfl rfl)
theorem dX13_load_19 : decode cX13_load 19 = .ok (.aload_n 0, 1) := dk_42 (dk_at dksX13_load_0 19 rfl rfl)
theorem dX13_load_20 : decode cX13_load 20 = .ok (.getfield 7, 3) := dk_180 0 7 (dk_at dksX13_load_0 20 rfl rfl)
theorem dX13_load_23 : decode cX13_load 23 = .ok (.iload_n 1, 1) := dk_27 (dk_at dksX13_load_0 23 rfl rfl)
theorem dX13_load_24 : decode cX13_load 24 = .ok (.iaload, 1) := dk_46 (dk_at dksX13_load_1 0 rfl rfl)
theorem dX13_load_25 : decode cX13_load 25 = .ok (.iastore, 1) := dk_79 (dk_at dksX13_load_1 1 rfl rfl)
theorem dX13_load_26 : decode cX13_load 26 = .ok (.iinc 1 1, 3) := dk_132 1 1 (dk_at dksX13_load_1 2 rfl rfl)
theorem dX13_load_29 : decode cX13_load 29 = .ok (.goto (-22), 3) := dk_167 255 234 (dk_at dksX13_load_1 5 rfl rfl)
theorem dX13_load_32 : decode cX13_load 32 = .ok (.aload_n 0, 1) := dk_42 (dk_at dksX13_load_1 8 rfl rfl)
theorem dX13_load_33 : decode cX13_load 33 = .ok (.iconst 0, 1) := dk_3 (dk_at dksX13_load_1 9 rfl rfl)
theorem dX13_load_34 : decode cX13_load 34 = .ok (.putfield 252, 3) := dk_181 0 252 (dk_at dksX13_load_1 10 rfl rfl)
theorem dX13_load_37 : decode cX13_load 37 = .ok (.aload_n 0, 1) := dk_42 (dk_at dksX13_load_1 13 rfl rfl)
theorem dX13_load_38 : decode cX13_load 38 = .ok (.iconst (-1), 1) := dk_2 (dk_at dksX13_load_1 14 rfl rfl)
theorem dX13_load_39 : decode cX13_load 39 = .ok (.putfield 264, 3) := dk_181 1 8 (dk_at dksX13_load_1 15 rfl rfl)
theorem dX13_load_42 : decode cX13_load 42 = .ok (.iconst 0, 1) := dk_3 (dk_at dksX13_load_1 18 rfl rfl)
theorem dX13_load_43 : decode cX13_load 43 = .ok (.istore_n 1, 1) := dk_60 (dk_at dksX13_load_1 19 rfl rfl)
theorem dX13_load_44 : decode cX13_load 44 = .ok (.aload_n 0, 1) := dk_42 (dk_at dksX13_load_1 20 rfl rfl)
theorem dX13_load_45 : decode cX13_load 45 = .ok (.invokevirtual 283, 3) := dk_182 1 27 (dk_at dksX13_load_1 21 rfl rfl)
theorem dX13_load_48 : decode cX13_load 48 = .ok (.aload_n 0, 1) := dk_42 (dk_at dksX13_load_2 0 rfl rfl)
theorem dX13_load_49 : decode cX13_load 49 = .ok (.invokevirtual 277, 3) := dk_182 1 21 (dk_at dksX13_load_2 1 rfl rfl)
theorem dX13_load_52 : decode cX13_load 52 = .ok (.ifCond .eq 20, 3) := dk_153 0 20 (dk_at dksX13_load_2 4 rfl rfl)
theorem dX13_load_55 : decode cX13_load 55 = .ok (.aload_n 0, 1) := dk_42 (dk_at dksX13_load_2 7 rfl rfl)
theorem dX13_load_56 : decode cX13_load 56 = .ok (.getfield 261, 3) := dk_180 1 5 (dk_at dksX13_load_2 8 rfl rfl)
theorem dX13_load_59 : decode cX13_load 59 = .ok (.ifCond .eq 13, 3) := dk_153 0 13 (dk_at dksX13_load_2 11 rfl rfl)
theorem dX13_load_62 : decode cX13_load 62 = .ok (.aload_n 0, 1) := dk_42 (dk_at dksX13_load_2 14 rfl rfl)
theorem dX13_load_63 : decode cX13_load 63 = .ok (.invokevirtual 317, 3) := dk_182 1 61 (dk_at dksX13_load_2 15 rfl rfl)
theorem dX13_load_66 : decode cX13_load 66 = .ok (.iinc 1 1, 3) := dk_132 1 1 (dk_at dksX13_load_2 18 rfl rfl)
theorem dX13_load_69 : decode cX13_load 69 = .ok (.goto (-21), 3) := dk_167 255 235 (dk_at dksX13_load_2 21 rfl rfl)
theorem dX13_load_72 : decode cX13_load 72 = .ok (.iconst 0, 1) := dk_3 (dk_at dksX13_load_3 0 rfl rfl)
theorem dX13_load_73 : decode cX13_load 73 = .ok (.istore_n 2, 1) := dk_61 (dk_at dksX13_load_3 1 rfl rfl)
theorem dX13_load_74 : decode cX13_load 74 = .ok (.iload_n 2, 1) := dk_28 (dk_at dksX13_load_3 2 rfl rfl)
theorem dX13_load_75 : decode cX13_load 75 = .ok (.sipush 356, 3) := dk_17 1 100 (dk_at dksX13_load_3 3 rfl rfl)
theorem dX13_load_78 : decode cX13_load 78 = .ok (.if_icmp .ge 35, 3) := dk_162 0 35 (dk_at dksX13_load_3 6 rfl rfl)
theorem dX13_load_81 : decode cX13_load 81 = .ok (.aload_n 0, 1) := dk_42 (dk_at dksX13_load_3 9 rfl rfl)
theorem dX13_load_82 : decode cX13_load 82 = .ok (.getfield 7, 3) := dk_180 0 7 (dk_at dksX13_load_3 10 rfl rfl)
theorem dX13_load_85 : decode cX13_load 85 = .ok (.iload_n 2, 1) := dk_28 (dk_at dksX13_load_3 13 rfl rfl)
theorem dX13_load_86 : decode cX13_load 86 = .ok (.iaload, 1) := dk_46 (dk_at dksX13_load_3 14 rfl rfl)
theorem dX13_load_87 : decode cX13_load 87 = .ok (.istore_n 3, 1) := dk_62 (dk_at dksX13_load_3 15 rfl rfl)
theorem dX13_load_88 : decode cX13_load 88 = .ok (.aload_n 0, 1) := dk_42 (dk_at dksX13_load_3 16 rfl rfl)
theorem dX13_load_89 : decode cX13_load 89 = .ok (.getfield 7, 3) := dk_180 0 7 (dk_at dksX13_load_3 17 rfl rfl)
theorem dX13_load_92 : decode cX13_load 92 = .ok (.iload_n 2, 1) := dk_28 (dk_at dksX13_load_3 20 rfl rfl)
theorem dX13_load_93 : decode cX13_load 93 = .ok (.aload_n 0, 1) := dk_42 (dk_at dksX13_load_3 21 rfl rfl)
theorem dX13_load_94 : decode cX13_load 94 = .ok (.getfield 13, 3) := dk_180 0 13 (dk_at dksX13_load_4 0 rfl rfl)
theorem dX13_load_97 : decode cX13_load 97 = .ok (.iload_n 2, 1) := dk_28 (dk_at dksX13_load_4 3 rfl rfl)
theorem dX13_load_98 : decode cX13_load 98 = .ok (.iaload, 1) := dk_46 (dk_at dksX13_load_4 4 rfl rfl)
theorem dX13_load_99 : decode cX13_load 99 = .ok (.iastore, 1) := dk_79 (dk_at dksX13_load_4 5 rfl rfl)
theorem dX13_load_100 : decode cX13_load 100 = .ok (.aload_n 0, 1) := dk_42 (dk_at dksX13_load_4 6 rfl rfl)
theorem dX13_load_101 : decode cX13_load 101 = .ok (.getfield 13, 3) := dk_180 0 13 (dk_at dksX13_load_4 7 rfl rfl)
theorem dX13_load_104 : decode cX13_load 104 = .ok (.iload_n 2, 1) := dk_28 (dk_at dksX13_load_4 10 rfl rfl)
theorem dX13_load_105 : decode cX13_load 105 = .ok (.iload_n 3, 1) := dk_29 (dk_at dksX13_load_4 11 rfl rfl)
theorem dX13_load_106 : decode cX13_load 106 = .ok (.iastore, 1) := dk_79 (dk_at dksX13_load_4 12 rfl rfl)
theorem dX13_load_107 : decode cX13_load 107 = .ok (.iinc 2 1, 3) := dk_132 2 1 (dk_at dksX13_load_4 13 rfl rfl)
theorem dX13_load_110 : decode cX13_load 110 = .ok (.goto (-36), 3) := dk_167 255 220 (dk_at dksX13_load_4 16 rfl rfl)
theorem dX13_load_113 : decode cX13_load 113 = .ok (.aload_n 0, 1) := dk_42 (dk_at dksX13_load_4 19 rfl rfl)
theorem dX13_load_114 : decode cX13_load 114 = .ok (.invokevirtual 277, 3) := dk_182 1 21 (dk_at dksX13_load_4 20 rfl rfl)
theorem dX13_load_117 : decode cX13_load 117 = .ok (.ifCond .ne 12, 3) := dk_154 0 12 (dk_at dksX13_load_5 0 rfl rfl)
theorem dX13_load_120 : decode cX13_load 120 = .ok (.sipush (-1000), 3) := dk_17 252 24 (dk_at dksX13_load_5 3 rfl rfl)
theorem dX13_load_123 : decode cX13_load 123 = .ok (.aload_n 0, 1) := dk_42 (dk_at dksX13_load_5 6 rfl rfl)
theorem dX13_load_124 : decode cX13_load 124 = .ok (.getfield 264, 3) := dk_180 1 8 (dk_at dksX13_load_5 7 rfl rfl)
theorem dX13_load_127 : decode cX13_load 127 = .ok (.isub, 1) := dk_100 (dk_at dksX13_load_5 10 rfl rfl)
theorem dX13_load_128 : decode cX13_load 128 = .ok (.ireturn, 1) := dk_172 (dk_at dksX13_load_5 11 rfl rfl)
theorem dX13_load_129 : decode cX13_load 129 = .ok (.aload_n 0, 1) := dk_42 (dk_at dksX13_load_5 12 rfl rfl)
theorem dX13_load_130 : decode cX13_load 130 = .ok (.invokevirtual 102, 3) := dk_182 0 102 (dk_at dksX13_load_5 13 rfl rfl)
theorem dX13_load_133 : decode cX13_load 133 = .ok (.iconst 0, 1) := dk_3 (dk_at dksX13_load_5 16 rfl rfl)
theorem dX13_load_134 : decode cX13_load 134 = .ok (.istore_n 2, 1) := dk_61 (dk_at dksX13_load_5 17 rfl rfl)
theorem dX13_load_135 : decode cX13_load 135 = .ok (.iload_n 2, 1) := dk_28 (dk_at dksX13_load_5 18 rfl rfl)
theorem dX13_load_136 : decode cX13_load 136 = .ok (.sipush 356, 3) := dk_17 1 100 (dk_at dksX13_load_5 19 rfl rfl)
theorem dX13_load_139 : decode cX13_load 139 = .ok (.if_icmp .ge 21, 3) := dk_162 0 21 (dk_at dksX13_load_6 0 rfl rfl)
theorem dX13_load_142 : decode cX13_load 142 = .ok (.aload_n 0, 1) := dk_42 (dk_at dksX13_load_6 3 rfl rfl)
theorem dX13_load_143 : decode cX13_load 143 = .ok (.getfield 7, 3) := dk_180 0 7 (dk_at dksX13_load_6 4 rfl rfl)
theorem dX13_load_146 : decode cX13_load 146 = .ok (.iload_n 2, 1) := dk_28 (dk_at dksX13_load_6 7 rfl rfl)
theorem dX13_load_147 : decode cX13_load 147 = .ok (.aload_n 0, 1) := dk_42 (dk_at dksX13_load_6 8 rfl rfl)
theorem dX13_load_148 : decode cX13_load 148 = .ok (.getfield 13, 3) := dk_180 0 13 (dk_at dksX13_load_6 9 rfl rfl)
theorem dX13_load_151 : decode cX13_load 151 = .ok (.iload_n 2, 1) := dk_28 (dk_at dksX13_load_6 12 rfl rfl)
theorem dX13_load_152 : decode cX13_load 152 = .ok (.iaload, 1) := dk_46 (dk_at dksX13_load_6 13 rfl rfl)
theorem dX13_load_153 : decode cX13_load 153 = .ok (.iastore, 1) := dk_79 (dk_at dksX13_load_6 14 rfl rfl)
theorem dX13_load_154 : decode cX13_load 154 = .ok (.iinc 2 1, 3) := dk_132 2 1 (dk_at dksX13_load_6 15 rfl rfl)
theorem dX13_load_157 : decode cX13_load 157 = .ok (.goto (-22), 3) := dk_167 255 234 (dk_at dksX13_load_6 18 rfl rfl)
theorem dX13_load_160 : decode cX13_load 160 = .ok (.aload_n 0, 1) := dk_42 (dk_at dksX13_load_6 21 rfl rfl)
theorem dX13_load_161 : decode cX13_load 161 = .ok (.invokevirtual 51, 3) := dk_182 0 51 (dk_at dksX13_load_7 0 rfl rfl)
theorem dX13_load_164 : decode cX13_load 164 = .ok (.aload_n 0, 1) := dk_42 (dk_at dksX13_load_7 3 rfl rfl)
theorem dX13_load_165 : decode cX13_load 165 = .ok (.iconst 0, 1) := dk_3 (dk_at dksX13_load_7 4 rfl rfl)
theorem dX13_load_166 : decode cX13_load 166 = .ok (.putfield 249, 3) := dk_181 0 249 (dk_at dksX13_load_7 5 rfl rfl)
theorem dX13_load_169 : decode cX13_load 169 = .ok (.iload_n 1, 1) := dk_27 (dk_at dksX13_load_7 8 rfl rfl)
theorem dX13_load_170 : decode cX13_load 170 = .ok (.ireturn, 1) := dk_172 (dk_at dksX13_load_7 9 rfl rfl)
abbrev cX13_goOn : ByteArray := prog_28_method_86_code
def yX13_goOn : MethodName := ⟨RX13, "goOn", "()V"⟩
def dkwX13_goOn_8 : List UInt8 := [167, 0, 4, 3, 96, 181, 0, 252, 177]
abbrev dktX13_goOn_8 : List UInt8 := dkwX13_goOn_8 ++ []
def dkwX13_goOn_7 : List UInt8 := [167, 0, 4, 3, 181, 1, 5, 42, 89, 180, 0, 252, 42, 180, 0, 255, 42, 180, 0, 249, 162, 0, 7, 4]
abbrev dktX13_goOn_7 : List UInt8 := dkwX13_goOn_7 ++ dktX13_goOn_8
def dkwX13_goOn_6 : List UInt8 := [180, 0, 252, 4, 96, 181, 0, 252, 167, 255, 228, 42, 42, 180, 0, 255, 42, 180, 0, 249, 162, 0, 7, 6]
abbrev dktX13_goOn_6 : List UInt8 := dkwX13_goOn_6 ++ dktX13_goOn_7
def dkwX13_goOn_5 : List UInt8 := [181, 1, 5, 42, 42, 180, 0, 252, 182, 1, 2, 16, 48, 16, 57, 184, 0, 65, 153, 0, 61, 42, 89]
abbrev dktX13_goOn_5 : List UInt8 := dkwX13_goOn_5 ++ dktX13_goOn_6
def dkwX13_goOn_4 : List UInt8 := [167, 255, 228, 42, 42, 180, 0, 255, 182, 1, 2, 16, 48, 16, 57, 184, 0, 65, 153, 0, 39, 42, 5]
abbrev dktX13_goOn_4 : List UInt8 := dkwX13_goOn_4 ++ dktX13_goOn_5
def dkwX13_goOn_3 : List UInt8 := [182, 1, 2, 16, 97, 16, 122, 184, 0, 65, 153, 0, 115, 42, 89, 180, 0, 252, 4, 96, 181, 0, 252]
abbrev dktX13_goOn_3 : List UInt8 := dkwX13_goOn_3 ++ dktX13_goOn_4
def dkwX13_goOn_2 : List UInt8 := [182, 1, 2, 16, 97, 16, 122, 184, 0, 65, 153, 0, 39, 42, 4, 181, 1, 5, 42, 42, 180, 0, 252]
abbrev dktX13_goOn_2 : List UInt8 := dkwX13_goOn_2 ++ dktX13_goOn_3
def dkwX13_goOn_1 : List UInt8 := [180, 0, 255, 4, 96, 181, 0, 255, 167, 255, 233, 42, 42, 180, 0, 255, 181, 0, 252, 42, 42, 180, 0, 255]
abbrev dktX13_goOn_1 : List UInt8 := dkwX13_goOn_1 ++ dktX13_goOn_2
def dkwX13_goOn_0 : List UInt8 := [42, 42, 180, 0, 252, 181, 0, 255, 42, 42, 180, 0, 255, 182, 1, 2, 16, 32, 160, 0, 16, 42, 89]
abbrev dktX13_goOn_0 : List UInt8 := dkwX13_goOn_0 ++ dktX13_goOn_1
theorem dksX13_goOn_0 : cX13_goOn.data.toList.drop 0 = dktX13_goOn_0 := by decide +kernel
theorem dksX13_goOn_1 : cX13_goOn.data.toList.drop 23 = dktX13_goOn_1 := dk_seg dksX13_goOn_0 23 rfl rfl
theorem dksX13_goOn_2 : cX13_goOn.data.toList.drop 47 = dktX13_goOn_2 := dk_seg dksX13_goOn_1 24 rfl rfl
theorem dksX13_goOn_3 : cX13_goOn.data.toList.drop 70 = dktX13_goOn_3 := dk_seg dksX13_goOn_2 23 rfl rfl
theorem dksX13_goOn_4 : cX13_goOn.data.toList.drop 93 = dktX13_goOn_4 := dk_seg dksX13_goOn_3 23 rfl rfl
theorem dksX13_goOn_5 : cX13_goOn.data.toList.drop 116 = dktX13_goOn_5 := dk_seg dksX13_goOn_4 23 rfl rfl
theorem dksX13_goOn_6 : cX13_goOn.data.toList.drop 139 = dktX13_goOn_6 := dk_seg dksX13_goOn_5 23 rfl rfl
theorem dksX13_goOn_7 : cX13_goOn.data.toList.drop 163 = dktX13_goOn_7 := dk_seg dksX13_goOn_6 24 rfl rfl
theorem dksX13_goOn_8 : cX13_goOn.data.toList.drop 187 = dktX13_goOn_8 := dk_seg dksX13_goOn_7 24 rfl rfl
theorem dX13_goOn_0 : decode cX13_goOn 0 = .ok (.aload_n 0, 1) := dk_42 (dk_at dksX13_goOn_0 0 rfl rfl)
theorem dX13_goOn_1 : decode cX13_goOn 1 = .ok (.aload_n 0, 1) := dk_42 (dk_at dksX13_goOn_0 1 rfl rfl)
theorem dX13_goOn_2 : decode cX13_goOn 2 = .ok (.getfield 252, 3) := dk_180 0 252 (dk_at dksX13_goOn_0 2 rfl rfl)
theorem dX13_goOn_5 : decode cX13_goOn 5 = .ok (.putfield 255, 3) := dk_181 0 255 (dk_at dksX13_goOn_0 5 rfl rfl)
theorem dX13_goOn_8 : decode cX13_goOn 8 = .ok (.aload_n 0, 1) := dk_42 (dk_at dksX13_goOn_0 8 rfl rfl)
theorem dX13_goOn_9 : decode cX13_goOn 9 = .ok (.aload_n 0, 1) := dk_42 (dk_at dksX13_goOn_0 9 rfl rfl)
theorem dX13_goOn_10 : decode cX13_goOn 10 = .ok (.getfield 255, 3) := dk_180 0 255 (dk_at dksX13_goOn_0 10 rfl rfl)
theorem dX13_goOn_13 : decode cX13_goOn 13 = .ok (.invokevirtual 258, 3) := dk_182 1 2 (dk_at dksX13_goOn_0 13 rfl rfl)
theorem dX13_goOn_16 : decode cX13_goOn 16 = .ok (.bipush 32, 2) := dk_16 32 (dk_at dksX13_goOn_0 16 rfl rfl)
theorem dX13_goOn_18 : decode cX13_goOn 18 = .ok (.if_icmp .ne 16, 3) := dk_160 0 16 (dk_at dksX13_goOn_0 18 rfl rfl)
theorem dX13_goOn_21 : decode cX13_goOn 21 = .ok (.aload_n 0, 1) := dk_42 (dk_at dksX13_goOn_0 21 rfl rfl)
theorem dX13_goOn_22 : decode cX13_goOn 22 = .ok (.dup, 1) := dk_89 (dk_at dksX13_goOn_0 22 rfl rfl)
theorem dX13_goOn_23 : decode cX13_goOn 23 = .ok (.getfield 255, 3) := dk_180 0 255 (dk_at dksX13_goOn_1 0 rfl rfl)
theorem dX13_goOn_26 : decode cX13_goOn 26 = .ok (.iconst 1, 1) := dk_4 (dk_at dksX13_goOn_1 3 rfl rfl)
theorem dX13_goOn_27 : decode cX13_goOn 27 = .ok (.iadd, 1) := dk_96 (dk_at dksX13_goOn_1 4 rfl rfl)
theorem dX13_goOn_28 : decode cX13_goOn 28 = .ok (.putfield 255, 3) := dk_181 0 255 (dk_at dksX13_goOn_1 5 rfl rfl)
theorem dX13_goOn_31 : decode cX13_goOn 31 = .ok (.goto (-23), 3) := dk_167 255 233 (dk_at dksX13_goOn_1 8 rfl rfl)
theorem dX13_goOn_34 : decode cX13_goOn 34 = .ok (.aload_n 0, 1) := dk_42 (dk_at dksX13_goOn_1 11 rfl rfl)
theorem dX13_goOn_35 : decode cX13_goOn 35 = .ok (.aload_n 0, 1) := dk_42 (dk_at dksX13_goOn_1 12 rfl rfl)
theorem dX13_goOn_36 : decode cX13_goOn 36 = .ok (.getfield 255, 3) := dk_180 0 255 (dk_at dksX13_goOn_1 13 rfl rfl)
theorem dX13_goOn_39 : decode cX13_goOn 39 = .ok (.putfield 252, 3) := dk_181 0 252 (dk_at dksX13_goOn_1 16 rfl rfl)
theorem dX13_goOn_42 : decode cX13_goOn 42 = .ok (.aload_n 0, 1) := dk_42 (dk_at dksX13_goOn_1 19 rfl rfl)
theorem dX13_goOn_43 : decode cX13_goOn 43 = .ok (.aload_n 0, 1) := dk_42 (dk_at dksX13_goOn_1 20 rfl rfl)
theorem dX13_goOn_44 : decode cX13_goOn 44 = .ok (.getfield 255, 3) := dk_180 0 255 (dk_at dksX13_goOn_1 21 rfl rfl)
theorem dX13_goOn_47 : decode cX13_goOn 47 = .ok (.invokevirtual 258, 3) := dk_182 1 2 (dk_at dksX13_goOn_2 0 rfl rfl)
theorem dX13_goOn_50 : decode cX13_goOn 50 = .ok (.bipush 97, 2) := dk_16 97 (dk_at dksX13_goOn_2 3 rfl rfl)
theorem dX13_goOn_52 : decode cX13_goOn 52 = .ok (.bipush 122, 2) := dk_16 122 (dk_at dksX13_goOn_2 5 rfl rfl)
theorem dX13_goOn_54 : decode cX13_goOn 54 = .ok (.invokestatic 65, 3) := dk_184 0 65 (dk_at dksX13_goOn_2 7 rfl rfl)
theorem dX13_goOn_57 : decode cX13_goOn 57 = .ok (.ifCond .eq 39, 3) := dk_153 0 39 (dk_at dksX13_goOn_2 10 rfl rfl)
theorem dX13_goOn_60 : decode cX13_goOn 60 = .ok (.aload_n 0, 1) := dk_42 (dk_at dksX13_goOn_2 13 rfl rfl)
theorem dX13_goOn_61 : decode cX13_goOn 61 = .ok (.iconst 1, 1) := dk_4 (dk_at dksX13_goOn_2 14 rfl rfl)
theorem dX13_goOn_62 : decode cX13_goOn 62 = .ok (.putfield 261, 3) := dk_181 1 5 (dk_at dksX13_goOn_2 15 rfl rfl)
theorem dX13_goOn_65 : decode cX13_goOn 65 = .ok (.aload_n 0, 1) := dk_42 (dk_at dksX13_goOn_2 18 rfl rfl)
theorem dX13_goOn_66 : decode cX13_goOn 66 = .ok (.aload_n 0, 1) := dk_42 (dk_at dksX13_goOn_2 19 rfl rfl)
theorem dX13_goOn_67 : decode cX13_goOn 67 = .ok (.getfield 252, 3) := dk_180 0 252 (dk_at dksX13_goOn_2 20 rfl rfl)
theorem dX13_goOn_70 : decode cX13_goOn 70 = .ok (.invokevirtual 258, 3) := dk_182 1 2 (dk_at dksX13_goOn_3 0 rfl rfl)
theorem dX13_goOn_73 : decode cX13_goOn 73 = .ok (.bipush 97, 2) := dk_16 97 (dk_at dksX13_goOn_3 3 rfl rfl)
theorem dX13_goOn_75 : decode cX13_goOn 75 = .ok (.bipush 122, 2) := dk_16 122 (dk_at dksX13_goOn_3 5 rfl rfl)
theorem dX13_goOn_77 : decode cX13_goOn 77 = .ok (.invokestatic 65, 3) := dk_184 0 65 (dk_at dksX13_goOn_3 7 rfl rfl)
theorem dX13_goOn_80 : decode cX13_goOn 80 = .ok (.ifCond .eq 115, 3) := dk_153 0 115 (dk_at dksX13_goOn_3 10 rfl rfl)
theorem dX13_goOn_83 : decode cX13_goOn 83 = .ok (.aload_n 0, 1) := dk_42 (dk_at dksX13_goOn_3 13 rfl rfl)
theorem dX13_goOn_84 : decode cX13_goOn 84 = .ok (.dup, 1) := dk_89 (dk_at dksX13_goOn_3 14 rfl rfl)
theorem dX13_goOn_85 : decode cX13_goOn 85 = .ok (.getfield 252, 3) := dk_180 0 252 (dk_at dksX13_goOn_3 15 rfl rfl)
theorem dX13_goOn_88 : decode cX13_goOn 88 = .ok (.iconst 1, 1) := dk_4 (dk_at dksX13_goOn_3 18 rfl rfl)
theorem dX13_goOn_89 : decode cX13_goOn 89 = .ok (.iadd, 1) := dk_96 (dk_at dksX13_goOn_3 19 rfl rfl)
theorem dX13_goOn_90 : decode cX13_goOn 90 = .ok (.putfield 252, 3) := dk_181 0 252 (dk_at dksX13_goOn_3 20 rfl rfl)
theorem dX13_goOn_93 : decode cX13_goOn 93 = .ok (.goto (-28), 3) := dk_167 255 228 (dk_at dksX13_goOn_4 0 rfl rfl)
theorem dX13_goOn_96 : decode cX13_goOn 96 = .ok (.aload_n 0, 1) := dk_42 (dk_at dksX13_goOn_4 3 rfl rfl)
theorem dX13_goOn_97 : decode cX13_goOn 97 = .ok (.aload_n 0, 1) := dk_42 (dk_at dksX13_goOn_4 4 rfl rfl)
theorem dX13_goOn_98 : decode cX13_goOn 98 = .ok (.getfield 255, 3) := dk_180 0 255 (dk_at dksX13_goOn_4 5 rfl rfl)
theorem dX13_goOn_101 : decode cX13_goOn 101 = .ok (.invokevirtual 258, 3) := dk_182 1 2 (dk_at dksX13_goOn_4 8 rfl rfl)
theorem dX13_goOn_104 : decode cX13_goOn 104 = .ok (.bipush 48, 2) := dk_16 48 (dk_at dksX13_goOn_4 11 rfl rfl)
theorem dX13_goOn_106 : decode cX13_goOn 106 = .ok (.bipush 57, 2) := dk_16 57 (dk_at dksX13_goOn_4 13 rfl rfl)
theorem dX13_goOn_108 : decode cX13_goOn 108 = .ok (.invokestatic 65, 3) := dk_184 0 65 (dk_at dksX13_goOn_4 15 rfl rfl)
theorem dX13_goOn_111 : decode cX13_goOn 111 = .ok (.ifCond .eq 39, 3) := dk_153 0 39 (dk_at dksX13_goOn_4 18 rfl rfl)
theorem dX13_goOn_114 : decode cX13_goOn 114 = .ok (.aload_n 0, 1) := dk_42 (dk_at dksX13_goOn_4 21 rfl rfl)
theorem dX13_goOn_115 : decode cX13_goOn 115 = .ok (.iconst 2, 1) := dk_5 (dk_at dksX13_goOn_4 22 rfl rfl)
theorem dX13_goOn_116 : decode cX13_goOn 116 = .ok (.putfield 261, 3) := dk_181 1 5 (dk_at dksX13_goOn_5 0 rfl rfl)
theorem dX13_goOn_119 : decode cX13_goOn 119 = .ok (.aload_n 0, 1) := dk_42 (dk_at dksX13_goOn_5 3 rfl rfl)
theorem dX13_goOn_120 : decode cX13_goOn 120 = .ok (.aload_n 0, 1) := dk_42 (dk_at dksX13_goOn_5 4 rfl rfl)
theorem dX13_goOn_121 : decode cX13_goOn 121 = .ok (.getfield 252, 3) := dk_180 0 252 (dk_at dksX13_goOn_5 5 rfl rfl)
theorem dX13_goOn_124 : decode cX13_goOn 124 = .ok (.invokevirtual 258, 3) := dk_182 1 2 (dk_at dksX13_goOn_5 8 rfl rfl)
theorem dX13_goOn_127 : decode cX13_goOn 127 = .ok (.bipush 48, 2) := dk_16 48 (dk_at dksX13_goOn_5 11 rfl rfl)
theorem dX13_goOn_129 : decode cX13_goOn 129 = .ok (.bipush 57, 2) := dk_16 57 (dk_at dksX13_goOn_5 13 rfl rfl)
theorem dX13_goOn_131 : decode cX13_goOn 131 = .ok (.invokestatic 65, 3) := dk_184 0 65 (dk_at dksX13_goOn_5 15 rfl rfl)
theorem dX13_goOn_134 : decode cX13_goOn 134 = .ok (.ifCond .eq 61, 3) := dk_153 0 61 (dk_at dksX13_goOn_5 18 rfl rfl)
theorem dX13_goOn_137 : decode cX13_goOn 137 = .ok (.aload_n 0, 1) := dk_42 (dk_at dksX13_goOn_5 21 rfl rfl)
theorem dX13_goOn_138 : decode cX13_goOn 138 = .ok (.dup, 1) := dk_89 (dk_at dksX13_goOn_5 22 rfl rfl)
theorem dX13_goOn_139 : decode cX13_goOn 139 = .ok (.getfield 252, 3) := dk_180 0 252 (dk_at dksX13_goOn_6 0 rfl rfl)
theorem dX13_goOn_142 : decode cX13_goOn 142 = .ok (.iconst 1, 1) := dk_4 (dk_at dksX13_goOn_6 3 rfl rfl)
theorem dX13_goOn_143 : decode cX13_goOn 143 = .ok (.iadd, 1) := dk_96 (dk_at dksX13_goOn_6 4 rfl rfl)
theorem dX13_goOn_144 : decode cX13_goOn 144 = .ok (.putfield 252, 3) := dk_181 0 252 (dk_at dksX13_goOn_6 5 rfl rfl)
theorem dX13_goOn_147 : decode cX13_goOn 147 = .ok (.goto (-28), 3) := dk_167 255 228 (dk_at dksX13_goOn_6 8 rfl rfl)
theorem dX13_goOn_150 : decode cX13_goOn 150 = .ok (.aload_n 0, 1) := dk_42 (dk_at dksX13_goOn_6 11 rfl rfl)
theorem dX13_goOn_151 : decode cX13_goOn 151 = .ok (.aload_n 0, 1) := dk_42 (dk_at dksX13_goOn_6 12 rfl rfl)
theorem dX13_goOn_152 : decode cX13_goOn 152 = .ok (.getfield 255, 3) := dk_180 0 255 (dk_at dksX13_goOn_6 13 rfl rfl)
theorem dX13_goOn_155 : decode cX13_goOn 155 = .ok (.aload_n 0, 1) := dk_42 (dk_at dksX13_goOn_6 16 rfl rfl)
theorem dX13_goOn_156 : decode cX13_goOn 156 = .ok (.getfield 249, 3) := dk_180 0 249 (dk_at dksX13_goOn_6 17 rfl rfl)
theorem dX13_goOn_159 : decode cX13_goOn 159 = .ok (.if_icmp .ge 7, 3) := dk_162 0 7 (dk_at dksX13_goOn_6 20 rfl rfl)
theorem dX13_goOn_162 : decode cX13_goOn 162 = .ok (.iconst 3, 1) := dk_6 (dk_at dksX13_goOn_6 23 rfl rfl)
theorem dX13_goOn_163 : decode cX13_goOn 163 = .ok (.goto 4, 3) := dk_167 0 4 (dk_at dksX13_goOn_7 0 rfl rfl)
theorem dX13_goOn_166 : decode cX13_goOn 166 = .ok (.iconst 0, 1) := dk_3 (dk_at dksX13_goOn_7 3 rfl rfl)
theorem dX13_goOn_167 : decode cX13_goOn 167 = .ok (.putfield 261, 3) := dk_181 1 5 (dk_at dksX13_goOn_7 4 rfl rfl)
theorem dX13_goOn_170 : decode cX13_goOn 170 = .ok (.aload_n 0, 1) := dk_42 (dk_at dksX13_goOn_7 7 rfl rfl)
theorem dX13_goOn_171 : decode cX13_goOn 171 = .ok (.dup, 1) := dk_89 (dk_at dksX13_goOn_7 8 rfl rfl)
theorem dX13_goOn_172 : decode cX13_goOn 172 = .ok (.getfield 252, 3) := dk_180 0 252 (dk_at dksX13_goOn_7 9 rfl rfl)
theorem dX13_goOn_175 : decode cX13_goOn 175 = .ok (.aload_n 0, 1) := dk_42 (dk_at dksX13_goOn_7 12 rfl rfl)
theorem dX13_goOn_176 : decode cX13_goOn 176 = .ok (.getfield 255, 3) := dk_180 0 255 (dk_at dksX13_goOn_7 13 rfl rfl)
theorem dX13_goOn_179 : decode cX13_goOn 179 = .ok (.aload_n 0, 1) := dk_42 (dk_at dksX13_goOn_7 16 rfl rfl)
theorem dX13_goOn_180 : decode cX13_goOn 180 = .ok (.getfield 249, 3) := dk_180 0 249 (dk_at dksX13_goOn_7 17 rfl rfl)
theorem dX13_goOn_183 : decode cX13_goOn 183 = .ok (.if_icmp .ge 7, 3) := dk_162 0 7 (dk_at dksX13_goOn_7 20 rfl rfl)
theorem dX13_goOn_186 : decode cX13_goOn 186 = .ok (.iconst 1, 1) := dk_4 (dk_at dksX13_goOn_7 23 rfl rfl)
theorem dX13_goOn_187 : decode cX13_goOn 187 = .ok (.goto 4, 3) := dk_167 0 4 (dk_at dksX13_goOn_8 0 rfl rfl)
theorem dX13_goOn_190 : decode cX13_goOn 190 = .ok (.iconst 0, 1) := dk_3 (dk_at dksX13_goOn_8 3 rfl rfl)
theorem dX13_goOn_191 : decode cX13_goOn 191 = .ok (.iadd, 1) := dk_96 (dk_at dksX13_goOn_8 4 rfl rfl)
theorem dX13_goOn_192 : decode cX13_goOn 192 = .ok (.putfield 252, 3) := dk_181 0 252 (dk_at dksX13_goOn_8 5 rfl rfl)
theorem dX13_goOn_195 : decode cX13_goOn 195 = .ok (.return_, 1) := dk_177 (dk_at dksX13_goOn_8 8 rfl rfl)
abbrev cX13_at : ByteArray := prog_28_method_85_code
def yX13_at : MethodName := ⟨RX13, "at", "(I)I"⟩
def dkwX13_at_0 : List UInt8 := [27, 42, 180, 0, 249, 162, 0, 12, 42, 180, 0, 19, 27, 46, 167, 0, 4, 3, 172]
abbrev dktX13_at_0 : List UInt8 := dkwX13_at_0 ++ []
theorem dksX13_at_0 : cX13_at.data.toList.drop 0 = dktX13_at_0 := by decide +kernel
theorem dX13_at_0 : decode cX13_at 0 = .ok (.iload_n 1, 1) := dk_27 (dk_at dksX13_at_0 0 rfl rfl)
theorem dX13_at_1 : decode cX13_at 1 = .ok (.aload_n 0, 1) := dk_42 (dk_at dksX13_at_0 1 rfl rfl)
theorem dX13_at_2 : decode cX13_at 2 = .ok (.getfield 249, 3) := dk_180 0 249 (dk_at dksX13_at_0 2 rfl rfl)
theorem dX13_at_5 : decode cX13_at 5 = .ok (.if_icmp .ge 12, 3) := dk_162 0 12 (dk_at dksX13_at_0 5 rfl rfl)
theorem dX13_at_8 : decode cX13_at 8 = .ok (.aload_n 0, 1) := dk_42 (dk_at dksX13_at_0 8 rfl rfl)
theorem dX13_at_9 : decode cX13_at 9 = .ok (.getfield 19, 3) := dk_180 0 19 (dk_at dksX13_at_0 9 rfl rfl)
theorem dX13_at_12 : decode cX13_at 12 = .ok (.iload_n 1, 1) := dk_27 (dk_at dksX13_at_0 12 rfl rfl)
theorem dX13_at_13 : decode cX13_at 13 = .ok (.iaload, 1) := dk_46 (dk_at dksX13_at_0 13 rfl rfl)
theorem dX13_at_14 : decode cX13_at 14 = .ok (.goto 4, 3) := dk_167 0 4 (dk_at dksX13_at_0 14 rfl rfl)
theorem dX13_at_17 : decode cX13_at 17 = .ok (.iconst 0, 1) := dk_3 (dk_at dksX13_at_0 17 rfl rfl)
theorem dX13_at_18 : decode cX13_at 18 = .ok (.ireturn, 1) := dk_172 (dk_at dksX13_at_0 18 rfl rfl)
abbrev cX13_isWell : ByteArray := prog_28_method_87_code
def yX13_isWell : MethodName := ⟨RX13, "isWell", "()Z"⟩
def dkwX13_isWell_0 : List UInt8 := [42, 180, 1, 8, 156, 0, 7, 4, 167, 0, 4, 3, 172]
abbrev dktX13_isWell_0 : List UInt8 := dkwX13_isWell_0 ++ []
theorem dksX13_isWell_0 : cX13_isWell.data.toList.drop 0 = dktX13_isWell_0 := by decide +kernel
theorem dX13_isWell_0 : decode cX13_isWell 0 = .ok (.aload_n 0, 1) := dk_42 (dk_at dksX13_isWell_0 0 rfl rfl)
theorem dX13_isWell_1 : decode cX13_isWell 1 = .ok (.getfield 264, 3) := dk_180 1 8 (dk_at dksX13_isWell_0 1 rfl rfl)
theorem dX13_isWell_4 : decode cX13_isWell 4 = .ok (.ifCond .ge 7, 3) := dk_156 0 7 (dk_at dksX13_isWell_0 4 rfl rfl)
theorem dX13_isWell_7 : decode cX13_isWell 7 = .ok (.iconst 1, 1) := dk_4 (dk_at dksX13_isWell_0 7 rfl rfl)
theorem dX13_isWell_8 : decode cX13_isWell 8 = .ok (.goto 4, 3) := dk_167 0 4 (dk_at dksX13_isWell_0 8 rfl rfl)
theorem dX13_isWell_11 : decode cX13_isWell 11 = .ok (.iconst 0, 1) := dk_3 (dk_at dksX13_isWell_0 11 rfl rfl)
theorem dX13_isWell_12 : decode cX13_isWell 12 = .ok (.ireturn, 1) := dk_172 (dk_at dksX13_isWell_0 12 rfl rfl)
abbrev cX13_readItem : ByteArray := prog_28_method_101_code
def yX13_readItem : MethodName := ⟨RX13, "readItem", "()V"⟩
def dkwX13_readItem_4 : List UInt8 := [182, 1, 24, 42, 182, 1, 21, 153, 0, 7, 42, 182, 1, 27, 177]
abbrev dktX13_readItem_4 : List UInt8 := dkwX13_readItem_4 ++ []
def dkwX13_readItem_3 : List UInt8 := [167, 0, 8, 42, 27, 182, 1, 58, 42, 182, 1, 21, 153, 0, 14, 42, 182, 1, 30, 154, 0, 7, 42]
abbrev dktX13_readItem_3 : List UInt8 := dkwX13_readItem_3 ++ dktX13_readItem_4
def dkwX13_readItem_2 : List UInt8 := [167, 0, 32, 27, 4, 160, 0, 10, 42, 182, 1, 52, 167, 0, 20, 27, 8, 160, 0, 10, 42, 182, 1, 55]
abbrev dktX13_readItem_2 : List UInt8 := dkwX13_readItem_2 ++ dktX13_readItem_3
def dkwX13_readItem_1 : List UInt8 := [16, 6, 160, 0, 8, 42, 182, 1, 24, 177, 42, 182, 1, 27, 27, 154, 0, 10, 42, 182, 1, 49]
abbrev dktX13_readItem_1 : List UInt8 := dkwX13_readItem_1 ++ dktX13_readItem_2
def dkwX13_readItem_0 : List UInt8 := [3, 60, 27, 16, 6, 162, 0, 17, 42, 27, 182, 1, 36, 154, 0, 9, 132, 1, 1, 167, 255, 239, 27]
abbrev dktX13_readItem_0 : List UInt8 := dkwX13_readItem_0 ++ dktX13_readItem_1
theorem dksX13_readItem_0 : cX13_readItem.data.toList.drop 0 = dktX13_readItem_0 := by decide +kernel
theorem dksX13_readItem_1 : cX13_readItem.data.toList.drop 23 = dktX13_readItem_1 := dk_seg dksX13_readItem_0 23 rfl rfl
theorem dksX13_readItem_2 : cX13_readItem.data.toList.drop 45 = dktX13_readItem_2 := dk_seg dksX13_readItem_1 22 rfl rfl
theorem dksX13_readItem_3 : cX13_readItem.data.toList.drop 69 = dktX13_readItem_3 := dk_seg dksX13_readItem_2 24 rfl rfl
theorem dksX13_readItem_4 : cX13_readItem.data.toList.drop 92 = dktX13_readItem_4 := dk_seg dksX13_readItem_3 23 rfl rfl
theorem dX13_readItem_0 : decode cX13_readItem 0 = .ok (.iconst 0, 1) := dk_3 (dk_at dksX13_readItem_0 0 rfl rfl)
theorem dX13_readItem_1 : decode cX13_readItem 1 = .ok (.istore_n 1, 1) := dk_60 (dk_at dksX13_readItem_0 1 rfl rfl)
theorem dX13_readItem_2 : decode cX13_readItem 2 = .ok (.iload_n 1, 1) := dk_27 (dk_at dksX13_readItem_0 2 rfl rfl)
theorem dX13_readItem_3 : decode cX13_readItem 3 = .ok (.bipush 6, 2) := dk_16 6 (dk_at dksX13_readItem_0 3 rfl rfl)
theorem dX13_readItem_5 : decode cX13_readItem 5 = .ok (.if_icmp .ge 17, 3) := dk_162 0 17 (dk_at dksX13_readItem_0 5 rfl rfl)
theorem dX13_readItem_8 : decode cX13_readItem 8 = .ok (.aload_n 0, 1) := dk_42 (dk_at dksX13_readItem_0 8 rfl rfl)
theorem dX13_readItem_9 : decode cX13_readItem 9 = .ok (.iload_n 1, 1) := dk_27 (dk_at dksX13_readItem_0 9 rfl rfl)
theorem dX13_readItem_10 : decode cX13_readItem 10 = .ok (.invokevirtual 292, 3) := dk_182 1 36 (dk_at dksX13_readItem_0 10 rfl rfl)
theorem dX13_readItem_13 : decode cX13_readItem 13 = .ok (.ifCond .ne 9, 3) := dk_154 0 9 (dk_at dksX13_readItem_0 13 rfl rfl)
theorem dX13_readItem_16 : decode cX13_readItem 16 = .ok (.iinc 1 1, 3) := dk_132 1 1 (dk_at dksX13_readItem_0 16 rfl rfl)
theorem dX13_readItem_19 : decode cX13_readItem 19 = .ok (.goto (-17), 3) := dk_167 255 239 (dk_at dksX13_readItem_0 19 rfl rfl)
theorem dX13_readItem_22 : decode cX13_readItem 22 = .ok (.iload_n 1, 1) := dk_27 (dk_at dksX13_readItem_0 22 rfl rfl)
theorem dX13_readItem_23 : decode cX13_readItem 23 = .ok (.bipush 6, 2) := dk_16 6 (dk_at dksX13_readItem_1 0 rfl rfl)
theorem dX13_readItem_25 : decode cX13_readItem 25 = .ok (.if_icmp .ne 8, 3) := dk_160 0 8 (dk_at dksX13_readItem_1 2 rfl rfl)
theorem dX13_readItem_28 : decode cX13_readItem 28 = .ok (.aload_n 0, 1) := dk_42 (dk_at dksX13_readItem_1 5 rfl rfl)
theorem dX13_readItem_29 : decode cX13_readItem 29 = .ok (.invokevirtual 280, 3) := dk_182 1 24 (dk_at dksX13_readItem_1 6 rfl rfl)
theorem dX13_readItem_32 : decode cX13_readItem 32 = .ok (.return_, 1) := dk_177 (dk_at dksX13_readItem_1 9 rfl rfl)
theorem dX13_readItem_33 : decode cX13_readItem 33 = .ok (.aload_n 0, 1) := dk_42 (dk_at dksX13_readItem_1 10 rfl rfl)
theorem dX13_readItem_34 : decode cX13_readItem 34 = .ok (.invokevirtual 283, 3) := dk_182 1 27 (dk_at dksX13_readItem_1 11 rfl rfl)
theorem dX13_readItem_37 : decode cX13_readItem 37 = .ok (.iload_n 1, 1) := dk_27 (dk_at dksX13_readItem_1 14 rfl rfl)
theorem dX13_readItem_38 : decode cX13_readItem 38 = .ok (.ifCond .ne 10, 3) := dk_154 0 10 (dk_at dksX13_readItem_1 15 rfl rfl)
theorem dX13_readItem_41 : decode cX13_readItem 41 = .ok (.aload_n 0, 1) := dk_42 (dk_at dksX13_readItem_1 18 rfl rfl)
theorem dX13_readItem_42 : decode cX13_readItem 42 = .ok (.invokevirtual 305, 3) := dk_182 1 49 (dk_at dksX13_readItem_1 19 rfl rfl)
theorem dX13_readItem_45 : decode cX13_readItem 45 = .ok (.goto 32, 3) := dk_167 0 32 (dk_at dksX13_readItem_2 0 rfl rfl)
theorem dX13_readItem_48 : decode cX13_readItem 48 = .ok (.iload_n 1, 1) := dk_27 (dk_at dksX13_readItem_2 3 rfl rfl)
theorem dX13_readItem_49 : decode cX13_readItem 49 = .ok (.iconst 1, 1) := dk_4 (dk_at dksX13_readItem_2 4 rfl rfl)
theorem dX13_readItem_50 : decode cX13_readItem 50 = .ok (.if_icmp .ne 10, 3) := dk_160 0 10 (dk_at dksX13_readItem_2 5 rfl rfl)
theorem dX13_readItem_53 : decode cX13_readItem 53 = .ok (.aload_n 0, 1) := dk_42 (dk_at dksX13_readItem_2 8 rfl rfl)
theorem dX13_readItem_54 : decode cX13_readItem 54 = .ok (.invokevirtual 308, 3) := dk_182 1 52 (dk_at dksX13_readItem_2 9 rfl rfl)
theorem dX13_readItem_57 : decode cX13_readItem 57 = .ok (.goto 20, 3) := dk_167 0 20 (dk_at dksX13_readItem_2 12 rfl rfl)
theorem dX13_readItem_60 : decode cX13_readItem 60 = .ok (.iload_n 1, 1) := dk_27 (dk_at dksX13_readItem_2 15 rfl rfl)
theorem dX13_readItem_61 : decode cX13_readItem 61 = .ok (.iconst 5, 1) := dk_8 (dk_at dksX13_readItem_2 16 rfl rfl)
theorem dX13_readItem_62 : decode cX13_readItem 62 = .ok (.if_icmp .ne 10, 3) := dk_160 0 10 (dk_at dksX13_readItem_2 17 rfl rfl)
theorem dX13_readItem_65 : decode cX13_readItem 65 = .ok (.aload_n 0, 1) := dk_42 (dk_at dksX13_readItem_2 20 rfl rfl)
theorem dX13_readItem_66 : decode cX13_readItem 66 = .ok (.invokevirtual 311, 3) := dk_182 1 55 (dk_at dksX13_readItem_2 21 rfl rfl)
theorem dX13_readItem_69 : decode cX13_readItem 69 = .ok (.goto 8, 3) := dk_167 0 8 (dk_at dksX13_readItem_3 0 rfl rfl)
theorem dX13_readItem_72 : decode cX13_readItem 72 = .ok (.aload_n 0, 1) := dk_42 (dk_at dksX13_readItem_3 3 rfl rfl)
theorem dX13_readItem_73 : decode cX13_readItem 73 = .ok (.iload_n 1, 1) := dk_27 (dk_at dksX13_readItem_3 4 rfl rfl)
theorem dX13_readItem_74 : decode cX13_readItem 74 = .ok (.invokevirtual 314, 3) := dk_182 1 58 (dk_at dksX13_readItem_3 5 rfl rfl)
theorem dX13_readItem_77 : decode cX13_readItem 77 = .ok (.aload_n 0, 1) := dk_42 (dk_at dksX13_readItem_3 8 rfl rfl)
theorem dX13_readItem_78 : decode cX13_readItem 78 = .ok (.invokevirtual 277, 3) := dk_182 1 21 (dk_at dksX13_readItem_3 9 rfl rfl)
theorem dX13_readItem_81 : decode cX13_readItem 81 = .ok (.ifCond .eq 14, 3) := dk_153 0 14 (dk_at dksX13_readItem_3 12 rfl rfl)
theorem dX13_readItem_84 : decode cX13_readItem 84 = .ok (.aload_n 0, 1) := dk_42 (dk_at dksX13_readItem_3 15 rfl rfl)
theorem dX13_readItem_85 : decode cX13_readItem 85 = .ok (.invokevirtual 286, 3) := dk_182 1 30 (dk_at dksX13_readItem_3 16 rfl rfl)
theorem dX13_readItem_88 : decode cX13_readItem 88 = .ok (.ifCond .ne 7, 3) := dk_154 0 7 (dk_at dksX13_readItem_3 19 rfl rfl)
theorem dX13_readItem_91 : decode cX13_readItem 91 = .ok (.aload_n 0, 1) := dk_42 (dk_at dksX13_readItem_3 22 rfl rfl)
theorem dX13_readItem_92 : decode cX13_readItem 92 = .ok (.invokevirtual 280, 3) := dk_182 1 24 (dk_at dksX13_readItem_4 0 rfl rfl)
theorem dX13_readItem_95 : decode cX13_readItem 95 = .ok (.aload_n 0, 1) := dk_42 (dk_at dksX13_readItem_4 3 rfl rfl)
theorem dX13_readItem_96 : decode cX13_readItem 96 = .ok (.invokevirtual 277, 3) := dk_182 1 21 (dk_at dksX13_readItem_4 4 rfl rfl)
theorem dX13_readItem_99 : decode cX13_readItem 99 = .ok (.ifCond .eq 7, 3) := dk_153 0 7 (dk_at dksX13_readItem_4 7 rfl rfl)
theorem dX13_readItem_102 : decode cX13_readItem 102 = .ok (.aload_n 0, 1) := dk_42 (dk_at dksX13_readItem_4 10 rfl rfl)
theorem dX13_readItem_103 : decode cX13_readItem 103 = .ok (.invokevirtual 283, 3) := dk_182 1 27 (dk_at dksX13_readItem_4 11 rfl rfl)
theorem dX13_readItem_106 : decode cX13_readItem 106 = .ok (.return_, 1) := dk_177 (dk_at dksX13_readItem_4 14 rfl rfl)
abbrev cX13_isWord : ByteArray := prog_28_method_91_code
def yX13_isWord : MethodName := ⟨RX13, "isWord", "(I)Z"⟩
def dkwX13_isWord_3 : List UInt8 := [4, 167, 0, 4, 3, 61, 132, 3, 1, 167, 255, 195, 28, 172]
abbrev dktX13_isWord_3 : List UInt8 := dkwX13_isWord_3 ++ []
def dkwX13_isWord_2 : List UInt8 := [180, 0, 255, 100, 162, 0, 16, 42, 42, 180, 0, 255, 29, 96, 182, 1, 2, 167, 0, 4, 3, 160, 0, 7]
abbrev dktX13_isWord_2 : List UInt8 := dkwX13_isWord_2 ++ dktX13_isWord_3
def dkwX13_isWord_1 : List UInt8 := [180, 0, 255, 100, 163, 0, 54, 28, 153, 0, 50, 27, 29, 184, 1, 15, 29, 42, 180, 0, 252, 42]
abbrev dktX13_isWord_1 : List UInt8 := dkwX13_isWord_1 ++ dktX13_isWord_2
def dkwX13_isWord_0 : List UInt8 := [42, 180, 1, 5, 4, 160, 0, 7, 4, 167, 0, 4, 3, 61, 3, 62, 29, 42, 180, 0, 252, 42]
abbrev dktX13_isWord_0 : List UInt8 := dkwX13_isWord_0 ++ dktX13_isWord_1
theorem dksX13_isWord_0 : cX13_isWord.data.toList.drop 0 = dktX13_isWord_0 := by decide +kernel
theorem dksX13_isWord_1 : cX13_isWord.data.toList.drop 22 = dktX13_isWord_1 := dk_seg dksX13_isWord_0 22 rfl rfl
theorem dksX13_isWord_2 : cX13_isWord.data.toList.drop 44 = dktX13_isWord_2 := dk_seg dksX13_isWord_1 22 rfl rfl
theorem dksX13_isWord_3 : cX13_isWord.data.toList.drop 68 = dktX13_isWord_3 := dk_seg dksX13_isWord_2 24 rfl rfl
theorem dX13_isWord_0 : decode cX13_isWord 0 = .ok (.aload_n 0, 1) := dk_42 (dk_at dksX13_isWord_0 0 rfl rfl)
theorem dX13_isWord_1 : decode cX13_isWord 1 = .ok (.getfield 261, 3) := dk_180 1 5 (dk_at dksX13_isWord_0 1 rfl rfl)
theorem dX13_isWord_4 : decode cX13_isWord 4 = .ok (.iconst 1, 1) := dk_4 (dk_at dksX13_isWord_0 4 rfl rfl)
theorem dX13_isWord_5 : decode cX13_isWord 5 = .ok (.if_icmp .ne 7, 3) := dk_160 0 7 (dk_at dksX13_isWord_0 5 rfl rfl)
theorem dX13_isWord_8 : decode cX13_isWord 8 = .ok (.iconst 1, 1) := dk_4 (dk_at dksX13_isWord_0 8 rfl rfl)
theorem dX13_isWord_9 : decode cX13_isWord 9 = .ok (.goto 4, 3) := dk_167 0 4 (dk_at dksX13_isWord_0 9 rfl rfl)
theorem dX13_isWord_12 : decode cX13_isWord 12 = .ok (.iconst 0, 1) := dk_3 (dk_at dksX13_isWord_0 12 rfl rfl)
theorem dX13_isWord_13 : decode cX13_isWord 13 = .ok (.istore_n 2, 1) := dk_61 (dk_at dksX13_isWord_0 13 rfl rfl)
theorem dX13_isWord_14 : decode cX13_isWord 14 = .ok (.iconst 0, 1) := dk_3 (dk_at dksX13_isWord_0 14 rfl rfl)
theorem dX13_isWord_15 : decode cX13_isWord 15 = .ok (.istore_n 3, 1) := dk_62 (dk_at dksX13_isWord_0 15 rfl rfl)
theorem dX13_isWord_16 : decode cX13_isWord 16 = .ok (.iload_n 3, 1) := dk_29 (dk_at dksX13_isWord_0 16 rfl rfl)
theorem dX13_isWord_17 : decode cX13_isWord 17 = .ok (.aload_n 0, 1) := dk_42 (dk_at dksX13_isWord_0 17 rfl rfl)
theorem dX13_isWord_18 : decode cX13_isWord 18 = .ok (.getfield 252, 3) := dk_180 0 252 (dk_at dksX13_isWord_0 18 rfl rfl)
theorem dX13_isWord_21 : decode cX13_isWord 21 = .ok (.aload_n 0, 1) := dk_42 (dk_at dksX13_isWord_0 21 rfl rfl)
theorem dX13_isWord_22 : decode cX13_isWord 22 = .ok (.getfield 255, 3) := dk_180 0 255 (dk_at dksX13_isWord_1 0 rfl rfl)
theorem dX13_isWord_25 : decode cX13_isWord 25 = .ok (.isub, 1) := dk_100 (dk_at dksX13_isWord_1 3 rfl rfl)
theorem dX13_isWord_26 : decode cX13_isWord 26 = .ok (.if_icmp .gt 54, 3) := dk_163 0 54 (dk_at dksX13_isWord_1 4 rfl rfl)
theorem dX13_isWord_29 : decode cX13_isWord 29 = .ok (.iload_n 2, 1) := dk_28 (dk_at dksX13_isWord_1 7 rfl rfl)
theorem dX13_isWord_30 : decode cX13_isWord 30 = .ok (.ifCond .eq 50, 3) := dk_153 0 50 (dk_at dksX13_isWord_1 8 rfl rfl)
theorem dX13_isWord_33 : decode cX13_isWord 33 = .ok (.iload_n 1, 1) := dk_27 (dk_at dksX13_isWord_1 11 rfl rfl)
theorem dX13_isWord_34 : decode cX13_isWord 34 = .ok (.iload_n 3, 1) := dk_29 (dk_at dksX13_isWord_1 12 rfl rfl)
theorem dX13_isWord_35 : decode cX13_isWord 35 = .ok (.invokestatic 271, 3) := dk_184 1 15 (dk_at dksX13_isWord_1 13 rfl rfl)
theorem dX13_isWord_38 : decode cX13_isWord 38 = .ok (.iload_n 3, 1) := dk_29 (dk_at dksX13_isWord_1 16 rfl rfl)
theorem dX13_isWord_39 : decode cX13_isWord 39 = .ok (.aload_n 0, 1) := dk_42 (dk_at dksX13_isWord_1 17 rfl rfl)
theorem dX13_isWord_40 : decode cX13_isWord 40 = .ok (.getfield 252, 3) := dk_180 0 252 (dk_at dksX13_isWord_1 18 rfl rfl)
theorem dX13_isWord_43 : decode cX13_isWord 43 = .ok (.aload_n 0, 1) := dk_42 (dk_at dksX13_isWord_1 21 rfl rfl)
theorem dX13_isWord_44 : decode cX13_isWord 44 = .ok (.getfield 255, 3) := dk_180 0 255 (dk_at dksX13_isWord_2 0 rfl rfl)
theorem dX13_isWord_47 : decode cX13_isWord 47 = .ok (.isub, 1) := dk_100 (dk_at dksX13_isWord_2 3 rfl rfl)
theorem dX13_isWord_48 : decode cX13_isWord 48 = .ok (.if_icmp .ge 16, 3) := dk_162 0 16 (dk_at dksX13_isWord_2 4 rfl rfl)
theorem dX13_isWord_51 : decode cX13_isWord 51 = .ok (.aload_n 0, 1) := dk_42 (dk_at dksX13_isWord_2 7 rfl rfl)
theorem dX13_isWord_52 : decode cX13_isWord 52 = .ok (.aload_n 0, 1) := dk_42 (dk_at dksX13_isWord_2 8 rfl rfl)
theorem dX13_isWord_53 : decode cX13_isWord 53 = .ok (.getfield 255, 3) := dk_180 0 255 (dk_at dksX13_isWord_2 9 rfl rfl)
theorem dX13_isWord_56 : decode cX13_isWord 56 = .ok (.iload_n 3, 1) := dk_29 (dk_at dksX13_isWord_2 12 rfl rfl)
theorem dX13_isWord_57 : decode cX13_isWord 57 = .ok (.iadd, 1) := dk_96 (dk_at dksX13_isWord_2 13 rfl rfl)
theorem dX13_isWord_58 : decode cX13_isWord 58 = .ok (.invokevirtual 258, 3) := dk_182 1 2 (dk_at dksX13_isWord_2 14 rfl rfl)
theorem dX13_isWord_61 : decode cX13_isWord 61 = .ok (.goto 4, 3) := dk_167 0 4 (dk_at dksX13_isWord_2 17 rfl rfl)
theorem dX13_isWord_64 : decode cX13_isWord 64 = .ok (.iconst 0, 1) := dk_3 (dk_at dksX13_isWord_2 20 rfl rfl)
theorem dX13_isWord_65 : decode cX13_isWord 65 = .ok (.if_icmp .ne 7, 3) := dk_160 0 7 (dk_at dksX13_isWord_2 21 rfl rfl)
theorem dX13_isWord_68 : decode cX13_isWord 68 = .ok (.iconst 1, 1) := dk_4 (dk_at dksX13_isWord_3 0 rfl rfl)
theorem dX13_isWord_69 : decode cX13_isWord 69 = .ok (.goto 4, 3) := dk_167 0 4 (dk_at dksX13_isWord_3 1 rfl rfl)
theorem dX13_isWord_72 : decode cX13_isWord 72 = .ok (.iconst 0, 1) := dk_3 (dk_at dksX13_isWord_3 4 rfl rfl)
theorem dX13_isWord_73 : decode cX13_isWord 73 = .ok (.istore_n 2, 1) := dk_61 (dk_at dksX13_isWord_3 5 rfl rfl)
theorem dX13_isWord_74 : decode cX13_isWord 74 = .ok (.iinc 3 1, 3) := dk_132 3 1 (dk_at dksX13_isWord_3 6 rfl rfl)
theorem dX13_isWord_77 : decode cX13_isWord 77 = .ok (.goto (-61), 3) := dk_167 255 195 (dk_at dksX13_isWord_3 9 rfl rfl)
theorem dX13_isWord_80 : decode cX13_isWord 80 = .ok (.iload_n 2, 1) := dk_28 (dk_at dksX13_isWord_3 12 rfl rfl)
theorem dX13_isWord_81 : decode cX13_isWord 81 = .ok (.ireturn, 1) := dk_172 (dk_at dksX13_isWord_3 13 rfl rfl)
abbrev cX13_letterOf : ByteArray := prog_28_method_89_code
def yX13_letterOf : MethodName := ⟨RX13, "letterOf", "(II)I"⟩
def dkwX13_letterOf_7 : List UInt8 := [184, 1, 11, 172]
abbrev dktX13_letterOf_7 : List UInt8 := dkwX13_letterOf_7 ++ []
def dkwX13_letterOf_6 : List UInt8 := [16, 110, 16, 111, 16, 110, 16, 101, 3, 3, 184, 1, 11, 172, 27, 16, 97, 16, 108, 16, 108, 3, 3, 3]
abbrev dktX13_letterOf_6 : List UInt8 := dkwX13_letterOf_6 ++ dktX13_letterOf_7
def dkwX13_letterOf_5 : List UInt8 := [16, 115, 3, 184, 1, 11, 172, 27, 16, 99, 16, 111, 16, 115, 16, 116, 16, 115, 3, 184, 1, 11, 172, 27]
abbrev dktX13_letterOf_5 : List UInt8 := dkwX13_letterOf_5 ++ dktX13_letterOf_6
def dkwX13_letterOf_4 : List UInt8 := [16, 115, 16, 117, 16, 109, 16, 115, 3, 3, 184, 1, 11, 172, 27, 16, 114, 16, 117, 16, 108, 16, 101]
abbrev dktX13_letterOf_4 : List UInt8 := dkwX13_letterOf_4 ++ dktX13_letterOf_5
def dkwX13_letterOf_3 : List UInt8 := [16, 101, 16, 114, 184, 1, 11, 172, 27, 16, 103, 16, 105, 16, 118, 16, 101, 3, 3, 184, 1, 11, 172, 27]
abbrev dktX13_letterOf_3 : List UInt8 := dkwX13_letterOf_3 ++ dktX13_letterOf_4
def dkwX13_letterOf_2 : List UInt8 := [27, 16, 112, 16, 97, 16, 103, 16, 101, 3, 3, 184, 1, 11, 172, 27, 16, 97, 16, 110, 16, 115, 16, 119]
abbrev dktX13_letterOf_2 : List UInt8 := dkwX13_letterOf_2 ++ dktX13_letterOf_3
def dkwX13_letterOf_1 : List UInt8 := [170, 0, 0, 0, 0, 0, 152, 0, 0, 0, 0, 0, 0, 0, 6, 0, 0, 0, 43, 0, 0, 0, 58, 0, 0, 0, 75, 0, 0, 0, 90, 0, 0, 0, 105, 0, 0, 0, 121, 0, 0, 0, 137]
abbrev dktX13_letterOf_1 : List UInt8 := dkwX13_letterOf_1 ++ dktX13_letterOf_2
def dkwX13_letterOf_0 : List UInt8 := [26]
abbrev dktX13_letterOf_0 : List UInt8 := dkwX13_letterOf_0 ++ dktX13_letterOf_1
theorem dksX13_letterOf_0 : cX13_letterOf.data.toList.drop 0 = dktX13_letterOf_0 := by decide +kernel
theorem dksX13_letterOf_1 : cX13_letterOf.data.toList.drop 1 = dktX13_letterOf_1 := dk_seg dksX13_letterOf_0 1 rfl rfl
theorem dksX13_letterOf_2 : cX13_letterOf.data.toList.drop 44 = dktX13_letterOf_2 := dk_seg dksX13_letterOf_1 43 rfl rfl
theorem dksX13_letterOf_3 : cX13_letterOf.data.toList.drop 68 = dktX13_letterOf_3 := dk_seg dksX13_letterOf_2 24 rfl rfl
theorem dksX13_letterOf_4 : cX13_letterOf.data.toList.drop 92 = dktX13_letterOf_4 := dk_seg dksX13_letterOf_3 24 rfl rfl
theorem dksX13_letterOf_5 : cX13_letterOf.data.toList.drop 115 = dktX13_letterOf_5 := dk_seg dksX13_letterOf_4 23 rfl rfl
theorem dksX13_letterOf_6 : cX13_letterOf.data.toList.drop 139 = dktX13_letterOf_6 := dk_seg dksX13_letterOf_5 24 rfl rfl
theorem dksX13_letterOf_7 : cX13_letterOf.data.toList.drop 163 = dktX13_letterOf_7 := dk_seg dksX13_letterOf_6 24 rfl rfl
theorem dX13_letterOf_0 : decode cX13_letterOf 0 = .ok (.iload_n 0, 1) := dk_26 (dk_at dksX13_letterOf_0 0 rfl rfl)
theorem dX13_letterOf_1 : decode cX13_letterOf 1 = .ok (.tableswitch 152 0 6 #[43, 58, 75, 90, 105, 121, 137], 43) := by decide +kernel
theorem dX13_letterOf_44 : decode cX13_letterOf 44 = .ok (.iload_n 1, 1) := dk_27 (dk_at dksX13_letterOf_2 0 rfl rfl)
theorem dX13_letterOf_45 : decode cX13_letterOf 45 = .ok (.bipush 112, 2) := dk_16 112 (dk_at dksX13_letterOf_2 1 rfl rfl)
theorem dX13_letterOf_47 : decode cX13_letterOf 47 = .ok (.bipush 97, 2) := dk_16 97 (dk_at dksX13_letterOf_2 3 rfl rfl)
theorem dX13_letterOf_49 : decode cX13_letterOf 49 = .ok (.bipush 103, 2) := dk_16 103 (dk_at dksX13_letterOf_2 5 rfl rfl)
theorem dX13_letterOf_51 : decode cX13_letterOf 51 = .ok (.bipush 101, 2) := dk_16 101 (dk_at dksX13_letterOf_2 7 rfl rfl)
theorem dX13_letterOf_53 : decode cX13_letterOf 53 = .ok (.iconst 0, 1) := dk_3 (dk_at dksX13_letterOf_2 9 rfl rfl)
theorem dX13_letterOf_54 : decode cX13_letterOf 54 = .ok (.iconst 0, 1) := dk_3 (dk_at dksX13_letterOf_2 10 rfl rfl)
theorem dX13_letterOf_55 : decode cX13_letterOf 55 = .ok (.invokestatic 267, 3) := dk_184 1 11 (dk_at dksX13_letterOf_2 11 rfl rfl)
theorem dX13_letterOf_58 : decode cX13_letterOf 58 = .ok (.ireturn, 1) := dk_172 (dk_at dksX13_letterOf_2 14 rfl rfl)
theorem dX13_letterOf_59 : decode cX13_letterOf 59 = .ok (.iload_n 1, 1) := dk_27 (dk_at dksX13_letterOf_2 15 rfl rfl)
theorem dX13_letterOf_60 : decode cX13_letterOf 60 = .ok (.bipush 97, 2) := dk_16 97 (dk_at dksX13_letterOf_2 16 rfl rfl)
theorem dX13_letterOf_62 : decode cX13_letterOf 62 = .ok (.bipush 110, 2) := dk_16 110 (dk_at dksX13_letterOf_2 18 rfl rfl)
theorem dX13_letterOf_64 : decode cX13_letterOf 64 = .ok (.bipush 115, 2) := dk_16 115 (dk_at dksX13_letterOf_2 20 rfl rfl)
theorem dX13_letterOf_66 : decode cX13_letterOf 66 = .ok (.bipush 119, 2) := dk_16 119 (dk_at dksX13_letterOf_2 22 rfl rfl)
theorem dX13_letterOf_68 : decode cX13_letterOf 68 = .ok (.bipush 101, 2) := dk_16 101 (dk_at dksX13_letterOf_3 0 rfl rfl)
theorem dX13_letterOf_70 : decode cX13_letterOf 70 = .ok (.bipush 114, 2) := dk_16 114 (dk_at dksX13_letterOf_3 2 rfl rfl)
theorem dX13_letterOf_72 : decode cX13_letterOf 72 = .ok (.invokestatic 267, 3) := dk_184 1 11 (dk_at dksX13_letterOf_3 4 rfl rfl)
theorem dX13_letterOf_75 : decode cX13_letterOf 75 = .ok (.ireturn, 1) := dk_172 (dk_at dksX13_letterOf_3 7 rfl rfl)
theorem dX13_letterOf_76 : decode cX13_letterOf 76 = .ok (.iload_n 1, 1) := dk_27 (dk_at dksX13_letterOf_3 8 rfl rfl)
theorem dX13_letterOf_77 : decode cX13_letterOf 77 = .ok (.bipush 103, 2) := dk_16 103 (dk_at dksX13_letterOf_3 9 rfl rfl)
theorem dX13_letterOf_79 : decode cX13_letterOf 79 = .ok (.bipush 105, 2) := dk_16 105 (dk_at dksX13_letterOf_3 11 rfl rfl)
theorem dX13_letterOf_81 : decode cX13_letterOf 81 = .ok (.bipush 118, 2) := dk_16 118 (dk_at dksX13_letterOf_3 13 rfl rfl)
theorem dX13_letterOf_83 : decode cX13_letterOf 83 = .ok (.bipush 101, 2) := dk_16 101 (dk_at dksX13_letterOf_3 15 rfl rfl)
theorem dX13_letterOf_85 : decode cX13_letterOf 85 = .ok (.iconst 0, 1) := dk_3 (dk_at dksX13_letterOf_3 17 rfl rfl)
theorem dX13_letterOf_86 : decode cX13_letterOf 86 = .ok (.iconst 0, 1) := dk_3 (dk_at dksX13_letterOf_3 18 rfl rfl)
theorem dX13_letterOf_87 : decode cX13_letterOf 87 = .ok (.invokestatic 267, 3) := dk_184 1 11 (dk_at dksX13_letterOf_3 19 rfl rfl)
theorem dX13_letterOf_90 : decode cX13_letterOf 90 = .ok (.ireturn, 1) := dk_172 (dk_at dksX13_letterOf_3 22 rfl rfl)
theorem dX13_letterOf_91 : decode cX13_letterOf 91 = .ok (.iload_n 1, 1) := dk_27 (dk_at dksX13_letterOf_3 23 rfl rfl)
theorem dX13_letterOf_92 : decode cX13_letterOf 92 = .ok (.bipush 115, 2) := dk_16 115 (dk_at dksX13_letterOf_4 0 rfl rfl)
theorem dX13_letterOf_94 : decode cX13_letterOf 94 = .ok (.bipush 117, 2) := dk_16 117 (dk_at dksX13_letterOf_4 2 rfl rfl)
theorem dX13_letterOf_96 : decode cX13_letterOf 96 = .ok (.bipush 109, 2) := dk_16 109 (dk_at dksX13_letterOf_4 4 rfl rfl)
theorem dX13_letterOf_98 : decode cX13_letterOf 98 = .ok (.bipush 115, 2) := dk_16 115 (dk_at dksX13_letterOf_4 6 rfl rfl)
theorem dX13_letterOf_100 : decode cX13_letterOf 100 = .ok (.iconst 0, 1) := dk_3 (dk_at dksX13_letterOf_4 8 rfl rfl)
theorem dX13_letterOf_101 : decode cX13_letterOf 101 = .ok (.iconst 0, 1) := dk_3 (dk_at dksX13_letterOf_4 9 rfl rfl)
theorem dX13_letterOf_102 : decode cX13_letterOf 102 = .ok (.invokestatic 267, 3) := dk_184 1 11 (dk_at dksX13_letterOf_4 10 rfl rfl)
theorem dX13_letterOf_105 : decode cX13_letterOf 105 = .ok (.ireturn, 1) := dk_172 (dk_at dksX13_letterOf_4 13 rfl rfl)
theorem dX13_letterOf_106 : decode cX13_letterOf 106 = .ok (.iload_n 1, 1) := dk_27 (dk_at dksX13_letterOf_4 14 rfl rfl)
theorem dX13_letterOf_107 : decode cX13_letterOf 107 = .ok (.bipush 114, 2) := dk_16 114 (dk_at dksX13_letterOf_4 15 rfl rfl)
theorem dX13_letterOf_109 : decode cX13_letterOf 109 = .ok (.bipush 117, 2) := dk_16 117 (dk_at dksX13_letterOf_4 17 rfl rfl)
theorem dX13_letterOf_111 : decode cX13_letterOf 111 = .ok (.bipush 108, 2) := dk_16 108 (dk_at dksX13_letterOf_4 19 rfl rfl)
theorem dX13_letterOf_113 : decode cX13_letterOf 113 = .ok (.bipush 101, 2) := dk_16 101 (dk_at dksX13_letterOf_4 21 rfl rfl)
theorem dX13_letterOf_115 : decode cX13_letterOf 115 = .ok (.bipush 115, 2) := dk_16 115 (dk_at dksX13_letterOf_5 0 rfl rfl)
theorem dX13_letterOf_117 : decode cX13_letterOf 117 = .ok (.iconst 0, 1) := dk_3 (dk_at dksX13_letterOf_5 2 rfl rfl)
theorem dX13_letterOf_118 : decode cX13_letterOf 118 = .ok (.invokestatic 267, 3) := dk_184 1 11 (dk_at dksX13_letterOf_5 3 rfl rfl)
theorem dX13_letterOf_121 : decode cX13_letterOf 121 = .ok (.ireturn, 1) := dk_172 (dk_at dksX13_letterOf_5 6 rfl rfl)
theorem dX13_letterOf_122 : decode cX13_letterOf 122 = .ok (.iload_n 1, 1) := dk_27 (dk_at dksX13_letterOf_5 7 rfl rfl)
theorem dX13_letterOf_123 : decode cX13_letterOf 123 = .ok (.bipush 99, 2) := dk_16 99 (dk_at dksX13_letterOf_5 8 rfl rfl)
theorem dX13_letterOf_125 : decode cX13_letterOf 125 = .ok (.bipush 111, 2) := dk_16 111 (dk_at dksX13_letterOf_5 10 rfl rfl)
theorem dX13_letterOf_127 : decode cX13_letterOf 127 = .ok (.bipush 115, 2) := dk_16 115 (dk_at dksX13_letterOf_5 12 rfl rfl)
theorem dX13_letterOf_129 : decode cX13_letterOf 129 = .ok (.bipush 116, 2) := dk_16 116 (dk_at dksX13_letterOf_5 14 rfl rfl)
theorem dX13_letterOf_131 : decode cX13_letterOf 131 = .ok (.bipush 115, 2) := dk_16 115 (dk_at dksX13_letterOf_5 16 rfl rfl)
theorem dX13_letterOf_133 : decode cX13_letterOf 133 = .ok (.iconst 0, 1) := dk_3 (dk_at dksX13_letterOf_5 18 rfl rfl)
theorem dX13_letterOf_134 : decode cX13_letterOf 134 = .ok (.invokestatic 267, 3) := dk_184 1 11 (dk_at dksX13_letterOf_5 19 rfl rfl)
theorem dX13_letterOf_137 : decode cX13_letterOf 137 = .ok (.ireturn, 1) := dk_172 (dk_at dksX13_letterOf_5 22 rfl rfl)
theorem dX13_letterOf_138 : decode cX13_letterOf 138 = .ok (.iload_n 1, 1) := dk_27 (dk_at dksX13_letterOf_5 23 rfl rfl)
theorem dX13_letterOf_139 : decode cX13_letterOf 139 = .ok (.bipush 110, 2) := dk_16 110 (dk_at dksX13_letterOf_6 0 rfl rfl)
theorem dX13_letterOf_141 : decode cX13_letterOf 141 = .ok (.bipush 111, 2) := dk_16 111 (dk_at dksX13_letterOf_6 2 rfl rfl)
theorem dX13_letterOf_143 : decode cX13_letterOf 143 = .ok (.bipush 110, 2) := dk_16 110 (dk_at dksX13_letterOf_6 4 rfl rfl)
theorem dX13_letterOf_145 : decode cX13_letterOf 145 = .ok (.bipush 101, 2) := dk_16 101 (dk_at dksX13_letterOf_6 6 rfl rfl)
theorem dX13_letterOf_147 : decode cX13_letterOf 147 = .ok (.iconst 0, 1) := dk_3 (dk_at dksX13_letterOf_6 8 rfl rfl)
theorem dX13_letterOf_148 : decode cX13_letterOf 148 = .ok (.iconst 0, 1) := dk_3 (dk_at dksX13_letterOf_6 9 rfl rfl)
theorem dX13_letterOf_149 : decode cX13_letterOf 149 = .ok (.invokestatic 267, 3) := dk_184 1 11 (dk_at dksX13_letterOf_6 10 rfl rfl)
theorem dX13_letterOf_152 : decode cX13_letterOf 152 = .ok (.ireturn, 1) := dk_172 (dk_at dksX13_letterOf_6 13 rfl rfl)
theorem dX13_letterOf_153 : decode cX13_letterOf 153 = .ok (.iload_n 1, 1) := dk_27 (dk_at dksX13_letterOf_6 14 rfl rfl)
theorem dX13_letterOf_154 : decode cX13_letterOf 154 = .ok (.bipush 97, 2) := dk_16 97 (dk_at dksX13_letterOf_6 15 rfl rfl)
theorem dX13_letterOf_156 : decode cX13_letterOf 156 = .ok (.bipush 108, 2) := dk_16 108 (dk_at dksX13_letterOf_6 17 rfl rfl)
theorem dX13_letterOf_158 : decode cX13_letterOf 158 = .ok (.bipush 108, 2) := dk_16 108 (dk_at dksX13_letterOf_6 19 rfl rfl)
theorem dX13_letterOf_160 : decode cX13_letterOf 160 = .ok (.iconst 0, 1) := dk_3 (dk_at dksX13_letterOf_6 21 rfl rfl)
theorem dX13_letterOf_161 : decode cX13_letterOf 161 = .ok (.iconst 0, 1) := dk_3 (dk_at dksX13_letterOf_6 22 rfl rfl)
theorem dX13_letterOf_162 : decode cX13_letterOf 162 = .ok (.iconst 0, 1) := dk_3 (dk_at dksX13_letterOf_6 23 rfl rfl)
theorem dX13_letterOf_163 : decode cX13_letterOf 163 = .ok (.invokestatic 267, 3) := dk_184 1 11 (dk_at dksX13_letterOf_7 0 rfl rfl)
theorem dX13_letterOf_166 : decode cX13_letterOf 166 = .ok (.ireturn, 1) := dk_172 (dk_at dksX13_letterOf_7 3 rfl rfl)
abbrev cX13_spelled : ByteArray := prog_28_method_90_code
def yX13_spelled : MethodName := ⟨RX13, "spelled", "(IIIIIII)I"⟩
def dkwX13_spelled_2 : List UInt8 := [8, 160, 0, 8, 21, 6, 167, 0, 4, 3, 172]
abbrev dktX13_spelled_2 : List UInt8 := dkwX13_spelled_2 ++ []
def dkwX13_spelled_1 : List UInt8 := [167, 0, 34, 26, 6, 160, 0, 8, 21, 4, 167, 0, 24, 26, 7, 160, 0, 8, 21, 5, 167, 0, 14, 26]
abbrev dktX13_spelled_1 : List UInt8 := dkwX13_spelled_1 ++ dktX13_spelled_2
def dkwX13_spelled_0 : List UInt8 := [26, 154, 0, 7, 27, 167, 0, 52, 26, 4, 160, 0, 7, 28, 167, 0, 43, 26, 5, 160, 0, 7, 29]
abbrev dktX13_spelled_0 : List UInt8 := dkwX13_spelled_0 ++ dktX13_spelled_1
theorem dksX13_spelled_0 : cX13_spelled.data.toList.drop 0 = dktX13_spelled_0 := by decide +kernel
theorem dksX13_spelled_1 : cX13_spelled.data.toList.drop 23 = dktX13_spelled_1 := dk_seg dksX13_spelled_0 23 rfl rfl
theorem dksX13_spelled_2 : cX13_spelled.data.toList.drop 47 = dktX13_spelled_2 := dk_seg dksX13_spelled_1 24 rfl rfl
theorem dX13_spelled_0 : decode cX13_spelled 0 = .ok (.iload_n 0, 1) := dk_26 (dk_at dksX13_spelled_0 0 rfl rfl)
theorem dX13_spelled_1 : decode cX13_spelled 1 = .ok (.ifCond .ne 7, 3) := dk_154 0 7 (dk_at dksX13_spelled_0 1 rfl rfl)
theorem dX13_spelled_4 : decode cX13_spelled 4 = .ok (.iload_n 1, 1) := dk_27 (dk_at dksX13_spelled_0 4 rfl rfl)
theorem dX13_spelled_5 : decode cX13_spelled 5 = .ok (.goto 52, 3) := dk_167 0 52 (dk_at dksX13_spelled_0 5 rfl rfl)
theorem dX13_spelled_8 : decode cX13_spelled 8 = .ok (.iload_n 0, 1) := dk_26 (dk_at dksX13_spelled_0 8 rfl rfl)
theorem dX13_spelled_9 : decode cX13_spelled 9 = .ok (.iconst 1, 1) := dk_4 (dk_at dksX13_spelled_0 9 rfl rfl)
theorem dX13_spelled_10 : decode cX13_spelled 10 = .ok (.if_icmp .ne 7, 3) := dk_160 0 7 (dk_at dksX13_spelled_0 10 rfl rfl)
theorem dX13_spelled_13 : decode cX13_spelled 13 = .ok (.iload_n 2, 1) := dk_28 (dk_at dksX13_spelled_0 13 rfl rfl)
theorem dX13_spelled_14 : decode cX13_spelled 14 = .ok (.goto 43, 3) := dk_167 0 43 (dk_at dksX13_spelled_0 14 rfl rfl)
theorem dX13_spelled_17 : decode cX13_spelled 17 = .ok (.iload_n 0, 1) := dk_26 (dk_at dksX13_spelled_0 17 rfl rfl)
theorem dX13_spelled_18 : decode cX13_spelled 18 = .ok (.iconst 2, 1) := dk_5 (dk_at dksX13_spelled_0 18 rfl rfl)
theorem dX13_spelled_19 : decode cX13_spelled 19 = .ok (.if_icmp .ne 7, 3) := dk_160 0 7 (dk_at dksX13_spelled_0 19 rfl rfl)
theorem dX13_spelled_22 : decode cX13_spelled 22 = .ok (.iload_n 3, 1) := dk_29 (dk_at dksX13_spelled_0 22 rfl rfl)
theorem dX13_spelled_23 : decode cX13_spelled 23 = .ok (.goto 34, 3) := dk_167 0 34 (dk_at dksX13_spelled_1 0 rfl rfl)
theorem dX13_spelled_26 : decode cX13_spelled 26 = .ok (.iload_n 0, 1) := dk_26 (dk_at dksX13_spelled_1 3 rfl rfl)
theorem dX13_spelled_27 : decode cX13_spelled 27 = .ok (.iconst 3, 1) := dk_6 (dk_at dksX13_spelled_1 4 rfl rfl)
theorem dX13_spelled_28 : decode cX13_spelled 28 = .ok (.if_icmp .ne 8, 3) := dk_160 0 8 (dk_at dksX13_spelled_1 5 rfl rfl)
theorem dX13_spelled_31 : decode cX13_spelled 31 = .ok (.iload 4, 2) := dk_21 4 (dk_at dksX13_spelled_1 8 rfl rfl)
theorem dX13_spelled_33 : decode cX13_spelled 33 = .ok (.goto 24, 3) := dk_167 0 24 (dk_at dksX13_spelled_1 10 rfl rfl)
theorem dX13_spelled_36 : decode cX13_spelled 36 = .ok (.iload_n 0, 1) := dk_26 (dk_at dksX13_spelled_1 13 rfl rfl)
theorem dX13_spelled_37 : decode cX13_spelled 37 = .ok (.iconst 4, 1) := dk_7 (dk_at dksX13_spelled_1 14 rfl rfl)
theorem dX13_spelled_38 : decode cX13_spelled 38 = .ok (.if_icmp .ne 8, 3) := dk_160 0 8 (dk_at dksX13_spelled_1 15 rfl rfl)
theorem dX13_spelled_41 : decode cX13_spelled 41 = .ok (.iload 5, 2) := dk_21 5 (dk_at dksX13_spelled_1 18 rfl rfl)
theorem dX13_spelled_43 : decode cX13_spelled 43 = .ok (.goto 14, 3) := dk_167 0 14 (dk_at dksX13_spelled_1 20 rfl rfl)
theorem dX13_spelled_46 : decode cX13_spelled 46 = .ok (.iload_n 0, 1) := dk_26 (dk_at dksX13_spelled_1 23 rfl rfl)
theorem dX13_spelled_47 : decode cX13_spelled 47 = .ok (.iconst 5, 1) := dk_8 (dk_at dksX13_spelled_2 0 rfl rfl)
theorem dX13_spelled_48 : decode cX13_spelled 48 = .ok (.if_icmp .ne 8, 3) := dk_160 0 8 (dk_at dksX13_spelled_2 1 rfl rfl)
theorem dX13_spelled_51 : decode cX13_spelled 51 = .ok (.iload 6, 2) := dk_21 6 (dk_at dksX13_spelled_2 4 rfl rfl)
theorem dX13_spelled_53 : decode cX13_spelled 53 = .ok (.goto 4, 3) := dk_167 0 4 (dk_at dksX13_spelled_2 6 rfl rfl)
theorem dX13_spelled_56 : decode cX13_spelled 56 = .ok (.iconst 0, 1) := dk_3 (dk_at dksX13_spelled_2 9 rfl rfl)
theorem dX13_spelled_57 : decode cX13_spelled 57 = .ok (.ireturn, 1) := dk_172 (dk_at dksX13_spelled_2 10 rfl rfl)
abbrev cX13_fail : ByteArray := prog_28_method_88_code
def yX13_fail : MethodName := ⟨RX13, "fail", "()V"⟩
def dkwX13_fail_0 : List UInt8 := [42, 42, 180, 1, 8, 156, 0, 10, 42, 180, 0, 255, 167, 0, 7, 42, 180, 1, 8, 181, 1, 8, 177]
abbrev dktX13_fail_0 : List UInt8 := dkwX13_fail_0 ++ []
theorem dksX13_fail_0 : cX13_fail.data.toList.drop 0 = dktX13_fail_0 := by decide +kernel
theorem dX13_fail_0 : decode cX13_fail 0 = .ok (.aload_n 0, 1) := dk_42 (dk_at dksX13_fail_0 0 rfl rfl)
theorem dX13_fail_1 : decode cX13_fail 1 = .ok (.aload_n 0, 1) := dk_42 (dk_at dksX13_fail_0 1 rfl rfl)
theorem dX13_fail_2 : decode cX13_fail 2 = .ok (.getfield 264, 3) := dk_180 1 8 (dk_at dksX13_fail_0 2 rfl rfl)
theorem dX13_fail_5 : decode cX13_fail 5 = .ok (.ifCond .ge 10, 3) := dk_156 0 10 (dk_at dksX13_fail_0 5 rfl rfl)
theorem dX13_fail_8 : decode cX13_fail 8 = .ok (.aload_n 0, 1) := dk_42 (dk_at dksX13_fail_0 8 rfl rfl)
theorem dX13_fail_9 : decode cX13_fail 9 = .ok (.getfield 255, 3) := dk_180 0 255 (dk_at dksX13_fail_0 9 rfl rfl)
theorem dX13_fail_12 : decode cX13_fail 12 = .ok (.goto 7, 3) := dk_167 0 7 (dk_at dksX13_fail_0 12 rfl rfl)
theorem dX13_fail_15 : decode cX13_fail 15 = .ok (.aload_n 0, 1) := dk_42 (dk_at dksX13_fail_0 15 rfl rfl)
theorem dX13_fail_16 : decode cX13_fail 16 = .ok (.getfield 264, 3) := dk_180 1 8 (dk_at dksX13_fail_0 16 rfl rfl)
theorem dX13_fail_19 : decode cX13_fail 19 = .ok (.putfield 264, 3) := dk_181 1 8 (dk_at dksX13_fail_0 19 rfl rfl)
theorem dX13_fail_22 : decode cX13_fail 22 = .ok (.return_, 1) := dk_177 (dk_at dksX13_fail_0 22 rfl rfl)
abbrev cX13_readPage : ByteArray := prog_28_method_94_code
def yX13_readPage : MethodName := ⟨RX13, "readPage", "()V"⟩
def dkwX13_readPage_10 : List UInt8 := [164, 0, 7, 42, 182, 1, 24, 132, 4, 1, 167, 255, 222, 177]
abbrev dktX13_readPage_10 : List UInt8 := dkwX13_readPage_10 ++ []
def dkwX13_readPage_9 : List UInt8 := [21, 4, 29, 162, 0, 34, 42, 21, 4, 2, 182, 0, 112, 153, 0, 14, 42, 21, 4, 182, 0, 76, 16, 6]
abbrev dktX13_readPage_9 : List UInt8 := dkwX13_readPage_9 ++ dktX13_readPage_10
def dkwX13_readPage_8 : List UInt8 := [42, 180, 0, 37, 16, 8, 29, 96, 46, 79, 132, 3, 1, 167, 255, 227, 42, 182, 0, 118, 62, 3, 54, 4]
abbrev dktX13_readPage_8 : List UInt8 := dkwX13_readPage_8 ++ dktX13_readPage_9
def dkwX13_readPage_7 : List UInt8 := [42, 27, 28, 182, 0, 47, 3, 62, 29, 42, 182, 0, 61, 162, 0, 27, 42, 180, 0, 7, 16, 8, 29, 96]
abbrev dktX13_readPage_7 : List UInt8 := dkwX13_readPage_7 ++ dktX13_readPage_8
def dkwX13_readPage_6 : List UInt8 := [27, 5, 161, 0, 10, 42, 182, 1, 30, 154, 0, 7, 42, 182, 1, 24, 42, 182, 1, 21, 154, 0, 4, 177]
abbrev dktX13_readPage_6 : List UInt8 := dkwX13_readPage_6 ++ dktX13_readPage_7
def dkwX13_readPage_5 : List UInt8 := [132, 1, 1, 42, 182, 1, 21, 153, 255, 142, 42, 182, 1, 27, 167, 255, 135, 42, 182, 1, 21, 153, 0, 19]
abbrev dktX13_readPage_5 : List UInt8 := dkwX13_readPage_5 ++ dktX13_readPage_6
def dkwX13_readPage_4 : List UInt8 := [28, 27, 104, 96, 29, 96, 42, 42, 180, 0, 255, 29, 96, 182, 1, 2, 79, 132, 3, 1, 167, 255, 218]
abbrev dktX13_readPage_4 : List UInt8 := dkwX13_readPage_4 ++ dktX13_readPage_5
def dkwX13_readPage_3 : List UInt8 := [42, 182, 1, 24, 3, 62, 29, 28, 162, 0, 39, 42, 182, 1, 21, 153, 0, 32, 42, 180, 0, 37, 16, 8]
abbrev dktX13_readPage_3 : List UInt8 := dkwX13_readPage_3 ++ dktX13_readPage_4
def dkwX13_readPage_2 : List UInt8 := [28, 61, 28, 5, 8, 184, 0, 65, 153, 0, 16, 42, 180, 0, 252, 42, 180, 0, 255, 100, 28, 159, 0, 7]
abbrev dktX13_readPage_2 : List UInt8 := dkwX13_readPage_2 ++ dktX13_readPage_3
def dkwX13_readPage_1 : List UInt8 := [160, 0, 112, 27, 8, 162, 0, 107, 27, 154, 0, 15, 42, 180, 0, 252, 42, 180, 0, 255, 100, 167, 0, 4]
abbrev dktX13_readPage_1 : List UInt8 := dkwX13_readPage_1 ++ dktX13_readPage_2
def dkwX13_readPage_0 : List UInt8 := [3, 60, 42, 180, 0, 252, 42, 180, 0, 255, 100, 61, 42, 182, 1, 21, 153, 0, 120, 42, 180, 1, 5, 4]
abbrev dktX13_readPage_0 : List UInt8 := dkwX13_readPage_0 ++ dktX13_readPage_1
theorem dksX13_readPage_0 : cX13_readPage.data.toList.drop 0 = dktX13_readPage_0 := by decide +kernel
theorem dksX13_readPage_1 : cX13_readPage.data.toList.drop 24 = dktX13_readPage_1 := dk_seg dksX13_readPage_0 24 rfl rfl
theorem dksX13_readPage_2 : cX13_readPage.data.toList.drop 48 = dktX13_readPage_2 := dk_seg dksX13_readPage_1 24 rfl rfl
theorem dksX13_readPage_3 : cX13_readPage.data.toList.drop 72 = dktX13_readPage_3 := dk_seg dksX13_readPage_2 24 rfl rfl
theorem dksX13_readPage_4 : cX13_readPage.data.toList.drop 96 = dktX13_readPage_4 := dk_seg dksX13_readPage_3 24 rfl rfl
theorem dksX13_readPage_5 : cX13_readPage.data.toList.drop 119 = dktX13_readPage_5 := dk_seg dksX13_readPage_4 23 rfl rfl
theorem dksX13_readPage_6 : cX13_readPage.data.toList.drop 143 = dktX13_readPage_6 := dk_seg dksX13_readPage_5 24 rfl rfl
theorem dksX13_readPage_7 : cX13_readPage.data.toList.drop 167 = dktX13_readPage_7 := dk_seg dksX13_readPage_6 24 rfl rfl
theorem dksX13_readPage_8 : cX13_readPage.data.toList.drop 191 = dktX13_readPage_8 := dk_seg dksX13_readPage_7 24 rfl rfl
theorem dksX13_readPage_9 : cX13_readPage.data.toList.drop 215 = dktX13_readPage_9 := dk_seg dksX13_readPage_8 24 rfl rfl
theorem dksX13_readPage_10 : cX13_readPage.data.toList.drop 239 = dktX13_readPage_10 := dk_seg dksX13_readPage_9 24 rfl rfl
theorem dX13_readPage_0 : decode cX13_readPage 0 = .ok (.iconst 0, 1) := dk_3 (dk_at dksX13_readPage_0 0 rfl rfl)
theorem dX13_readPage_1 : decode cX13_readPage 1 = .ok (.istore_n 1, 1) := dk_60 (dk_at dksX13_readPage_0 1 rfl rfl)
theorem dX13_readPage_2 : decode cX13_readPage 2 = .ok (.aload_n 0, 1) := dk_42 (dk_at dksX13_readPage_0 2 rfl rfl)
theorem dX13_readPage_3 : decode cX13_readPage 3 = .ok (.getfield 252, 3) := dk_180 0 252 (dk_at dksX13_readPage_0 3 rfl rfl)
theorem dX13_readPage_6 : decode cX13_readPage 6 = .ok (.aload_n 0, 1) := dk_42 (dk_at dksX13_readPage_0 6 rfl rfl)
theorem dX13_readPage_7 : decode cX13_readPage 7 = .ok (.getfield 255, 3) := dk_180 0 255 (dk_at dksX13_readPage_0 7 rfl rfl)
theorem dX13_readPage_10 : decode cX13_readPage 10 = .ok (.isub, 1) := dk_100 (dk_at dksX13_readPage_0 10 rfl rfl)
theorem dX13_readPage_11 : decode cX13_readPage 11 = .ok (.istore_n 2, 1) := dk_61 (dk_at dksX13_readPage_0 11 rfl rfl)
theorem dX13_readPage_12 : decode cX13_readPage 12 = .ok (.aload_n 0, 1) := dk_42 (dk_at dksX13_readPage_0 12 rfl rfl)
theorem dX13_readPage_13 : decode cX13_readPage 13 = .ok (.invokevirtual 277, 3) := dk_182 1 21 (dk_at dksX13_readPage_0 13 rfl rfl)
theorem dX13_readPage_16 : decode cX13_readPage 16 = .ok (.ifCond .eq 120, 3) := dk_153 0 120 (dk_at dksX13_readPage_0 16 rfl rfl)
theorem dX13_readPage_19 : decode cX13_readPage 19 = .ok (.aload_n 0, 1) := dk_42 (dk_at dksX13_readPage_0 19 rfl rfl)
theorem dX13_readPage_20 : decode cX13_readPage 20 = .ok (.getfield 261, 3) := dk_180 1 5 (dk_at dksX13_readPage_0 20 rfl rfl)
theorem dX13_readPage_23 : decode cX13_readPage 23 = .ok (.iconst 1, 1) := dk_4 (dk_at dksX13_readPage_0 23 rfl rfl)
theorem dX13_readPage_24 : decode cX13_readPage 24 = .ok (.if_icmp .ne 112, 3) := dk_160 0 112 (dk_at dksX13_readPage_1 0 rfl rfl)
theorem dX13_readPage_27 : decode cX13_readPage 27 = .ok (.iload_n 1, 1) := dk_27 (dk_at dksX13_readPage_1 3 rfl rfl)
theorem dX13_readPage_28 : decode cX13_readPage 28 = .ok (.iconst 5, 1) := dk_8 (dk_at dksX13_readPage_1 4 rfl rfl)
theorem dX13_readPage_29 : decode cX13_readPage 29 = .ok (.if_icmp .ge 107, 3) := dk_162 0 107 (dk_at dksX13_readPage_1 5 rfl rfl)
theorem dX13_readPage_32 : decode cX13_readPage 32 = .ok (.iload_n 1, 1) := dk_27 (dk_at dksX13_readPage_1 8 rfl rfl)
theorem dX13_readPage_33 : decode cX13_readPage 33 = .ok (.ifCond .ne 15, 3) := dk_154 0 15 (dk_at dksX13_readPage_1 9 rfl rfl)
theorem dX13_readPage_36 : decode cX13_readPage 36 = .ok (.aload_n 0, 1) := dk_42 (dk_at dksX13_readPage_1 12 rfl rfl)
theorem dX13_readPage_37 : decode cX13_readPage 37 = .ok (.getfield 252, 3) := dk_180 0 252 (dk_at dksX13_readPage_1 13 rfl rfl)
theorem dX13_readPage_40 : decode cX13_readPage 40 = .ok (.aload_n 0, 1) := dk_42 (dk_at dksX13_readPage_1 16 rfl rfl)
theorem dX13_readPage_41 : decode cX13_readPage 41 = .ok (.getfield 255, 3) := dk_180 0 255 (dk_at dksX13_readPage_1 17 rfl rfl)
theorem dX13_readPage_44 : decode cX13_readPage 44 = .ok (.isub, 1) := dk_100 (dk_at dksX13_readPage_1 20 rfl rfl)
theorem dX13_readPage_45 : decode cX13_readPage 45 = .ok (.goto 4, 3) := dk_167 0 4 (dk_at dksX13_readPage_1 21 rfl rfl)
theorem dX13_readPage_48 : decode cX13_readPage 48 = .ok (.iload_n 2, 1) := dk_28 (dk_at dksX13_readPage_2 0 rfl rfl)
theorem dX13_readPage_49 : decode cX13_readPage 49 = .ok (.istore_n 2, 1) := dk_61 (dk_at dksX13_readPage_2 1 rfl rfl)
theorem dX13_readPage_50 : decode cX13_readPage 50 = .ok (.iload_n 2, 1) := dk_28 (dk_at dksX13_readPage_2 2 rfl rfl)
theorem dX13_readPage_51 : decode cX13_readPage 51 = .ok (.iconst 2, 1) := dk_5 (dk_at dksX13_readPage_2 3 rfl rfl)
theorem dX13_readPage_52 : decode cX13_readPage 52 = .ok (.iconst 5, 1) := dk_8 (dk_at dksX13_readPage_2 4 rfl rfl)
theorem dX13_readPage_53 : decode cX13_readPage 53 = .ok (.invokestatic 65, 3) := dk_184 0 65 (dk_at dksX13_readPage_2 5 rfl rfl)
theorem dX13_readPage_56 : decode cX13_readPage 56 = .ok (.ifCond .eq 16, 3) := dk_153 0 16 (dk_at dksX13_readPage_2 8 rfl rfl)
theorem dX13_readPage_59 : decode cX13_readPage 59 = .ok (.aload_n 0, 1) := dk_42 (dk_at dksX13_readPage_2 11 rfl rfl)
theorem dX13_readPage_60 : decode cX13_readPage 60 = .ok (.getfield 252, 3) := dk_180 0 252 (dk_at dksX13_readPage_2 12 rfl rfl)
theorem dX13_readPage_63 : decode cX13_readPage 63 = .ok (.aload_n 0, 1) := dk_42 (dk_at dksX13_readPage_2 15 rfl rfl)
theorem dX13_readPage_64 : decode cX13_readPage 64 = .ok (.getfield 255, 3) := dk_180 0 255 (dk_at dksX13_readPage_2 16 rfl rfl)
theorem dX13_readPage_67 : decode cX13_readPage 67 = .ok (.isub, 1) := dk_100 (dk_at dksX13_readPage_2 19 rfl rfl)
theorem dX13_readPage_68 : decode cX13_readPage 68 = .ok (.iload_n 2, 1) := dk_28 (dk_at dksX13_readPage_2 20 rfl rfl)
theorem dX13_readPage_69 : decode cX13_readPage 69 = .ok (.if_icmp .eq 7, 3) := dk_159 0 7 (dk_at dksX13_readPage_2 21 rfl rfl)
theorem dX13_readPage_72 : decode cX13_readPage 72 = .ok (.aload_n 0, 1) := dk_42 (dk_at dksX13_readPage_3 0 rfl rfl)
theorem dX13_readPage_73 : decode cX13_readPage 73 = .ok (.invokevirtual 280, 3) := dk_182 1 24 (dk_at dksX13_readPage_3 1 rfl rfl)
theorem dX13_readPage_76 : decode cX13_readPage 76 = .ok (.iconst 0, 1) := dk_3 (dk_at dksX13_readPage_3 4 rfl rfl)
theorem dX13_readPage_77 : decode cX13_readPage 77 = .ok (.istore_n 3, 1) := dk_62 (dk_at dksX13_readPage_3 5 rfl rfl)
theorem dX13_readPage_78 : decode cX13_readPage 78 = .ok (.iload_n 3, 1) := dk_29 (dk_at dksX13_readPage_3 6 rfl rfl)
theorem dX13_readPage_79 : decode cX13_readPage 79 = .ok (.iload_n 2, 1) := dk_28 (dk_at dksX13_readPage_3 7 rfl rfl)
theorem dX13_readPage_80 : decode cX13_readPage 80 = .ok (.if_icmp .ge 39, 3) := dk_162 0 39 (dk_at dksX13_readPage_3 8 rfl rfl)
theorem dX13_readPage_83 : decode cX13_readPage 83 = .ok (.aload_n 0, 1) := dk_42 (dk_at dksX13_readPage_3 11 rfl rfl)
theorem dX13_readPage_84 : decode cX13_readPage 84 = .ok (.invokevirtual 277, 3) := dk_182 1 21 (dk_at dksX13_readPage_3 12 rfl rfl)
theorem dX13_readPage_87 : decode cX13_readPage 87 = .ok (.ifCond .eq 32, 3) := dk_153 0 32 (dk_at dksX13_readPage_3 15 rfl rfl)
theorem dX13_readPage_90 : decode cX13_readPage 90 = .ok (.aload_n 0, 1) := dk_42 (dk_at dksX13_readPage_3 18 rfl rfl)
theorem dX13_readPage_91 : decode cX13_readPage 91 = .ok (.getfield 37, 3) := dk_180 0 37 (dk_at dksX13_readPage_3 19 rfl rfl)
theorem dX13_readPage_94 : decode cX13_readPage 94 = .ok (.bipush 8, 2) := dk_16 8 (dk_at dksX13_readPage_3 22 rfl rfl)
theorem dX13_readPage_96 : decode cX13_readPage 96 = .ok (.iload_n 2, 1) := dk_28 (dk_at dksX13_readPage_4 0 rfl rfl)
theorem dX13_readPage_97 : decode cX13_readPage 97 = .ok (.iload_n 1, 1) := dk_27 (dk_at dksX13_readPage_4 1 rfl rfl)
theorem dX13_readPage_98 : decode cX13_readPage 98 = .ok (.imul, 1) := dk_104 (dk_at dksX13_readPage_4 2 rfl rfl)
theorem dX13_readPage_99 : decode cX13_readPage 99 = .ok (.iadd, 1) := dk_96 (dk_at dksX13_readPage_4 3 rfl rfl)
theorem dX13_readPage_100 : decode cX13_readPage 100 = .ok (.iload_n 3, 1) := dk_29 (dk_at dksX13_readPage_4 4 rfl rfl)
theorem dX13_readPage_101 : decode cX13_readPage 101 = .ok (.iadd, 1) := dk_96 (dk_at dksX13_readPage_4 5 rfl rfl)
theorem dX13_readPage_102 : decode cX13_readPage 102 = .ok (.aload_n 0, 1) := dk_42 (dk_at dksX13_readPage_4 6 rfl rfl)
theorem dX13_readPage_103 : decode cX13_readPage 103 = .ok (.aload_n 0, 1) := dk_42 (dk_at dksX13_readPage_4 7 rfl rfl)
theorem dX13_readPage_104 : decode cX13_readPage 104 = .ok (.getfield 255, 3) := dk_180 0 255 (dk_at dksX13_readPage_4 8 rfl rfl)
theorem dX13_readPage_107 : decode cX13_readPage 107 = .ok (.iload_n 3, 1) := dk_29 (dk_at dksX13_readPage_4 11 rfl rfl)
theorem dX13_readPage_108 : decode cX13_readPage 108 = .ok (.iadd, 1) := dk_96 (dk_at dksX13_readPage_4 12 rfl rfl)
theorem dX13_readPage_109 : decode cX13_readPage 109 = .ok (.invokevirtual 258, 3) := dk_182 1 2 (dk_at dksX13_readPage_4 13 rfl rfl)
theorem dX13_readPage_112 : decode cX13_readPage 112 = .ok (.iastore, 1) := dk_79 (dk_at dksX13_readPage_4 16 rfl rfl)
theorem dX13_readPage_113 : decode cX13_readPage 113 = .ok (.iinc 3 1, 3) := dk_132 3 1 (dk_at dksX13_readPage_4 17 rfl rfl)
theorem dX13_readPage_116 : decode cX13_readPage 116 = .ok (.goto (-38), 3) := dk_167 255 218 (dk_at dksX13_readPage_4 20 rfl rfl)
theorem dX13_readPage_119 : decode cX13_readPage 119 = .ok (.iinc 1 1, 3) := dk_132 1 1 (dk_at dksX13_readPage_5 0 rfl rfl)
theorem dX13_readPage_122 : decode cX13_readPage 122 = .ok (.aload_n 0, 1) := dk_42 (dk_at dksX13_readPage_5 3 rfl rfl)
theorem dX13_readPage_123 : decode cX13_readPage 123 = .ok (.invokevirtual 277, 3) := dk_182 1 21 (dk_at dksX13_readPage_5 4 rfl rfl)
theorem dX13_readPage_126 : decode cX13_readPage 126 = .ok (.ifCond .eq (-114), 3) := dk_153 255 142 (dk_at dksX13_readPage_5 7 rfl rfl)
theorem dX13_readPage_129 : decode cX13_readPage 129 = .ok (.aload_n 0, 1) := dk_42 (dk_at dksX13_readPage_5 10 rfl rfl)
theorem dX13_readPage_130 : decode cX13_readPage 130 = .ok (.invokevirtual 283, 3) := dk_182 1 27 (dk_at dksX13_readPage_5 11 rfl rfl)
theorem dX13_readPage_133 : decode cX13_readPage 133 = .ok (.goto (-121), 3) := dk_167 255 135 (dk_at dksX13_readPage_5 14 rfl rfl)
theorem dX13_readPage_136 : decode cX13_readPage 136 = .ok (.aload_n 0, 1) := dk_42 (dk_at dksX13_readPage_5 17 rfl rfl)
theorem dX13_readPage_137 : decode cX13_readPage 137 = .ok (.invokevirtual 277, 3) := dk_182 1 21 (dk_at dksX13_readPage_5 18 rfl rfl)
theorem dX13_readPage_140 : decode cX13_readPage 140 = .ok (.ifCond .eq 19, 3) := dk_153 0 19 (dk_at dksX13_readPage_5 21 rfl rfl)
theorem dX13_readPage_143 : decode cX13_readPage 143 = .ok (.iload_n 1, 1) := dk_27 (dk_at dksX13_readPage_6 0 rfl rfl)
theorem dX13_readPage_144 : decode cX13_readPage 144 = .ok (.iconst 2, 1) := dk_5 (dk_at dksX13_readPage_6 1 rfl rfl)
theorem dX13_readPage_145 : decode cX13_readPage 145 = .ok (.if_icmp .lt 10, 3) := dk_161 0 10 (dk_at dksX13_readPage_6 2 rfl rfl)
theorem dX13_readPage_148 : decode cX13_readPage 148 = .ok (.aload_n 0, 1) := dk_42 (dk_at dksX13_readPage_6 5 rfl rfl)
theorem dX13_readPage_149 : decode cX13_readPage 149 = .ok (.invokevirtual 286, 3) := dk_182 1 30 (dk_at dksX13_readPage_6 6 rfl rfl)
theorem dX13_readPage_152 : decode cX13_readPage 152 = .ok (.ifCond .ne 7, 3) := dk_154 0 7 (dk_at dksX13_readPage_6 9 rfl rfl)
theorem dX13_readPage_155 : decode cX13_readPage 155 = .ok (.aload_n 0, 1) := dk_42 (dk_at dksX13_readPage_6 12 rfl rfl)
theorem dX13_readPage_156 : decode cX13_readPage 156 = .ok (.invokevirtual 280, 3) := dk_182 1 24 (dk_at dksX13_readPage_6 13 rfl rfl)
theorem dX13_readPage_159 : decode cX13_readPage 159 = .ok (.aload_n 0, 1) := dk_42 (dk_at dksX13_readPage_6 16 rfl rfl)
theorem dX13_readPage_160 : decode cX13_readPage 160 = .ok (.invokevirtual 277, 3) := dk_182 1 21 (dk_at dksX13_readPage_6 17 rfl rfl)
theorem dX13_readPage_163 : decode cX13_readPage 163 = .ok (.ifCond .ne 4, 3) := dk_154 0 4 (dk_at dksX13_readPage_6 20 rfl rfl)
theorem dX13_readPage_166 : decode cX13_readPage 166 = .ok (.return_, 1) := dk_177 (dk_at dksX13_readPage_6 23 rfl rfl)
theorem dX13_readPage_167 : decode cX13_readPage 167 = .ok (.aload_n 0, 1) := dk_42 (dk_at dksX13_readPage_7 0 rfl rfl)
theorem dX13_readPage_168 : decode cX13_readPage 168 = .ok (.iload_n 1, 1) := dk_27 (dk_at dksX13_readPage_7 1 rfl rfl)
theorem dX13_readPage_169 : decode cX13_readPage 169 = .ok (.iload_n 2, 1) := dk_28 (dk_at dksX13_readPage_7 2 rfl rfl)
theorem dX13_readPage_170 : decode cX13_readPage 170 = .ok (.invokevirtual 47, 3) := dk_182 0 47 (dk_at dksX13_readPage_7 3 rfl rfl)
theorem dX13_readPage_173 : decode cX13_readPage 173 = .ok (.iconst 0, 1) := dk_3 (dk_at dksX13_readPage_7 6 rfl rfl)
theorem dX13_readPage_174 : decode cX13_readPage 174 = .ok (.istore_n 3, 1) := dk_62 (dk_at dksX13_readPage_7 7 rfl rfl)
theorem dX13_readPage_175 : decode cX13_readPage 175 = .ok (.iload_n 3, 1) := dk_29 (dk_at dksX13_readPage_7 8 rfl rfl)
theorem dX13_readPage_176 : decode cX13_readPage 176 = .ok (.aload_n 0, 1) := dk_42 (dk_at dksX13_readPage_7 9 rfl rfl)
theorem dX13_readPage_177 : decode cX13_readPage 177 = .ok (.invokevirtual 61, 3) := dk_182 0 61 (dk_at dksX13_readPage_7 10 rfl rfl)
theorem dX13_readPage_180 : decode cX13_readPage 180 = .ok (.if_icmp .ge 27, 3) := dk_162 0 27 (dk_at dksX13_readPage_7 13 rfl rfl)
theorem dX13_readPage_183 : decode cX13_readPage 183 = .ok (.aload_n 0, 1) := dk_42 (dk_at dksX13_readPage_7 16 rfl rfl)
theorem dX13_readPage_184 : decode cX13_readPage 184 = .ok (.getfield 7, 3) := dk_180 0 7 (dk_at dksX13_readPage_7 17 rfl rfl)
theorem dX13_readPage_187 : decode cX13_readPage 187 = .ok (.bipush 8, 2) := dk_16 8 (dk_at dksX13_readPage_7 20 rfl rfl)
theorem dX13_readPage_189 : decode cX13_readPage 189 = .ok (.iload_n 3, 1) := dk_29 (dk_at dksX13_readPage_7 22 rfl rfl)
theorem dX13_readPage_190 : decode cX13_readPage 190 = .ok (.iadd, 1) := dk_96 (dk_at dksX13_readPage_7 23 rfl rfl)
theorem dX13_readPage_191 : decode cX13_readPage 191 = .ok (.aload_n 0, 1) := dk_42 (dk_at dksX13_readPage_8 0 rfl rfl)
theorem dX13_readPage_192 : decode cX13_readPage 192 = .ok (.getfield 37, 3) := dk_180 0 37 (dk_at dksX13_readPage_8 1 rfl rfl)
theorem dX13_readPage_195 : decode cX13_readPage 195 = .ok (.bipush 8, 2) := dk_16 8 (dk_at dksX13_readPage_8 4 rfl rfl)
theorem dX13_readPage_197 : decode cX13_readPage 197 = .ok (.iload_n 3, 1) := dk_29 (dk_at dksX13_readPage_8 6 rfl rfl)
theorem dX13_readPage_198 : decode cX13_readPage 198 = .ok (.iadd, 1) := dk_96 (dk_at dksX13_readPage_8 7 rfl rfl)
theorem dX13_readPage_199 : decode cX13_readPage 199 = .ok (.iaload, 1) := dk_46 (dk_at dksX13_readPage_8 8 rfl rfl)
theorem dX13_readPage_200 : decode cX13_readPage 200 = .ok (.iastore, 1) := dk_79 (dk_at dksX13_readPage_8 9 rfl rfl)
theorem dX13_readPage_201 : decode cX13_readPage 201 = .ok (.iinc 3 1, 3) := dk_132 3 1 (dk_at dksX13_readPage_8 10 rfl rfl)
theorem dX13_readPage_204 : decode cX13_readPage 204 = .ok (.goto (-29), 3) := dk_167 255 227 (dk_at dksX13_readPage_8 13 rfl rfl)
theorem dX13_readPage_207 : decode cX13_readPage 207 = .ok (.aload_n 0, 1) := dk_42 (dk_at dksX13_readPage_8 16 rfl rfl)
theorem dX13_readPage_208 : decode cX13_readPage 208 = .ok (.invokevirtual 118, 3) := dk_182 0 118 (dk_at dksX13_readPage_8 17 rfl rfl)
theorem dX13_readPage_211 : decode cX13_readPage 211 = .ok (.istore_n 3, 1) := dk_62 (dk_at dksX13_readPage_8 20 rfl rfl)
theorem dX13_readPage_212 : decode cX13_readPage 212 = .ok (.iconst 0, 1) := dk_3 (dk_at dksX13_readPage_8 21 rfl rfl)
theorem dX13_readPage_213 : decode cX13_readPage 213 = .ok (.istore 4, 2) := dk_54 4 (dk_at dksX13_readPage_8 22 rfl rfl)
theorem dX13_readPage_215 : decode cX13_readPage 215 = .ok (.iload 4, 2) := dk_21 4 (dk_at dksX13_readPage_9 0 rfl rfl)
theorem dX13_readPage_217 : decode cX13_readPage 217 = .ok (.iload_n 3, 1) := dk_29 (dk_at dksX13_readPage_9 2 rfl rfl)
theorem dX13_readPage_218 : decode cX13_readPage 218 = .ok (.if_icmp .ge 34, 3) := dk_162 0 34 (dk_at dksX13_readPage_9 3 rfl rfl)
theorem dX13_readPage_221 : decode cX13_readPage 221 = .ok (.aload_n 0, 1) := dk_42 (dk_at dksX13_readPage_9 6 rfl rfl)
theorem dX13_readPage_222 : decode cX13_readPage 222 = .ok (.iload 4, 2) := dk_21 4 (dk_at dksX13_readPage_9 7 rfl rfl)
theorem dX13_readPage_224 : decode cX13_readPage 224 = .ok (.iconst (-1), 1) := dk_2 (dk_at dksX13_readPage_9 9 rfl rfl)
theorem dX13_readPage_225 : decode cX13_readPage 225 = .ok (.invokevirtual 112, 3) := dk_182 0 112 (dk_at dksX13_readPage_9 10 rfl rfl)
theorem dX13_readPage_228 : decode cX13_readPage 228 = .ok (.ifCond .eq 14, 3) := dk_153 0 14 (dk_at dksX13_readPage_9 13 rfl rfl)
theorem dX13_readPage_231 : decode cX13_readPage 231 = .ok (.aload_n 0, 1) := dk_42 (dk_at dksX13_readPage_9 16 rfl rfl)
theorem dX13_readPage_232 : decode cX13_readPage 232 = .ok (.iload 4, 2) := dk_21 4 (dk_at dksX13_readPage_9 17 rfl rfl)
theorem dX13_readPage_234 : decode cX13_readPage 234 = .ok (.invokevirtual 76, 3) := dk_182 0 76 (dk_at dksX13_readPage_9 19 rfl rfl)
theorem dX13_readPage_237 : decode cX13_readPage 237 = .ok (.bipush 6, 2) := dk_16 6 (dk_at dksX13_readPage_9 22 rfl rfl)
theorem dX13_readPage_239 : decode cX13_readPage 239 = .ok (.if_icmp .le 7, 3) := dk_164 0 7 (dk_at dksX13_readPage_10 0 rfl rfl)
theorem dX13_readPage_242 : decode cX13_readPage 242 = .ok (.aload_n 0, 1) := dk_42 (dk_at dksX13_readPage_10 3 rfl rfl)
theorem dX13_readPage_243 : decode cX13_readPage 243 = .ok (.invokevirtual 280, 3) := dk_182 1 24 (dk_at dksX13_readPage_10 4 rfl rfl)
theorem dX13_readPage_246 : decode cX13_readPage 246 = .ok (.iinc 4 1, 3) := dk_132 4 1 (dk_at dksX13_readPage_10 7 rfl rfl)
theorem dX13_readPage_249 : decode cX13_readPage 249 = .ok (.goto (-34), 3) := dk_167 255 222 (dk_at dksX13_readPage_10 10 rfl rfl)
theorem dX13_readPage_252 : decode cX13_readPage 252 = .ok (.return_, 1) := dk_177 (dk_at dksX13_readPage_10 13 rfl rfl)
abbrev cX13_isStop : ByteArray := prog_28_method_93_code
def yX13_isStop : MethodName := ⟨RX13, "isStop", "()Z"⟩
def dkwX13_isStop_1 : List UInt8 := [167, 0, 4, 3, 172]
abbrev dktX13_isStop_1 : List UInt8 := dkwX13_isStop_1 ++ []
def dkwX13_isStop_0 : List UInt8 := [42, 180, 1, 5, 6, 160, 0, 20, 42, 42, 180, 0, 255, 182, 1, 2, 16, 59, 160, 0, 7, 4]
abbrev dktX13_isStop_0 : List UInt8 := dkwX13_isStop_0 ++ dktX13_isStop_1
theorem dksX13_isStop_0 : cX13_isStop.data.toList.drop 0 = dktX13_isStop_0 := by decide +kernel
theorem dksX13_isStop_1 : cX13_isStop.data.toList.drop 22 = dktX13_isStop_1 := dk_seg dksX13_isStop_0 22 rfl rfl
theorem dX13_isStop_0 : decode cX13_isStop 0 = .ok (.aload_n 0, 1) := dk_42 (dk_at dksX13_isStop_0 0 rfl rfl)
theorem dX13_isStop_1 : decode cX13_isStop 1 = .ok (.getfield 261, 3) := dk_180 1 5 (dk_at dksX13_isStop_0 1 rfl rfl)
theorem dX13_isStop_4 : decode cX13_isStop 4 = .ok (.iconst 3, 1) := dk_6 (dk_at dksX13_isStop_0 4 rfl rfl)
theorem dX13_isStop_5 : decode cX13_isStop 5 = .ok (.if_icmp .ne 20, 3) := dk_160 0 20 (dk_at dksX13_isStop_0 5 rfl rfl)
theorem dX13_isStop_8 : decode cX13_isStop 8 = .ok (.aload_n 0, 1) := dk_42 (dk_at dksX13_isStop_0 8 rfl rfl)
theorem dX13_isStop_9 : decode cX13_isStop 9 = .ok (.aload_n 0, 1) := dk_42 (dk_at dksX13_isStop_0 9 rfl rfl)
theorem dX13_isStop_10 : decode cX13_isStop 10 = .ok (.getfield 255, 3) := dk_180 0 255 (dk_at dksX13_isStop_0 10 rfl rfl)
theorem dX13_isStop_13 : decode cX13_isStop 13 = .ok (.invokevirtual 258, 3) := dk_182 1 2 (dk_at dksX13_isStop_0 13 rfl rfl)
theorem dX13_isStop_16 : decode cX13_isStop 16 = .ok (.bipush 59, 2) := dk_16 59 (dk_at dksX13_isStop_0 16 rfl rfl)
theorem dX13_isStop_18 : decode cX13_isStop 18 = .ok (.if_icmp .ne 7, 3) := dk_160 0 7 (dk_at dksX13_isStop_0 18 rfl rfl)
theorem dX13_isStop_21 : decode cX13_isStop 21 = .ok (.iconst 1, 1) := dk_4 (dk_at dksX13_isStop_0 21 rfl rfl)
theorem dX13_isStop_22 : decode cX13_isStop 22 = .ok (.goto 4, 3) := dk_167 0 4 (dk_at dksX13_isStop_1 0 rfl rfl)
theorem dX13_isStop_25 : decode cX13_isStop 25 = .ok (.iconst 0, 1) := dk_3 (dk_at dksX13_isStop_1 3 rfl rfl)
theorem dX13_isStop_26 : decode cX13_isStop 26 = .ok (.ireturn, 1) := dk_172 (dk_at dksX13_isStop_1 4 rfl rfl)
abbrev cX13_readAnswer : ByteArray := prog_28_method_96_code
def yX13_readAnswer : MethodName := ⟨RX13, "readAnswer", "()V"⟩
def dkwX13_readAnswer_6 : List UInt8 := [132, 2, 1, 167, 255, 182, 42, 182, 1, 21, 153, 0, 7, 42, 182, 1, 27, 132, 1, 1, 167, 255, 116, 177]
abbrev dktX13_readAnswer_6 : List UInt8 := dkwX13_readAnswer_6 ++ []
def dkwX13_readAnswer_5 : List UInt8 := [182, 1, 33, 153, 0, 17, 42, 180, 0, 7, 16, 33, 29, 96, 21, 4, 79, 167, 0, 7, 42, 182, 1, 24]
abbrev dktX13_readAnswer_5 : List UInt8 := dkwX13_readAnswer_5 ++ dktX13_readAnswer_6
def dkwX13_readAnswer_4 : List UInt8 := [104, 28, 96, 62, 42, 42, 180, 0, 255, 28, 96, 182, 1, 2, 16, 48, 100, 54, 4, 42, 29, 21, 4]
abbrev dktX13_readAnswer_4 : List UInt8 := dkwX13_readAnswer_4 ++ dktX13_readAnswer_5
def dkwX13_readAnswer_3 : List UInt8 := [28, 42, 180, 0, 7, 4, 46, 162, 0, 70, 42, 182, 1, 21, 153, 0, 63, 42, 180, 0, 7, 4, 46, 27]
abbrev dktX13_readAnswer_3 : List UInt8 := dkwX13_readAnswer_3 ++ dktX13_readAnswer_4
def dkwX13_readAnswer_2 : List UInt8 := [42, 180, 0, 252, 42, 180, 0, 255, 100, 42, 180, 0, 7, 4, 46, 159, 0, 7, 42, 182, 1, 24, 3, 61]
abbrev dktX13_readAnswer_2 : List UInt8 := dkwX13_readAnswer_2 ++ dktX13_readAnswer_3
def dkwX13_readAnswer_1 : List UInt8 := [42, 180, 0, 7, 3, 46, 162, 0, 136, 42, 182, 1, 21, 153, 0, 129, 42, 180, 1, 5, 5, 160, 0, 21]
abbrev dktX13_readAnswer_1 : List UInt8 := dkwX13_readAnswer_1 ++ dktX13_readAnswer_2
def dkwX13_readAnswer_0 : List UInt8 := [3, 60, 27, 42, 182, 0, 61, 162, 0, 14, 42, 27, 182, 0, 89, 132, 1, 1, 167, 255, 240, 3, 60, 27]
abbrev dktX13_readAnswer_0 : List UInt8 := dkwX13_readAnswer_0 ++ dktX13_readAnswer_1
theorem dksX13_readAnswer_0 : cX13_readAnswer.data.toList.drop 0 = dktX13_readAnswer_0 := by decide +kernel
theorem dksX13_readAnswer_1 : cX13_readAnswer.data.toList.drop 24 = dktX13_readAnswer_1 := dk_seg dksX13_readAnswer_0 24 rfl rfl
theorem dksX13_readAnswer_2 : cX13_readAnswer.data.toList.drop 48 = dktX13_readAnswer_2 := dk_seg dksX13_readAnswer_1 24 rfl rfl
theorem dksX13_readAnswer_3 : cX13_readAnswer.data.toList.drop 72 = dktX13_readAnswer_3 := dk_seg dksX13_readAnswer_2 24 rfl rfl
theorem dksX13_readAnswer_4 : cX13_readAnswer.data.toList.drop 96 = dktX13_readAnswer_4 := dk_seg dksX13_readAnswer_3 24 rfl rfl
theorem dksX13_readAnswer_5 : cX13_readAnswer.data.toList.drop 119 = dktX13_readAnswer_5 := dk_seg dksX13_readAnswer_4 23 rfl rfl
theorem dksX13_readAnswer_6 : cX13_readAnswer.data.toList.drop 143 = dktX13_readAnswer_6 := dk_seg dksX13_readAnswer_5 24 rfl rfl
theorem dX13_readAnswer_0 : decode cX13_readAnswer 0 = .ok (.iconst 0, 1) := dk_3 (dk_at dksX13_readAnswer_0 0 rfl rfl)
theorem dX13_readAnswer_1 : decode cX13_readAnswer 1 = .ok (.istore_n 1, 1) := dk_60 (dk_at dksX13_readAnswer_0 1 rfl rfl)
theorem dX13_readAnswer_2 : decode cX13_readAnswer 2 = .ok (.iload_n 1, 1) := dk_27 (dk_at dksX13_readAnswer_0 2 rfl rfl)
theorem dX13_readAnswer_3 : decode cX13_readAnswer 3 = .ok (.aload_n 0, 1) := dk_42 (dk_at dksX13_readAnswer_0 3 rfl rfl)
theorem dX13_readAnswer_4 : decode cX13_readAnswer 4 = .ok (.invokevirtual 61, 3) := dk_182 0 61 (dk_at dksX13_readAnswer_0 4 rfl rfl)
theorem dX13_readAnswer_7 : decode cX13_readAnswer 7 = .ok (.if_icmp .ge 14, 3) := dk_162 0 14 (dk_at dksX13_readAnswer_0 7 rfl rfl)
theorem dX13_readAnswer_10 : decode cX13_readAnswer 10 = .ok (.aload_n 0, 1) := dk_42 (dk_at dksX13_readAnswer_0 10 rfl rfl)
theorem dX13_readAnswer_11 : decode cX13_readAnswer 11 = .ok (.iload_n 1, 1) := dk_27 (dk_at dksX13_readAnswer_0 11 rfl rfl)
theorem dX13_readAnswer_12 : decode cX13_readAnswer 12 = .ok (.invokevirtual 89, 3) := dk_182 0 89 (dk_at dksX13_readAnswer_0 12 rfl rfl)
theorem dX13_readAnswer_15 : decode cX13_readAnswer 15 = .ok (.iinc 1 1, 3) := dk_132 1 1 (dk_at dksX13_readAnswer_0 15 rfl rfl)
theorem dX13_readAnswer_18 : decode cX13_readAnswer 18 = .ok (.goto (-16), 3) := dk_167 255 240 (dk_at dksX13_readAnswer_0 18 rfl rfl)
theorem dX13_readAnswer_21 : decode cX13_readAnswer 21 = .ok (.iconst 0, 1) := dk_3 (dk_at dksX13_readAnswer_0 21 rfl rfl)
theorem dX13_readAnswer_22 : decode cX13_readAnswer 22 = .ok (.istore_n 1, 1) := dk_60 (dk_at dksX13_readAnswer_0 22 rfl rfl)
theorem dX13_readAnswer_23 : decode cX13_readAnswer 23 = .ok (.iload_n 1, 1) := dk_27 (dk_at dksX13_readAnswer_0 23 rfl rfl)
theorem dX13_readAnswer_24 : decode cX13_readAnswer 24 = .ok (.aload_n 0, 1) := dk_42 (dk_at dksX13_readAnswer_1 0 rfl rfl)
theorem dX13_readAnswer_25 : decode cX13_readAnswer 25 = .ok (.getfield 7, 3) := dk_180 0 7 (dk_at dksX13_readAnswer_1 1 rfl rfl)
theorem dX13_readAnswer_28 : decode cX13_readAnswer 28 = .ok (.iconst 0, 1) := dk_3 (dk_at dksX13_readAnswer_1 4 rfl rfl)
theorem dX13_readAnswer_29 : decode cX13_readAnswer 29 = .ok (.iaload, 1) := dk_46 (dk_at dksX13_readAnswer_1 5 rfl rfl)
theorem dX13_readAnswer_30 : decode cX13_readAnswer 30 = .ok (.if_icmp .ge 136, 3) := dk_162 0 136 (dk_at dksX13_readAnswer_1 6 rfl rfl)
theorem dX13_readAnswer_33 : decode cX13_readAnswer 33 = .ok (.aload_n 0, 1) := dk_42 (dk_at dksX13_readAnswer_1 9 rfl rfl)
theorem dX13_readAnswer_34 : decode cX13_readAnswer 34 = .ok (.invokevirtual 277, 3) := dk_182 1 21 (dk_at dksX13_readAnswer_1 10 rfl rfl)
theorem dX13_readAnswer_37 : decode cX13_readAnswer 37 = .ok (.ifCond .eq 129, 3) := dk_153 0 129 (dk_at dksX13_readAnswer_1 13 rfl rfl)
theorem dX13_readAnswer_40 : decode cX13_readAnswer 40 = .ok (.aload_n 0, 1) := dk_42 (dk_at dksX13_readAnswer_1 16 rfl rfl)
theorem dX13_readAnswer_41 : decode cX13_readAnswer 41 = .ok (.getfield 261, 3) := dk_180 1 5 (dk_at dksX13_readAnswer_1 17 rfl rfl)
theorem dX13_readAnswer_44 : decode cX13_readAnswer 44 = .ok (.iconst 2, 1) := dk_5 (dk_at dksX13_readAnswer_1 20 rfl rfl)
theorem dX13_readAnswer_45 : decode cX13_readAnswer 45 = .ok (.if_icmp .ne 21, 3) := dk_160 0 21 (dk_at dksX13_readAnswer_1 21 rfl rfl)
theorem dX13_readAnswer_48 : decode cX13_readAnswer 48 = .ok (.aload_n 0, 1) := dk_42 (dk_at dksX13_readAnswer_2 0 rfl rfl)
theorem dX13_readAnswer_49 : decode cX13_readAnswer 49 = .ok (.getfield 252, 3) := dk_180 0 252 (dk_at dksX13_readAnswer_2 1 rfl rfl)
theorem dX13_readAnswer_52 : decode cX13_readAnswer 52 = .ok (.aload_n 0, 1) := dk_42 (dk_at dksX13_readAnswer_2 4 rfl rfl)
theorem dX13_readAnswer_53 : decode cX13_readAnswer 53 = .ok (.getfield 255, 3) := dk_180 0 255 (dk_at dksX13_readAnswer_2 5 rfl rfl)
theorem dX13_readAnswer_56 : decode cX13_readAnswer 56 = .ok (.isub, 1) := dk_100 (dk_at dksX13_readAnswer_2 8 rfl rfl)
theorem dX13_readAnswer_57 : decode cX13_readAnswer 57 = .ok (.aload_n 0, 1) := dk_42 (dk_at dksX13_readAnswer_2 9 rfl rfl)
theorem dX13_readAnswer_58 : decode cX13_readAnswer 58 = .ok (.getfield 7, 3) := dk_180 0 7 (dk_at dksX13_readAnswer_2 10 rfl rfl)
theorem dX13_readAnswer_61 : decode cX13_readAnswer 61 = .ok (.iconst 1, 1) := dk_4 (dk_at dksX13_readAnswer_2 13 rfl rfl)
theorem dX13_readAnswer_62 : decode cX13_readAnswer 62 = .ok (.iaload, 1) := dk_46 (dk_at dksX13_readAnswer_2 14 rfl rfl)
theorem dX13_readAnswer_63 : decode cX13_readAnswer 63 = .ok (.if_icmp .eq 7, 3) := dk_159 0 7 (dk_at dksX13_readAnswer_2 15 rfl rfl)
theorem dX13_readAnswer_66 : decode cX13_readAnswer 66 = .ok (.aload_n 0, 1) := dk_42 (dk_at dksX13_readAnswer_2 18 rfl rfl)
theorem dX13_readAnswer_67 : decode cX13_readAnswer 67 = .ok (.invokevirtual 280, 3) := dk_182 1 24 (dk_at dksX13_readAnswer_2 19 rfl rfl)
theorem dX13_readAnswer_70 : decode cX13_readAnswer 70 = .ok (.iconst 0, 1) := dk_3 (dk_at dksX13_readAnswer_2 22 rfl rfl)
theorem dX13_readAnswer_71 : decode cX13_readAnswer 71 = .ok (.istore_n 2, 1) := dk_61 (dk_at dksX13_readAnswer_2 23 rfl rfl)
theorem dX13_readAnswer_72 : decode cX13_readAnswer 72 = .ok (.iload_n 2, 1) := dk_28 (dk_at dksX13_readAnswer_3 0 rfl rfl)
theorem dX13_readAnswer_73 : decode cX13_readAnswer 73 = .ok (.aload_n 0, 1) := dk_42 (dk_at dksX13_readAnswer_3 1 rfl rfl)
theorem dX13_readAnswer_74 : decode cX13_readAnswer 74 = .ok (.getfield 7, 3) := dk_180 0 7 (dk_at dksX13_readAnswer_3 2 rfl rfl)
theorem dX13_readAnswer_77 : decode cX13_readAnswer 77 = .ok (.iconst 1, 1) := dk_4 (dk_at dksX13_readAnswer_3 5 rfl rfl)
theorem dX13_readAnswer_78 : decode cX13_readAnswer 78 = .ok (.iaload, 1) := dk_46 (dk_at dksX13_readAnswer_3 6 rfl rfl)
theorem dX13_readAnswer_79 : decode cX13_readAnswer 79 = .ok (.if_icmp .ge 70, 3) := dk_162 0 70 (dk_at dksX13_readAnswer_3 7 rfl rfl)
theorem dX13_readAnswer_82 : decode cX13_readAnswer 82 = .ok (.aload_n 0, 1) := dk_42 (dk_at dksX13_readAnswer_3 10 rfl rfl)
theorem dX13_readAnswer_83 : decode cX13_readAnswer 83 = .ok (.invokevirtual 277, 3) := dk_182 1 21 (dk_at dksX13_readAnswer_3 11 rfl rfl)
theorem dX13_readAnswer_86 : decode cX13_readAnswer 86 = .ok (.ifCond .eq 63, 3) := dk_153 0 63 (dk_at dksX13_readAnswer_3 14 rfl rfl)
theorem dX13_readAnswer_89 : decode cX13_readAnswer 89 = .ok (.aload_n 0, 1) := dk_42 (dk_at dksX13_readAnswer_3 17 rfl rfl)
theorem dX13_readAnswer_90 : decode cX13_readAnswer 90 = .ok (.getfield 7, 3) := dk_180 0 7 (dk_at dksX13_readAnswer_3 18 rfl rfl)
theorem dX13_readAnswer_93 : decode cX13_readAnswer 93 = .ok (.iconst 1, 1) := dk_4 (dk_at dksX13_readAnswer_3 21 rfl rfl)
theorem dX13_readAnswer_94 : decode cX13_readAnswer 94 = .ok (.iaload, 1) := dk_46 (dk_at dksX13_readAnswer_3 22 rfl rfl)
theorem dX13_readAnswer_95 : decode cX13_readAnswer 95 = .ok (.iload_n 1, 1) := dk_27 (dk_at dksX13_readAnswer_3 23 rfl rfl)
theorem dX13_readAnswer_96 : decode cX13_readAnswer 96 = .ok (.imul, 1) := dk_104 (dk_at dksX13_readAnswer_4 0 rfl rfl)
theorem dX13_readAnswer_97 : decode cX13_readAnswer 97 = .ok (.iload_n 2, 1) := dk_28 (dk_at dksX13_readAnswer_4 1 rfl rfl)
theorem dX13_readAnswer_98 : decode cX13_readAnswer 98 = .ok (.iadd, 1) := dk_96 (dk_at dksX13_readAnswer_4 2 rfl rfl)
theorem dX13_readAnswer_99 : decode cX13_readAnswer 99 = .ok (.istore_n 3, 1) := dk_62 (dk_at dksX13_readAnswer_4 3 rfl rfl)
theorem dX13_readAnswer_100 : decode cX13_readAnswer 100 = .ok (.aload_n 0, 1) := dk_42 (dk_at dksX13_readAnswer_4 4 rfl rfl)
theorem dX13_readAnswer_101 : decode cX13_readAnswer 101 = .ok (.aload_n 0, 1) := dk_42 (dk_at dksX13_readAnswer_4 5 rfl rfl)
theorem dX13_readAnswer_102 : decode cX13_readAnswer 102 = .ok (.getfield 255, 3) := dk_180 0 255 (dk_at dksX13_readAnswer_4 6 rfl rfl)
theorem dX13_readAnswer_105 : decode cX13_readAnswer 105 = .ok (.iload_n 2, 1) := dk_28 (dk_at dksX13_readAnswer_4 9 rfl rfl)
theorem dX13_readAnswer_106 : decode cX13_readAnswer 106 = .ok (.iadd, 1) := dk_96 (dk_at dksX13_readAnswer_4 10 rfl rfl)
theorem dX13_readAnswer_107 : decode cX13_readAnswer 107 = .ok (.invokevirtual 258, 3) := dk_182 1 2 (dk_at dksX13_readAnswer_4 11 rfl rfl)
theorem dX13_readAnswer_110 : decode cX13_readAnswer 110 = .ok (.bipush 48, 2) := dk_16 48 (dk_at dksX13_readAnswer_4 14 rfl rfl)
theorem dX13_readAnswer_112 : decode cX13_readAnswer 112 = .ok (.isub, 1) := dk_100 (dk_at dksX13_readAnswer_4 16 rfl rfl)
theorem dX13_readAnswer_113 : decode cX13_readAnswer 113 = .ok (.istore 4, 2) := dk_54 4 (dk_at dksX13_readAnswer_4 17 rfl rfl)
theorem dX13_readAnswer_115 : decode cX13_readAnswer 115 = .ok (.aload_n 0, 1) := dk_42 (dk_at dksX13_readAnswer_4 19 rfl rfl)
theorem dX13_readAnswer_116 : decode cX13_readAnswer 116 = .ok (.iload_n 3, 1) := dk_29 (dk_at dksX13_readAnswer_4 20 rfl rfl)
theorem dX13_readAnswer_117 : decode cX13_readAnswer 117 = .ok (.iload 4, 2) := dk_21 4 (dk_at dksX13_readAnswer_4 21 rfl rfl)
theorem dX13_readAnswer_119 : decode cX13_readAnswer 119 = .ok (.invokevirtual 289, 3) := dk_182 1 33 (dk_at dksX13_readAnswer_5 0 rfl rfl)
theorem dX13_readAnswer_122 : decode cX13_readAnswer 122 = .ok (.ifCond .eq 17, 3) := dk_153 0 17 (dk_at dksX13_readAnswer_5 3 rfl rfl)
theorem dX13_readAnswer_125 : decode cX13_readAnswer 125 = .ok (.aload_n 0, 1) := dk_42 (dk_at dksX13_readAnswer_5 6 rfl rfl)
theorem dX13_readAnswer_126 : decode cX13_readAnswer 126 = .ok (.getfield 7, 3) := dk_180 0 7 (dk_at dksX13_readAnswer_5 7 rfl rfl)
theorem dX13_readAnswer_129 : decode cX13_readAnswer 129 = .ok (.bipush 33, 2) := dk_16 33 (dk_at dksX13_readAnswer_5 10 rfl rfl)
theorem dX13_readAnswer_131 : decode cX13_readAnswer 131 = .ok (.iload_n 3, 1) := dk_29 (dk_at dksX13_readAnswer_5 12 rfl rfl)
theorem dX13_readAnswer_132 : decode cX13_readAnswer 132 = .ok (.iadd, 1) := dk_96 (dk_at dksX13_readAnswer_5 13 rfl rfl)
theorem dX13_readAnswer_133 : decode cX13_readAnswer 133 = .ok (.iload 4, 2) := dk_21 4 (dk_at dksX13_readAnswer_5 14 rfl rfl)
theorem dX13_readAnswer_135 : decode cX13_readAnswer 135 = .ok (.iastore, 1) := dk_79 (dk_at dksX13_readAnswer_5 16 rfl rfl)
theorem dX13_readAnswer_136 : decode cX13_readAnswer 136 = .ok (.goto 7, 3) := dk_167 0 7 (dk_at dksX13_readAnswer_5 17 rfl rfl)
theorem dX13_readAnswer_139 : decode cX13_readAnswer 139 = .ok (.aload_n 0, 1) := dk_42 (dk_at dksX13_readAnswer_5 20 rfl rfl)
theorem dX13_readAnswer_140 : decode cX13_readAnswer 140 = .ok (.invokevirtual 280, 3) := dk_182 1 24 (dk_at dksX13_readAnswer_5 21 rfl rfl)
theorem dX13_readAnswer_143 : decode cX13_readAnswer 143 = .ok (.iinc 2 1, 3) := dk_132 2 1 (dk_at dksX13_readAnswer_6 0 rfl rfl)
theorem dX13_readAnswer_146 : decode cX13_readAnswer 146 = .ok (.goto (-74), 3) := dk_167 255 182 (dk_at dksX13_readAnswer_6 3 rfl rfl)
theorem dX13_readAnswer_149 : decode cX13_readAnswer 149 = .ok (.aload_n 0, 1) := dk_42 (dk_at dksX13_readAnswer_6 6 rfl rfl)
theorem dX13_readAnswer_150 : decode cX13_readAnswer 150 = .ok (.invokevirtual 277, 3) := dk_182 1 21 (dk_at dksX13_readAnswer_6 7 rfl rfl)
theorem dX13_readAnswer_153 : decode cX13_readAnswer 153 = .ok (.ifCond .eq 7, 3) := dk_153 0 7 (dk_at dksX13_readAnswer_6 10 rfl rfl)
theorem dX13_readAnswer_156 : decode cX13_readAnswer 156 = .ok (.aload_n 0, 1) := dk_42 (dk_at dksX13_readAnswer_6 13 rfl rfl)
theorem dX13_readAnswer_157 : decode cX13_readAnswer 157 = .ok (.invokevirtual 283, 3) := dk_182 1 27 (dk_at dksX13_readAnswer_6 14 rfl rfl)
theorem dX13_readAnswer_160 : decode cX13_readAnswer 160 = .ok (.iinc 1 1, 3) := dk_132 1 1 (dk_at dksX13_readAnswer_6 17 rfl rfl)
theorem dX13_readAnswer_163 : decode cX13_readAnswer 163 = .ok (.goto (-140), 3) := dk_167 255 116 (dk_at dksX13_readAnswer_6 20 rfl rfl)
theorem dX13_readAnswer_166 : decode cX13_readAnswer 166 = .ok (.return_, 1) := dk_177 (dk_at dksX13_readAnswer_6 23 rfl rfl)
abbrev cX13_mayWrite : ByteArray := prog_28_method_95_code
def yX13_mayWrite : MethodName := ⟨RX13, "mayWrite", "(II)Z"⟩
def dkwX13_mayWrite_1 : List UInt8 := [167, 0, 4, 3, 172]
abbrev dktX13_mayWrite_1 : List UInt8 := dkwX13_mayWrite_1 ++ []
def dkwX13_mayWrite_0 : List UInt8 := [28, 153, 0, 21, 28, 42, 27, 182, 0, 121, 163, 0, 16, 42, 27, 28, 182, 0, 133, 154, 0, 7, 4]
abbrev dktX13_mayWrite_0 : List UInt8 := dkwX13_mayWrite_0 ++ dktX13_mayWrite_1
theorem dksX13_mayWrite_0 : cX13_mayWrite.data.toList.drop 0 = dktX13_mayWrite_0 := by decide +kernel
theorem dksX13_mayWrite_1 : cX13_mayWrite.data.toList.drop 23 = dktX13_mayWrite_1 := dk_seg dksX13_mayWrite_0 23 rfl rfl
theorem dX13_mayWrite_0 : decode cX13_mayWrite 0 = .ok (.iload_n 2, 1) := dk_28 (dk_at dksX13_mayWrite_0 0 rfl rfl)
theorem dX13_mayWrite_1 : decode cX13_mayWrite 1 = .ok (.ifCond .eq 21, 3) := dk_153 0 21 (dk_at dksX13_mayWrite_0 1 rfl rfl)
theorem dX13_mayWrite_4 : decode cX13_mayWrite 4 = .ok (.iload_n 2, 1) := dk_28 (dk_at dksX13_mayWrite_0 4 rfl rfl)
theorem dX13_mayWrite_5 : decode cX13_mayWrite 5 = .ok (.aload_n 0, 1) := dk_42 (dk_at dksX13_mayWrite_0 5 rfl rfl)
theorem dX13_mayWrite_6 : decode cX13_mayWrite 6 = .ok (.iload_n 1, 1) := dk_27 (dk_at dksX13_mayWrite_0 6 rfl rfl)
theorem dX13_mayWrite_7 : decode cX13_mayWrite 7 = .ok (.invokevirtual 121, 3) := dk_182 0 121 (dk_at dksX13_mayWrite_0 7 rfl rfl)
theorem dX13_mayWrite_10 : decode cX13_mayWrite 10 = .ok (.if_icmp .gt 16, 3) := dk_163 0 16 (dk_at dksX13_mayWrite_0 10 rfl rfl)
theorem dX13_mayWrite_13 : decode cX13_mayWrite 13 = .ok (.aload_n 0, 1) := dk_42 (dk_at dksX13_mayWrite_0 13 rfl rfl)
theorem dX13_mayWrite_14 : decode cX13_mayWrite 14 = .ok (.iload_n 1, 1) := dk_27 (dk_at dksX13_mayWrite_0 14 rfl rfl)
theorem dX13_mayWrite_15 : decode cX13_mayWrite 15 = .ok (.iload_n 2, 1) := dk_28 (dk_at dksX13_mayWrite_0 15 rfl rfl)
theorem dX13_mayWrite_16 : decode cX13_mayWrite 16 = .ok (.invokevirtual 133, 3) := dk_182 0 133 (dk_at dksX13_mayWrite_0 16 rfl rfl)
theorem dX13_mayWrite_19 : decode cX13_mayWrite 19 = .ok (.ifCond .ne 7, 3) := dk_154 0 7 (dk_at dksX13_mayWrite_0 19 rfl rfl)
theorem dX13_mayWrite_22 : decode cX13_mayWrite 22 = .ok (.iconst 1, 1) := dk_4 (dk_at dksX13_mayWrite_0 22 rfl rfl)
theorem dX13_mayWrite_23 : decode cX13_mayWrite 23 = .ok (.goto 4, 3) := dk_167 0 4 (dk_at dksX13_mayWrite_1 0 rfl rfl)
theorem dX13_mayWrite_26 : decode cX13_mayWrite 26 = .ok (.iconst 0, 1) := dk_3 (dk_at dksX13_mayWrite_1 3 rfl rfl)
theorem dX13_mayWrite_27 : decode cX13_mayWrite 27 = .ok (.ireturn, 1) := dk_172 (dk_at dksX13_mayWrite_1 4 rfl rfl)
abbrev cX13_readCosts : ByteArray := prog_28_method_100_code
def yX13_readCosts : MethodName := ⟨RX13, "readCosts", "()V"⟩
def dkwX13_readCosts_2 : List UInt8 := [132, 1, 1, 167, 255, 209, 177]
abbrev dktX13_readCosts_2 : List UInt8 := dkwX13_readCosts_2 ++ []
def dkwX13_readCosts_1 : List UInt8 := [156, 0, 10, 42, 182, 1, 24, 167, 0, 16, 42, 180, 0, 7, 6, 27, 96, 28, 79, 42, 182, 1, 27]
abbrev dktX13_readCosts_1 : List UInt8 := dkwX13_readCosts_1 ++ dktX13_readCosts_2
def dkwX13_readCosts_0 : List UInt8 := [3, 60, 27, 8, 162, 0, 48, 42, 182, 1, 21, 153, 0, 41, 42, 4, 16, 9, 182, 1, 46, 61, 28]
abbrev dktX13_readCosts_0 : List UInt8 := dkwX13_readCosts_0 ++ dktX13_readCosts_1
theorem dksX13_readCosts_0 : cX13_readCosts.data.toList.drop 0 = dktX13_readCosts_0 := by decide +kernel
theorem dksX13_readCosts_1 : cX13_readCosts.data.toList.drop 23 = dktX13_readCosts_1 := dk_seg dksX13_readCosts_0 23 rfl rfl
theorem dksX13_readCosts_2 : cX13_readCosts.data.toList.drop 46 = dktX13_readCosts_2 := dk_seg dksX13_readCosts_1 23 rfl rfl
theorem dX13_readCosts_0 : decode cX13_readCosts 0 = .ok (.iconst 0, 1) := dk_3 (dk_at dksX13_readCosts_0 0 rfl rfl)
theorem dX13_readCosts_1 : decode cX13_readCosts 1 = .ok (.istore_n 1, 1) := dk_60 (dk_at dksX13_readCosts_0 1 rfl rfl)
theorem dX13_readCosts_2 : decode cX13_readCosts 2 = .ok (.iload_n 1, 1) := dk_27 (dk_at dksX13_readCosts_0 2 rfl rfl)
theorem dX13_readCosts_3 : decode cX13_readCosts 3 = .ok (.iconst 5, 1) := dk_8 (dk_at dksX13_readCosts_0 3 rfl rfl)
theorem dX13_readCosts_4 : decode cX13_readCosts 4 = .ok (.if_icmp .ge 48, 3) := dk_162 0 48 (dk_at dksX13_readCosts_0 4 rfl rfl)
theorem dX13_readCosts_7 : decode cX13_readCosts 7 = .ok (.aload_n 0, 1) := dk_42 (dk_at dksX13_readCosts_0 7 rfl rfl)
theorem dX13_readCosts_8 : decode cX13_readCosts 8 = .ok (.invokevirtual 277, 3) := dk_182 1 21 (dk_at dksX13_readCosts_0 8 rfl rfl)
theorem dX13_readCosts_11 : decode cX13_readCosts 11 = .ok (.ifCond .eq 41, 3) := dk_153 0 41 (dk_at dksX13_readCosts_0 11 rfl rfl)
theorem dX13_readCosts_14 : decode cX13_readCosts 14 = .ok (.aload_n 0, 1) := dk_42 (dk_at dksX13_readCosts_0 14 rfl rfl)
theorem dX13_readCosts_15 : decode cX13_readCosts 15 = .ok (.iconst 1, 1) := dk_4 (dk_at dksX13_readCosts_0 15 rfl rfl)
theorem dX13_readCosts_16 : decode cX13_readCosts 16 = .ok (.bipush 9, 2) := dk_16 9 (dk_at dksX13_readCosts_0 16 rfl rfl)
theorem dX13_readCosts_18 : decode cX13_readCosts 18 = .ok (.invokevirtual 302, 3) := dk_182 1 46 (dk_at dksX13_readCosts_0 18 rfl rfl)
theorem dX13_readCosts_21 : decode cX13_readCosts 21 = .ok (.istore_n 2, 1) := dk_61 (dk_at dksX13_readCosts_0 21 rfl rfl)
theorem dX13_readCosts_22 : decode cX13_readCosts 22 = .ok (.iload_n 2, 1) := dk_28 (dk_at dksX13_readCosts_0 22 rfl rfl)
theorem dX13_readCosts_23 : decode cX13_readCosts 23 = .ok (.ifCond .ge 10, 3) := dk_156 0 10 (dk_at dksX13_readCosts_1 0 rfl rfl)
theorem dX13_readCosts_26 : decode cX13_readCosts 26 = .ok (.aload_n 0, 1) := dk_42 (dk_at dksX13_readCosts_1 3 rfl rfl)
theorem dX13_readCosts_27 : decode cX13_readCosts 27 = .ok (.invokevirtual 280, 3) := dk_182 1 24 (dk_at dksX13_readCosts_1 4 rfl rfl)
theorem dX13_readCosts_30 : decode cX13_readCosts 30 = .ok (.goto 16, 3) := dk_167 0 16 (dk_at dksX13_readCosts_1 7 rfl rfl)
theorem dX13_readCosts_33 : decode cX13_readCosts 33 = .ok (.aload_n 0, 1) := dk_42 (dk_at dksX13_readCosts_1 10 rfl rfl)
theorem dX13_readCosts_34 : decode cX13_readCosts 34 = .ok (.getfield 7, 3) := dk_180 0 7 (dk_at dksX13_readCosts_1 11 rfl rfl)
theorem dX13_readCosts_37 : decode cX13_readCosts 37 = .ok (.iconst 3, 1) := dk_6 (dk_at dksX13_readCosts_1 14 rfl rfl)
theorem dX13_readCosts_38 : decode cX13_readCosts 38 = .ok (.iload_n 1, 1) := dk_27 (dk_at dksX13_readCosts_1 15 rfl rfl)
theorem dX13_readCosts_39 : decode cX13_readCosts 39 = .ok (.iadd, 1) := dk_96 (dk_at dksX13_readCosts_1 16 rfl rfl)
theorem dX13_readCosts_40 : decode cX13_readCosts 40 = .ok (.iload_n 2, 1) := dk_28 (dk_at dksX13_readCosts_1 17 rfl rfl)
theorem dX13_readCosts_41 : decode cX13_readCosts 41 = .ok (.iastore, 1) := dk_79 (dk_at dksX13_readCosts_1 18 rfl rfl)
theorem dX13_readCosts_42 : decode cX13_readCosts 42 = .ok (.aload_n 0, 1) := dk_42 (dk_at dksX13_readCosts_1 19 rfl rfl)
theorem dX13_readCosts_43 : decode cX13_readCosts 43 = .ok (.invokevirtual 283, 3) := dk_182 1 27 (dk_at dksX13_readCosts_1 20 rfl rfl)
theorem dX13_readCosts_46 : decode cX13_readCosts 46 = .ok (.iinc 1 1, 3) := dk_132 1 1 (dk_at dksX13_readCosts_2 0 rfl rfl)
theorem dX13_readCosts_49 : decode cX13_readCosts 49 = .ok (.goto (-47), 3) := dk_167 255 209 (dk_at dksX13_readCosts_2 3 rfl rfl)
theorem dX13_readCosts_52 : decode cX13_readCosts 52 = .ok (.return_, 1) := dk_177 (dk_at dksX13_readCosts_2 6 rfl rfl)
abbrev cX13_numberHere : ByteArray := prog_28_method_92_code
def yX13_numberHere : MethodName := ⟨RX13, "numberHere", "(II)I"⟩
def dkwX13_numberHere_4 : List UInt8 := [153, 0, 7, 4, 167, 0, 4, 3, 54, 4, 21, 4, 153, 0, 7, 29, 167, 0, 4, 2, 172]
abbrev dktX13_numberHere_4 : List UInt8 := dkwX13_numberHere_4 ++ []
def dkwX13_numberHere_3 : List UInt8 := [159, 0, 16, 42, 42, 180, 0, 255, 182, 1, 2, 16, 48, 159, 0, 16, 29, 27, 28, 184, 0, 65]
abbrev dktX13_numberHere_3 : List UInt8 := dkwX13_numberHere_3 ++ dktX13_numberHere_4
def dkwX13_numberHere_2 : List UInt8 := [132, 4, 1, 167, 255, 215, 42, 180, 1, 5, 5, 160, 0, 42, 42, 180, 0, 252, 42, 180, 0, 255, 100, 4]
abbrev dktX13_numberHere_2 : List UInt8 := dkwX13_numberHere_2 ++ dktX13_numberHere_3
def dkwX13_numberHere_1 : List UInt8 := [160, 0, 30, 17, 3, 232, 16, 10, 29, 104, 42, 21, 4, 182, 1, 2, 96, 16, 48, 100, 184, 1, 18, 62]
abbrev dktX13_numberHere_1 : List UInt8 := dkwX13_numberHere_1 ++ dktX13_numberHere_2
def dkwX13_numberHere_0 : List UInt8 := [3, 62, 42, 180, 0, 255, 54, 4, 21, 4, 42, 180, 0, 252, 162, 0, 38, 42, 180, 1, 5, 5]
abbrev dktX13_numberHere_0 : List UInt8 := dkwX13_numberHere_0 ++ dktX13_numberHere_1
theorem dksX13_numberHere_0 : cX13_numberHere.data.toList.drop 0 = dktX13_numberHere_0 := by decide +kernel
theorem dksX13_numberHere_1 : cX13_numberHere.data.toList.drop 22 = dktX13_numberHere_1 := dk_seg dksX13_numberHere_0 22 rfl rfl
theorem dksX13_numberHere_2 : cX13_numberHere.data.toList.drop 46 = dktX13_numberHere_2 := dk_seg dksX13_numberHere_1 24 rfl rfl
theorem dksX13_numberHere_3 : cX13_numberHere.data.toList.drop 70 = dktX13_numberHere_3 := dk_seg dksX13_numberHere_2 24 rfl rfl
theorem dksX13_numberHere_4 : cX13_numberHere.data.toList.drop 92 = dktX13_numberHere_4 := dk_seg dksX13_numberHere_3 22 rfl rfl
theorem dX13_numberHere_0 : decode cX13_numberHere 0 = .ok (.iconst 0, 1) := dk_3 (dk_at dksX13_numberHere_0 0 rfl rfl)
theorem dX13_numberHere_1 : decode cX13_numberHere 1 = .ok (.istore_n 3, 1) := dk_62 (dk_at dksX13_numberHere_0 1 rfl rfl)
theorem dX13_numberHere_2 : decode cX13_numberHere 2 = .ok (.aload_n 0, 1) := dk_42 (dk_at dksX13_numberHere_0 2 rfl rfl)
theorem dX13_numberHere_3 : decode cX13_numberHere 3 = .ok (.getfield 255, 3) := dk_180 0 255 (dk_at dksX13_numberHere_0 3 rfl rfl)
theorem dX13_numberHere_6 : decode cX13_numberHere 6 = .ok (.istore 4, 2) := dk_54 4 (dk_at dksX13_numberHere_0 6 rfl rfl)
theorem dX13_numberHere_8 : decode cX13_numberHere 8 = .ok (.iload 4, 2) := dk_21 4 (dk_at dksX13_numberHere_0 8 rfl rfl)
theorem dX13_numberHere_10 : decode cX13_numberHere 10 = .ok (.aload_n 0, 1) := dk_42 (dk_at dksX13_numberHere_0 10 rfl rfl)
theorem dX13_numberHere_11 : decode cX13_numberHere 11 = .ok (.getfield 252, 3) := dk_180 0 252 (dk_at dksX13_numberHere_0 11 rfl rfl)
theorem dX13_numberHere_14 : decode cX13_numberHere 14 = .ok (.if_icmp .ge 38, 3) := dk_162 0 38 (dk_at dksX13_numberHere_0 14 rfl rfl)
theorem dX13_numberHere_17 : decode cX13_numberHere 17 = .ok (.aload_n 0, 1) := dk_42 (dk_at dksX13_numberHere_0 17 rfl rfl)
theorem dX13_numberHere_18 : decode cX13_numberHere 18 = .ok (.getfield 261, 3) := dk_180 1 5 (dk_at dksX13_numberHere_0 18 rfl rfl)
theorem dX13_numberHere_21 : decode cX13_numberHere 21 = .ok (.iconst 2, 1) := dk_5 (dk_at dksX13_numberHere_0 21 rfl rfl)
theorem dX13_numberHere_22 : decode cX13_numberHere 22 = .ok (.if_icmp .ne 30, 3) := dk_160 0 30 (dk_at dksX13_numberHere_1 0 rfl rfl)
theorem dX13_numberHere_25 : decode cX13_numberHere 25 = .ok (.sipush 1000, 3) := dk_17 3 232 (dk_at dksX13_numberHere_1 3 rfl rfl)
theorem dX13_numberHere_28 : decode cX13_numberHere 28 = .ok (.bipush 10, 2) := dk_16 10 (dk_at dksX13_numberHere_1 6 rfl rfl)
theorem dX13_numberHere_30 : decode cX13_numberHere 30 = .ok (.iload_n 3, 1) := dk_29 (dk_at dksX13_numberHere_1 8 rfl rfl)
theorem dX13_numberHere_31 : decode cX13_numberHere 31 = .ok (.imul, 1) := dk_104 (dk_at dksX13_numberHere_1 9 rfl rfl)
theorem dX13_numberHere_32 : decode cX13_numberHere 32 = .ok (.aload_n 0, 1) := dk_42 (dk_at dksX13_numberHere_1 10 rfl rfl)
theorem dX13_numberHere_33 : decode cX13_numberHere 33 = .ok (.iload 4, 2) := dk_21 4 (dk_at dksX13_numberHere_1 11 rfl rfl)
theorem dX13_numberHere_35 : decode cX13_numberHere 35 = .ok (.invokevirtual 258, 3) := dk_182 1 2 (dk_at dksX13_numberHere_1 13 rfl rfl)
theorem dX13_numberHere_38 : decode cX13_numberHere 38 = .ok (.iadd, 1) := dk_96 (dk_at dksX13_numberHere_1 16 rfl rfl)
theorem dX13_numberHere_39 : decode cX13_numberHere 39 = .ok (.bipush 48, 2) := dk_16 48 (dk_at dksX13_numberHere_1 17 rfl rfl)
theorem dX13_numberHere_41 : decode cX13_numberHere 41 = .ok (.isub, 1) := dk_100 (dk_at dksX13_numberHere_1 19 rfl rfl)
theorem dX13_numberHere_42 : decode cX13_numberHere 42 = .ok (.invokestatic 274, 3) := dk_184 1 18 (dk_at dksX13_numberHere_1 20 rfl rfl)
theorem dX13_numberHere_45 : decode cX13_numberHere 45 = .ok (.istore_n 3, 1) := dk_62 (dk_at dksX13_numberHere_1 23 rfl rfl)
theorem dX13_numberHere_46 : decode cX13_numberHere 46 = .ok (.iinc 4 1, 3) := dk_132 4 1 (dk_at dksX13_numberHere_2 0 rfl rfl)
theorem dX13_numberHere_49 : decode cX13_numberHere 49 = .ok (.goto (-41), 3) := dk_167 255 215 (dk_at dksX13_numberHere_2 3 rfl rfl)
theorem dX13_numberHere_52 : decode cX13_numberHere 52 = .ok (.aload_n 0, 1) := dk_42 (dk_at dksX13_numberHere_2 6 rfl rfl)
theorem dX13_numberHere_53 : decode cX13_numberHere 53 = .ok (.getfield 261, 3) := dk_180 1 5 (dk_at dksX13_numberHere_2 7 rfl rfl)
theorem dX13_numberHere_56 : decode cX13_numberHere 56 = .ok (.iconst 2, 1) := dk_5 (dk_at dksX13_numberHere_2 10 rfl rfl)
theorem dX13_numberHere_57 : decode cX13_numberHere 57 = .ok (.if_icmp .ne 42, 3) := dk_160 0 42 (dk_at dksX13_numberHere_2 11 rfl rfl)
theorem dX13_numberHere_60 : decode cX13_numberHere 60 = .ok (.aload_n 0, 1) := dk_42 (dk_at dksX13_numberHere_2 14 rfl rfl)
theorem dX13_numberHere_61 : decode cX13_numberHere 61 = .ok (.getfield 252, 3) := dk_180 0 252 (dk_at dksX13_numberHere_2 15 rfl rfl)
theorem dX13_numberHere_64 : decode cX13_numberHere 64 = .ok (.aload_n 0, 1) := dk_42 (dk_at dksX13_numberHere_2 18 rfl rfl)
theorem dX13_numberHere_65 : decode cX13_numberHere 65 = .ok (.getfield 255, 3) := dk_180 0 255 (dk_at dksX13_numberHere_2 19 rfl rfl)
theorem dX13_numberHere_68 : decode cX13_numberHere 68 = .ok (.isub, 1) := dk_100 (dk_at dksX13_numberHere_2 22 rfl rfl)
theorem dX13_numberHere_69 : decode cX13_numberHere 69 = .ok (.iconst 1, 1) := dk_4 (dk_at dksX13_numberHere_2 23 rfl rfl)
theorem dX13_numberHere_70 : decode cX13_numberHere 70 = .ok (.if_icmp .eq 16, 3) := dk_159 0 16 (dk_at dksX13_numberHere_3 0 rfl rfl)
theorem dX13_numberHere_73 : decode cX13_numberHere 73 = .ok (.aload_n 0, 1) := dk_42 (dk_at dksX13_numberHere_3 3 rfl rfl)
theorem dX13_numberHere_74 : decode cX13_numberHere 74 = .ok (.aload_n 0, 1) := dk_42 (dk_at dksX13_numberHere_3 4 rfl rfl)
theorem dX13_numberHere_75 : decode cX13_numberHere 75 = .ok (.getfield 255, 3) := dk_180 0 255 (dk_at dksX13_numberHere_3 5 rfl rfl)
theorem dX13_numberHere_78 : decode cX13_numberHere 78 = .ok (.invokevirtual 258, 3) := dk_182 1 2 (dk_at dksX13_numberHere_3 8 rfl rfl)
theorem dX13_numberHere_81 : decode cX13_numberHere 81 = .ok (.bipush 48, 2) := dk_16 48 (dk_at dksX13_numberHere_3 11 rfl rfl)
theorem dX13_numberHere_83 : decode cX13_numberHere 83 = .ok (.if_icmp .eq 16, 3) := dk_159 0 16 (dk_at dksX13_numberHere_3 13 rfl rfl)
theorem dX13_numberHere_86 : decode cX13_numberHere 86 = .ok (.iload_n 3, 1) := dk_29 (dk_at dksX13_numberHere_3 16 rfl rfl)
theorem dX13_numberHere_87 : decode cX13_numberHere 87 = .ok (.iload_n 1, 1) := dk_27 (dk_at dksX13_numberHere_3 17 rfl rfl)
theorem dX13_numberHere_88 : decode cX13_numberHere 88 = .ok (.iload_n 2, 1) := dk_28 (dk_at dksX13_numberHere_3 18 rfl rfl)
theorem dX13_numberHere_89 : decode cX13_numberHere 89 = .ok (.invokestatic 65, 3) := dk_184 0 65 (dk_at dksX13_numberHere_3 19 rfl rfl)
theorem dX13_numberHere_92 : decode cX13_numberHere 92 = .ok (.ifCond .eq 7, 3) := dk_153 0 7 (dk_at dksX13_numberHere_4 0 rfl rfl)
theorem dX13_numberHere_95 : decode cX13_numberHere 95 = .ok (.iconst 1, 1) := dk_4 (dk_at dksX13_numberHere_4 3 rfl rfl)
theorem dX13_numberHere_96 : decode cX13_numberHere 96 = .ok (.goto 4, 3) := dk_167 0 4 (dk_at dksX13_numberHere_4 4 rfl rfl)
theorem dX13_numberHere_99 : decode cX13_numberHere 99 = .ok (.iconst 0, 1) := dk_3 (dk_at dksX13_numberHere_4 7 rfl rfl)
theorem dX13_numberHere_100 : decode cX13_numberHere 100 = .ok (.istore 4, 2) := dk_54 4 (dk_at dksX13_numberHere_4 8 rfl rfl)
theorem dX13_numberHere_102 : decode cX13_numberHere 102 = .ok (.iload 4, 2) := dk_21 4 (dk_at dksX13_numberHere_4 10 rfl rfl)
theorem dX13_numberHere_104 : decode cX13_numberHere 104 = .ok (.ifCond .eq 7, 3) := dk_153 0 7 (dk_at dksX13_numberHere_4 12 rfl rfl)
theorem dX13_numberHere_107 : decode cX13_numberHere 107 = .ok (.iload_n 3, 1) := dk_29 (dk_at dksX13_numberHere_4 15 rfl rfl)
theorem dX13_numberHere_108 : decode cX13_numberHere 108 = .ok (.goto 4, 3) := dk_167 0 4 (dk_at dksX13_numberHere_4 16 rfl rfl)
theorem dX13_numberHere_111 : decode cX13_numberHere 111 = .ok (.iconst (-1), 1) := dk_2 (dk_at dksX13_numberHere_4 19 rfl rfl)
theorem dX13_numberHere_112 : decode cX13_numberHere 112 = .ok (.ireturn, 1) := dk_172 (dk_at dksX13_numberHere_4 20 rfl rfl)
abbrev cX13_less : ByteArray := prog_28_method_4_code
def yX13_less : MethodName := ⟨RX13, "less", "(II)I"⟩
def dkwX13_less_0 : List UInt8 := [26, 27, 162, 0, 7, 26, 167, 0, 4, 27, 172]
abbrev dktX13_less_0 : List UInt8 := dkwX13_less_0 ++ []
theorem dksX13_less_0 : cX13_less.data.toList.drop 0 = dktX13_less_0 := by decide +kernel
theorem dX13_less_0 : decode cX13_less 0 = .ok (.iload_n 0, 1) := dk_26 (dk_at dksX13_less_0 0 rfl rfl)
theorem dX13_less_1 : decode cX13_less 1 = .ok (.iload_n 1, 1) := dk_27 (dk_at dksX13_less_0 1 rfl rfl)
theorem dX13_less_2 : decode cX13_less 2 = .ok (.if_icmp .ge 7, 3) := dk_162 0 7 (dk_at dksX13_less_0 2 rfl rfl)
theorem dX13_less_5 : decode cX13_less 5 = .ok (.iload_n 0, 1) := dk_26 (dk_at dksX13_less_0 5 rfl rfl)
theorem dX13_less_6 : decode cX13_less 6 = .ok (.goto 4, 3) := dk_167 0 4 (dk_at dksX13_less_0 6 rfl rfl)
theorem dX13_less_9 : decode cX13_less 9 = .ok (.iload_n 1, 1) := dk_27 (dk_at dksX13_less_0 9 rfl rfl)
theorem dX13_less_10 : decode cX13_less 10 = .ok (.ireturn, 1) := dk_172 (dk_at dksX13_less_0 10 rfl rfl)
abbrev cX13_readWhich : ByteArray := prog_28_method_99_code
def yX13_readWhich : MethodName := ⟨RX13, "readWhich", "(I)V"⟩
def dkwX13_readWhich_7 : List UInt8 := [54, 4, 167, 255, 185, 177]
abbrev dktX13_readWhich_7 : List UInt8 := dkwX13_readWhich_7 ++ []
def dkwX13_readWhich_6 : List UInt8 := [182, 1, 27, 42, 182, 1, 21, 153, 0, 15, 42, 180, 1, 5, 5, 160, 0, 7, 4, 167, 0, 4, 3]
abbrev dktX13_readWhich_6 : List UInt8 := dkwX13_readWhich_6 ++ dktX13_readWhich_7
def dkwX13_readWhich_5 : List UInt8 := [182, 1, 39, 154, 0, 10, 42, 182, 1, 24, 167, 0, 15, 42, 27, 21, 5, 4, 182, 1, 42, 42]
abbrev dktX13_readWhich_5 : List UInt8 := dkwX13_readWhich_5 ++ dktX13_readWhich_6
def dkwX13_readWhich_4 : List UInt8 := [21, 4, 153, 0, 72, 42, 3, 28, 4, 100, 182, 1, 46, 54, 5, 21, 5, 155, 0, 13, 42, 27, 21, 5]
abbrev dktX13_readWhich_4 : List UInt8 := dkwX13_readWhich_4 ++ dktX13_readWhich_5
def dkwX13_readWhich_3 : List UInt8 := [167, 255, 221, 29, 154, 0, 12, 42, 16, 6, 182, 1, 36, 153, 0, 8, 42, 182, 1, 27, 177, 4, 54, 4]
abbrev dktX13_readWhich_3 : List UInt8 := dkwX13_readWhich_3 ++ dktX13_readWhich_4
def dkwX13_readWhich_2 : List UInt8 := [153, 0, 17, 42, 27, 21, 4, 182, 1, 39, 153, 0, 7, 4, 167, 0, 4, 3, 182, 1, 42, 132, 4, 1]
abbrev dktX13_readWhich_2 : List UInt8 := dkwX13_readWhich_2 ++ dktX13_readWhich_3
def dkwX13_readWhich_1 : List UInt8 := [8, 61, 42, 16, 7, 182, 1, 36, 62, 3, 54, 4, 21, 4, 28, 162, 0, 35, 42, 27, 21, 4, 29]
abbrev dktX13_readWhich_1 : List UInt8 := dkwX13_readWhich_1 ++ dktX13_readWhich_2
def dkwX13_readWhich_0 : List UInt8 := [27, 5, 160, 0, 10, 42, 182, 0, 61, 167, 0, 16, 27, 6, 160, 0, 10, 42, 182, 0, 69, 167, 0, 4]
abbrev dktX13_readWhich_0 : List UInt8 := dkwX13_readWhich_0 ++ dktX13_readWhich_1
theorem dksX13_readWhich_0 : cX13_readWhich.data.toList.drop 0 = dktX13_readWhich_0 := by decide +kernel
theorem dksX13_readWhich_1 : cX13_readWhich.data.toList.drop 24 = dktX13_readWhich_1 := dk_seg dksX13_readWhich_0 24 rfl rfl
theorem dksX13_readWhich_2 : cX13_readWhich.data.toList.drop 47 = dktX13_readWhich_2 := dk_seg dksX13_readWhich_1 23 rfl rfl
theorem dksX13_readWhich_3 : cX13_readWhich.data.toList.drop 71 = dktX13_readWhich_3 := dk_seg dksX13_readWhich_2 24 rfl rfl
theorem dksX13_readWhich_4 : cX13_readWhich.data.toList.drop 95 = dktX13_readWhich_4 := dk_seg dksX13_readWhich_3 24 rfl rfl
theorem dksX13_readWhich_5 : cX13_readWhich.data.toList.drop 119 = dktX13_readWhich_5 := dk_seg dksX13_readWhich_4 24 rfl rfl
theorem dksX13_readWhich_6 : cX13_readWhich.data.toList.drop 141 = dktX13_readWhich_6 := dk_seg dksX13_readWhich_5 22 rfl rfl
theorem dksX13_readWhich_7 : cX13_readWhich.data.toList.drop 164 = dktX13_readWhich_7 := dk_seg dksX13_readWhich_6 23 rfl rfl
theorem dX13_readWhich_0 : decode cX13_readWhich 0 = .ok (.iload_n 1, 1) := dk_27 (dk_at dksX13_readWhich_0 0 rfl rfl)
theorem dX13_readWhich_1 : decode cX13_readWhich 1 = .ok (.iconst 2, 1) := dk_5 (dk_at dksX13_readWhich_0 1 rfl rfl)
theorem dX13_readWhich_2 : decode cX13_readWhich 2 = .ok (.if_icmp .ne 10, 3) := dk_160 0 10 (dk_at dksX13_readWhich_0 2 rfl rfl)
theorem dX13_readWhich_5 : decode cX13_readWhich 5 = .ok (.aload_n 0, 1) := dk_42 (dk_at dksX13_readWhich_0 5 rfl rfl)
theorem dX13_readWhich_6 : decode cX13_readWhich 6 = .ok (.invokevirtual 61, 3) := dk_182 0 61 (dk_at dksX13_readWhich_0 6 rfl rfl)
theorem dX13_readWhich_9 : decode cX13_readWhich 9 = .ok (.goto 16, 3) := dk_167 0 16 (dk_at dksX13_readWhich_0 9 rfl rfl)
theorem dX13_readWhich_12 : decode cX13_readWhich 12 = .ok (.iload_n 1, 1) := dk_27 (dk_at dksX13_readWhich_0 12 rfl rfl)
theorem dX13_readWhich_13 : decode cX13_readWhich 13 = .ok (.iconst 3, 1) := dk_6 (dk_at dksX13_readWhich_0 13 rfl rfl)
theorem dX13_readWhich_14 : decode cX13_readWhich 14 = .ok (.if_icmp .ne 10, 3) := dk_160 0 10 (dk_at dksX13_readWhich_0 14 rfl rfl)
theorem dX13_readWhich_17 : decode cX13_readWhich 17 = .ok (.aload_n 0, 1) := dk_42 (dk_at dksX13_readWhich_0 17 rfl rfl)
theorem dX13_readWhich_18 : decode cX13_readWhich 18 = .ok (.invokevirtual 69, 3) := dk_182 0 69 (dk_at dksX13_readWhich_0 18 rfl rfl)
theorem dX13_readWhich_21 : decode cX13_readWhich 21 = .ok (.goto 4, 3) := dk_167 0 4 (dk_at dksX13_readWhich_0 21 rfl rfl)
theorem dX13_readWhich_24 : decode cX13_readWhich 24 = .ok (.iconst 5, 1) := dk_8 (dk_at dksX13_readWhich_1 0 rfl rfl)
theorem dX13_readWhich_25 : decode cX13_readWhich 25 = .ok (.istore_n 2, 1) := dk_61 (dk_at dksX13_readWhich_1 1 rfl rfl)
theorem dX13_readWhich_26 : decode cX13_readWhich 26 = .ok (.aload_n 0, 1) := dk_42 (dk_at dksX13_readWhich_1 2 rfl rfl)
theorem dX13_readWhich_27 : decode cX13_readWhich 27 = .ok (.bipush 7, 2) := dk_16 7 (dk_at dksX13_readWhich_1 3 rfl rfl)
theorem dX13_readWhich_29 : decode cX13_readWhich 29 = .ok (.invokevirtual 292, 3) := dk_182 1 36 (dk_at dksX13_readWhich_1 5 rfl rfl)
theorem dX13_readWhich_32 : decode cX13_readWhich 32 = .ok (.istore_n 3, 1) := dk_62 (dk_at dksX13_readWhich_1 8 rfl rfl)
theorem dX13_readWhich_33 : decode cX13_readWhich 33 = .ok (.iconst 0, 1) := dk_3 (dk_at dksX13_readWhich_1 9 rfl rfl)
theorem dX13_readWhich_34 : decode cX13_readWhich 34 = .ok (.istore 4, 2) := dk_54 4 (dk_at dksX13_readWhich_1 10 rfl rfl)
theorem dX13_readWhich_36 : decode cX13_readWhich 36 = .ok (.iload 4, 2) := dk_21 4 (dk_at dksX13_readWhich_1 12 rfl rfl)
theorem dX13_readWhich_38 : decode cX13_readWhich 38 = .ok (.iload_n 2, 1) := dk_28 (dk_at dksX13_readWhich_1 14 rfl rfl)
theorem dX13_readWhich_39 : decode cX13_readWhich 39 = .ok (.if_icmp .ge 35, 3) := dk_162 0 35 (dk_at dksX13_readWhich_1 15 rfl rfl)
theorem dX13_readWhich_42 : decode cX13_readWhich 42 = .ok (.aload_n 0, 1) := dk_42 (dk_at dksX13_readWhich_1 18 rfl rfl)
theorem dX13_readWhich_43 : decode cX13_readWhich 43 = .ok (.iload_n 1, 1) := dk_27 (dk_at dksX13_readWhich_1 19 rfl rfl)
theorem dX13_readWhich_44 : decode cX13_readWhich 44 = .ok (.iload 4, 2) := dk_21 4 (dk_at dksX13_readWhich_1 20 rfl rfl)
theorem dX13_readWhich_46 : decode cX13_readWhich 46 = .ok (.iload_n 3, 1) := dk_29 (dk_at dksX13_readWhich_1 22 rfl rfl)
theorem dX13_readWhich_47 : decode cX13_readWhich 47 = .ok (.ifCond .eq 17, 3) := dk_153 0 17 (dk_at dksX13_readWhich_2 0 rfl rfl)
theorem dX13_readWhich_50 : decode cX13_readWhich 50 = .ok (.aload_n 0, 1) := dk_42 (dk_at dksX13_readWhich_2 3 rfl rfl)
theorem dX13_readWhich_51 : decode cX13_readWhich 51 = .ok (.iload_n 1, 1) := dk_27 (dk_at dksX13_readWhich_2 4 rfl rfl)
theorem dX13_readWhich_52 : decode cX13_readWhich 52 = .ok (.iload 4, 2) := dk_21 4 (dk_at dksX13_readWhich_2 5 rfl rfl)
theorem dX13_readWhich_54 : decode cX13_readWhich 54 = .ok (.invokevirtual 295, 3) := dk_182 1 39 (dk_at dksX13_readWhich_2 7 rfl rfl)
theorem dX13_readWhich_57 : decode cX13_readWhich 57 = .ok (.ifCond .eq 7, 3) := dk_153 0 7 (dk_at dksX13_readWhich_2 10 rfl rfl)
theorem dX13_readWhich_60 : decode cX13_readWhich 60 = .ok (.iconst 1, 1) := dk_4 (dk_at dksX13_readWhich_2 13 rfl rfl)
theorem dX13_readWhich_61 : decode cX13_readWhich 61 = .ok (.goto 4, 3) := dk_167 0 4 (dk_at dksX13_readWhich_2 14 rfl rfl)
theorem dX13_readWhich_64 : decode cX13_readWhich 64 = .ok (.iconst 0, 1) := dk_3 (dk_at dksX13_readWhich_2 17 rfl rfl)
theorem dX13_readWhich_65 : decode cX13_readWhich 65 = .ok (.invokevirtual 298, 3) := dk_182 1 42 (dk_at dksX13_readWhich_2 18 rfl rfl)
theorem dX13_readWhich_68 : decode cX13_readWhich 68 = .ok (.iinc 4 1, 3) := dk_132 4 1 (dk_at dksX13_readWhich_2 21 rfl rfl)
theorem dX13_readWhich_71 : decode cX13_readWhich 71 = .ok (.goto (-35), 3) := dk_167 255 221 (dk_at dksX13_readWhich_3 0 rfl rfl)
theorem dX13_readWhich_74 : decode cX13_readWhich 74 = .ok (.iload_n 3, 1) := dk_29 (dk_at dksX13_readWhich_3 3 rfl rfl)
theorem dX13_readWhich_75 : decode cX13_readWhich 75 = .ok (.ifCond .ne 12, 3) := dk_154 0 12 (dk_at dksX13_readWhich_3 4 rfl rfl)
theorem dX13_readWhich_78 : decode cX13_readWhich 78 = .ok (.aload_n 0, 1) := dk_42 (dk_at dksX13_readWhich_3 7 rfl rfl)
theorem dX13_readWhich_79 : decode cX13_readWhich 79 = .ok (.bipush 6, 2) := dk_16 6 (dk_at dksX13_readWhich_3 8 rfl rfl)
theorem dX13_readWhich_81 : decode cX13_readWhich 81 = .ok (.invokevirtual 292, 3) := dk_182 1 36 (dk_at dksX13_readWhich_3 10 rfl rfl)
theorem dX13_readWhich_84 : decode cX13_readWhich 84 = .ok (.ifCond .eq 8, 3) := dk_153 0 8 (dk_at dksX13_readWhich_3 13 rfl rfl)
theorem dX13_readWhich_87 : decode cX13_readWhich 87 = .ok (.aload_n 0, 1) := dk_42 (dk_at dksX13_readWhich_3 16 rfl rfl)
theorem dX13_readWhich_88 : decode cX13_readWhich 88 = .ok (.invokevirtual 283, 3) := dk_182 1 27 (dk_at dksX13_readWhich_3 17 rfl rfl)
theorem dX13_readWhich_91 : decode cX13_readWhich 91 = .ok (.return_, 1) := dk_177 (dk_at dksX13_readWhich_3 20 rfl rfl)
theorem dX13_readWhich_92 : decode cX13_readWhich 92 = .ok (.iconst 1, 1) := dk_4 (dk_at dksX13_readWhich_3 21 rfl rfl)
theorem dX13_readWhich_93 : decode cX13_readWhich 93 = .ok (.istore 4, 2) := dk_54 4 (dk_at dksX13_readWhich_3 22 rfl rfl)
theorem dX13_readWhich_95 : decode cX13_readWhich 95 = .ok (.iload 4, 2) := dk_21 4 (dk_at dksX13_readWhich_4 0 rfl rfl)
theorem dX13_readWhich_97 : decode cX13_readWhich 97 = .ok (.ifCond .eq 72, 3) := dk_153 0 72 (dk_at dksX13_readWhich_4 2 rfl rfl)
theorem dX13_readWhich_100 : decode cX13_readWhich 100 = .ok (.aload_n 0, 1) := dk_42 (dk_at dksX13_readWhich_4 5 rfl rfl)
theorem dX13_readWhich_101 : decode cX13_readWhich 101 = .ok (.iconst 0, 1) := dk_3 (dk_at dksX13_readWhich_4 6 rfl rfl)
theorem dX13_readWhich_102 : decode cX13_readWhich 102 = .ok (.iload_n 2, 1) := dk_28 (dk_at dksX13_readWhich_4 7 rfl rfl)
theorem dX13_readWhich_103 : decode cX13_readWhich 103 = .ok (.iconst 1, 1) := dk_4 (dk_at dksX13_readWhich_4 8 rfl rfl)
theorem dX13_readWhich_104 : decode cX13_readWhich 104 = .ok (.isub, 1) := dk_100 (dk_at dksX13_readWhich_4 9 rfl rfl)
theorem dX13_readWhich_105 : decode cX13_readWhich 105 = .ok (.invokevirtual 302, 3) := dk_182 1 46 (dk_at dksX13_readWhich_4 10 rfl rfl)
theorem dX13_readWhich_108 : decode cX13_readWhich 108 = .ok (.istore 5, 2) := dk_54 5 (dk_at dksX13_readWhich_4 13 rfl rfl)
theorem dX13_readWhich_110 : decode cX13_readWhich 110 = .ok (.iload 5, 2) := dk_21 5 (dk_at dksX13_readWhich_4 15 rfl rfl)
theorem dX13_readWhich_112 : decode cX13_readWhich 112 = .ok (.ifCond .lt 13, 3) := dk_155 0 13 (dk_at dksX13_readWhich_4 17 rfl rfl)
theorem dX13_readWhich_115 : decode cX13_readWhich 115 = .ok (.aload_n 0, 1) := dk_42 (dk_at dksX13_readWhich_4 20 rfl rfl)
theorem dX13_readWhich_116 : decode cX13_readWhich 116 = .ok (.iload_n 1, 1) := dk_27 (dk_at dksX13_readWhich_4 21 rfl rfl)
theorem dX13_readWhich_117 : decode cX13_readWhich 117 = .ok (.iload 5, 2) := dk_21 5 (dk_at dksX13_readWhich_4 22 rfl rfl)
theorem dX13_readWhich_119 : decode cX13_readWhich 119 = .ok (.invokevirtual 295, 3) := dk_182 1 39 (dk_at dksX13_readWhich_5 0 rfl rfl)
theorem dX13_readWhich_122 : decode cX13_readWhich 122 = .ok (.ifCond .ne 10, 3) := dk_154 0 10 (dk_at dksX13_readWhich_5 3 rfl rfl)
theorem dX13_readWhich_125 : decode cX13_readWhich 125 = .ok (.aload_n 0, 1) := dk_42 (dk_at dksX13_readWhich_5 6 rfl rfl)
theorem dX13_readWhich_126 : decode cX13_readWhich 126 = .ok (.invokevirtual 280, 3) := dk_182 1 24 (dk_at dksX13_readWhich_5 7 rfl rfl)
theorem dX13_readWhich_129 : decode cX13_readWhich 129 = .ok (.goto 15, 3) := dk_167 0 15 (dk_at dksX13_readWhich_5 10 rfl rfl)
theorem dX13_readWhich_132 : decode cX13_readWhich 132 = .ok (.aload_n 0, 1) := dk_42 (dk_at dksX13_readWhich_5 13 rfl rfl)
theorem dX13_readWhich_133 : decode cX13_readWhich 133 = .ok (.iload_n 1, 1) := dk_27 (dk_at dksX13_readWhich_5 14 rfl rfl)
theorem dX13_readWhich_134 : decode cX13_readWhich 134 = .ok (.iload 5, 2) := dk_21 5 (dk_at dksX13_readWhich_5 15 rfl rfl)
theorem dX13_readWhich_136 : decode cX13_readWhich 136 = .ok (.iconst 1, 1) := dk_4 (dk_at dksX13_readWhich_5 17 rfl rfl)
theorem dX13_readWhich_137 : decode cX13_readWhich 137 = .ok (.invokevirtual 298, 3) := dk_182 1 42 (dk_at dksX13_readWhich_5 18 rfl rfl)
theorem dX13_readWhich_140 : decode cX13_readWhich 140 = .ok (.aload_n 0, 1) := dk_42 (dk_at dksX13_readWhich_5 21 rfl rfl)
theorem dX13_readWhich_141 : decode cX13_readWhich 141 = .ok (.invokevirtual 283, 3) := dk_182 1 27 (dk_at dksX13_readWhich_6 0 rfl rfl)
theorem dX13_readWhich_144 : decode cX13_readWhich 144 = .ok (.aload_n 0, 1) := dk_42 (dk_at dksX13_readWhich_6 3 rfl rfl)
theorem dX13_readWhich_145 : decode cX13_readWhich 145 = .ok (.invokevirtual 277, 3) := dk_182 1 21 (dk_at dksX13_readWhich_6 4 rfl rfl)
theorem dX13_readWhich_148 : decode cX13_readWhich 148 = .ok (.ifCond .eq 15, 3) := dk_153 0 15 (dk_at dksX13_readWhich_6 7 rfl rfl)
theorem dX13_readWhich_151 : decode cX13_readWhich 151 = .ok (.aload_n 0, 1) := dk_42 (dk_at dksX13_readWhich_6 10 rfl rfl)
theorem dX13_readWhich_152 : decode cX13_readWhich 152 = .ok (.getfield 261, 3) := dk_180 1 5 (dk_at dksX13_readWhich_6 11 rfl rfl)
theorem dX13_readWhich_155 : decode cX13_readWhich 155 = .ok (.iconst 2, 1) := dk_5 (dk_at dksX13_readWhich_6 14 rfl rfl)
theorem dX13_readWhich_156 : decode cX13_readWhich 156 = .ok (.if_icmp .ne 7, 3) := dk_160 0 7 (dk_at dksX13_readWhich_6 15 rfl rfl)
theorem dX13_readWhich_159 : decode cX13_readWhich 159 = .ok (.iconst 1, 1) := dk_4 (dk_at dksX13_readWhich_6 18 rfl rfl)
theorem dX13_readWhich_160 : decode cX13_readWhich 160 = .ok (.goto 4, 3) := dk_167 0 4 (dk_at dksX13_readWhich_6 19 rfl rfl)
theorem dX13_readWhich_163 : decode cX13_readWhich 163 = .ok (.iconst 0, 1) := dk_3 (dk_at dksX13_readWhich_6 22 rfl rfl)
theorem dX13_readWhich_164 : decode cX13_readWhich 164 = .ok (.istore 4, 2) := dk_54 4 (dk_at dksX13_readWhich_7 0 rfl rfl)
theorem dX13_readWhich_166 : decode cX13_readWhich 166 = .ok (.goto (-71), 3) := dk_167 255 185 (dk_at dksX13_readWhich_7 2 rfl rfl)
theorem dX13_readWhich_169 : decode cX13_readWhich 169 = .ok (.return_, 1) := dk_177 (dk_at dksX13_readWhich_7 5 rfl rfl)
abbrev cX13_canBe : ByteArray := prog_28_method_97_code
def yX13_canBe : MethodName := ⟨RX13, "canBe", "(II)Z"⟩
def dkwX13_canBe_1 : List UInt8 := [160, 0, 11, 42, 28, 182, 0, 219, 153, 0, 7, 4, 167, 0, 4, 3, 172]
abbrev dktX13_canBe_1 : List UInt8 := dkwX13_canBe_1 ++ []
def dkwX13_canBe_0 : List UInt8 := [27, 5, 160, 0, 19, 42, 28, 182, 0, 99, 153, 0, 7, 4, 167, 0, 25, 3, 167, 0, 21, 27, 6]
abbrev dktX13_canBe_0 : List UInt8 := dkwX13_canBe_0 ++ dktX13_canBe_1
theorem dksX13_canBe_0 : cX13_canBe.data.toList.drop 0 = dktX13_canBe_0 := by decide +kernel
theorem dksX13_canBe_1 : cX13_canBe.data.toList.drop 23 = dktX13_canBe_1 := dk_seg dksX13_canBe_0 23 rfl rfl
theorem dX13_canBe_0 : decode cX13_canBe 0 = .ok (.iload_n 1, 1) := dk_27 (dk_at dksX13_canBe_0 0 rfl rfl)
theorem dX13_canBe_1 : decode cX13_canBe 1 = .ok (.iconst 2, 1) := dk_5 (dk_at dksX13_canBe_0 1 rfl rfl)
theorem dX13_canBe_2 : decode cX13_canBe 2 = .ok (.if_icmp .ne 19, 3) := dk_160 0 19 (dk_at dksX13_canBe_0 2 rfl rfl)
theorem dX13_canBe_5 : decode cX13_canBe 5 = .ok (.aload_n 0, 1) := dk_42 (dk_at dksX13_canBe_0 5 rfl rfl)
theorem dX13_canBe_6 : decode cX13_canBe 6 = .ok (.iload_n 2, 1) := dk_28 (dk_at dksX13_canBe_0 6 rfl rfl)
theorem dX13_canBe_7 : decode cX13_canBe 7 = .ok (.invokevirtual 99, 3) := dk_182 0 99 (dk_at dksX13_canBe_0 7 rfl rfl)
theorem dX13_canBe_10 : decode cX13_canBe 10 = .ok (.ifCond .eq 7, 3) := dk_153 0 7 (dk_at dksX13_canBe_0 10 rfl rfl)
theorem dX13_canBe_13 : decode cX13_canBe 13 = .ok (.iconst 1, 1) := dk_4 (dk_at dksX13_canBe_0 13 rfl rfl)
theorem dX13_canBe_14 : decode cX13_canBe 14 = .ok (.goto 25, 3) := dk_167 0 25 (dk_at dksX13_canBe_0 14 rfl rfl)
theorem dX13_canBe_17 : decode cX13_canBe 17 = .ok (.iconst 0, 1) := dk_3 (dk_at dksX13_canBe_0 17 rfl rfl)
theorem dX13_canBe_18 : decode cX13_canBe 18 = .ok (.goto 21, 3) := dk_167 0 21 (dk_at dksX13_canBe_0 18 rfl rfl)
theorem dX13_canBe_21 : decode cX13_canBe 21 = .ok (.iload_n 1, 1) := dk_27 (dk_at dksX13_canBe_0 21 rfl rfl)
theorem dX13_canBe_22 : decode cX13_canBe 22 = .ok (.iconst 3, 1) := dk_6 (dk_at dksX13_canBe_0 22 rfl rfl)
theorem dX13_canBe_23 : decode cX13_canBe 23 = .ok (.if_icmp .ne 11, 3) := dk_160 0 11 (dk_at dksX13_canBe_1 0 rfl rfl)
theorem dX13_canBe_26 : decode cX13_canBe 26 = .ok (.aload_n 0, 1) := dk_42 (dk_at dksX13_canBe_1 3 rfl rfl)
theorem dX13_canBe_27 : decode cX13_canBe 27 = .ok (.iload_n 2, 1) := dk_28 (dk_at dksX13_canBe_1 4 rfl rfl)
theorem dX13_canBe_28 : decode cX13_canBe 28 = .ok (.invokevirtual 219, 3) := dk_182 0 219 (dk_at dksX13_canBe_1 5 rfl rfl)
theorem dX13_canBe_31 : decode cX13_canBe 31 = .ok (.ifCond .eq 7, 3) := dk_153 0 7 (dk_at dksX13_canBe_1 8 rfl rfl)
theorem dX13_canBe_34 : decode cX13_canBe 34 = .ok (.iconst 1, 1) := dk_4 (dk_at dksX13_canBe_1 11 rfl rfl)
theorem dX13_canBe_35 : decode cX13_canBe 35 = .ok (.goto 4, 3) := dk_167 0 4 (dk_at dksX13_canBe_1 12 rfl rfl)
theorem dX13_canBe_38 : decode cX13_canBe 38 = .ok (.iconst 0, 1) := dk_3 (dk_at dksX13_canBe_1 15 rfl rfl)
theorem dX13_canBe_39 : decode cX13_canBe 39 = .ok (.ireturn, 1) := dk_172 (dk_at dksX13_canBe_1 16 rfl rfl)
abbrev cX13_put : ByteArray := prog_28_method_98_code
def yX13_put : MethodName := ⟨RX13, "put", "(III)V"⟩
def dkwX13_put_2 : List UInt8 := [29, 79, 177]
abbrev dktX13_put_2 : List UInt8 := dkwX13_put_2 ++ []
def dkwX13_put_1 : List UInt8 := [120, 128, 79, 167, 0, 23, 42, 180, 0, 7, 27, 5, 160, 0, 8, 16, 58, 167, 0, 5, 16, 83, 28, 96]
abbrev dktX13_put_1 : List UInt8 := dkwX13_put_1 ++ dktX13_put_2
def dkwX13_put_0 : List UInt8 := [27, 7, 160, 0, 28, 42, 180, 0, 7, 5, 42, 180, 0, 7, 5, 46, 4, 28, 120, 2, 130, 126, 29, 28]
abbrev dktX13_put_0 : List UInt8 := dkwX13_put_0 ++ dktX13_put_1
theorem dksX13_put_0 : cX13_put.data.toList.drop 0 = dktX13_put_0 := by decide +kernel
theorem dksX13_put_1 : cX13_put.data.toList.drop 24 = dktX13_put_1 := dk_seg dksX13_put_0 24 rfl rfl
theorem dksX13_put_2 : cX13_put.data.toList.drop 48 = dktX13_put_2 := dk_seg dksX13_put_1 24 rfl rfl
theorem dX13_put_0 : decode cX13_put 0 = .ok (.iload_n 1, 1) := dk_27 (dk_at dksX13_put_0 0 rfl rfl)
theorem dX13_put_1 : decode cX13_put 1 = .ok (.iconst 4, 1) := dk_7 (dk_at dksX13_put_0 1 rfl rfl)
theorem dX13_put_2 : decode cX13_put 2 = .ok (.if_icmp .ne 28, 3) := dk_160 0 28 (dk_at dksX13_put_0 2 rfl rfl)
theorem dX13_put_5 : decode cX13_put 5 = .ok (.aload_n 0, 1) := dk_42 (dk_at dksX13_put_0 5 rfl rfl)
theorem dX13_put_6 : decode cX13_put 6 = .ok (.getfield 7, 3) := dk_180 0 7 (dk_at dksX13_put_0 6 rfl rfl)
theorem dX13_put_9 : decode cX13_put 9 = .ok (.iconst 2, 1) := dk_5 (dk_at dksX13_put_0 9 rfl rfl)
theorem dX13_put_10 : decode cX13_put 10 = .ok (.aload_n 0, 1) := dk_42 (dk_at dksX13_put_0 10 rfl rfl)
theorem dX13_put_11 : decode cX13_put 11 = .ok (.getfield 7, 3) := dk_180 0 7 (dk_at dksX13_put_0 11 rfl rfl)
theorem dX13_put_14 : decode cX13_put 14 = .ok (.iconst 2, 1) := dk_5 (dk_at dksX13_put_0 14 rfl rfl)
theorem dX13_put_15 : decode cX13_put 15 = .ok (.iaload, 1) := dk_46 (dk_at dksX13_put_0 15 rfl rfl)
theorem dX13_put_16 : decode cX13_put 16 = .ok (.iconst 1, 1) := dk_4 (dk_at dksX13_put_0 16 rfl rfl)
theorem dX13_put_17 : decode cX13_put 17 = .ok (.iload_n 2, 1) := dk_28 (dk_at dksX13_put_0 17 rfl rfl)
theorem dX13_put_18 : decode cX13_put 18 = .ok (.ishl, 1) := dk_120 (dk_at dksX13_put_0 18 rfl rfl)
theorem dX13_put_19 : decode cX13_put 19 = .ok (.iconst (-1), 1) := dk_2 (dk_at dksX13_put_0 19 rfl rfl)
theorem dX13_put_20 : decode cX13_put 20 = .ok (.ixor, 1) := dk_130 (dk_at dksX13_put_0 20 rfl rfl)
theorem dX13_put_21 : decode cX13_put 21 = .ok (.iand, 1) := dk_126 (dk_at dksX13_put_0 21 rfl rfl)
theorem dX13_put_22 : decode cX13_put 22 = .ok (.iload_n 3, 1) := dk_29 (dk_at dksX13_put_0 22 rfl rfl)
theorem dX13_put_23 : decode cX13_put 23 = .ok (.iload_n 2, 1) := dk_28 (dk_at dksX13_put_0 23 rfl rfl)
theorem dX13_put_24 : decode cX13_put 24 = .ok (.ishl, 1) := dk_120 (dk_at dksX13_put_1 0 rfl rfl)
theorem dX13_put_25 : decode cX13_put 25 = .ok (.ior, 1) := dk_128 (dk_at dksX13_put_1 1 rfl rfl)
theorem dX13_put_26 : decode cX13_put 26 = .ok (.iastore, 1) := dk_79 (dk_at dksX13_put_1 2 rfl rfl)
theorem dX13_put_27 : decode cX13_put 27 = .ok (.goto 23, 3) := dk_167 0 23 (dk_at dksX13_put_1 3 rfl rfl)
theorem dX13_put_30 : decode cX13_put 30 = .ok (.aload_n 0, 1) := dk_42 (dk_at dksX13_put_1 6 rfl rfl)
theorem dX13_put_31 : decode cX13_put 31 = .ok (.getfield 7, 3) := dk_180 0 7 (dk_at dksX13_put_1 7 rfl rfl)
theorem dX13_put_34 : decode cX13_put 34 = .ok (.iload_n 1, 1) := dk_27 (dk_at dksX13_put_1 10 rfl rfl)
theorem dX13_put_35 : decode cX13_put 35 = .ok (.iconst 2, 1) := dk_5 (dk_at dksX13_put_1 11 rfl rfl)
theorem dX13_put_36 : decode cX13_put 36 = .ok (.if_icmp .ne 8, 3) := dk_160 0 8 (dk_at dksX13_put_1 12 rfl rfl)
theorem dX13_put_39 : decode cX13_put 39 = .ok (.bipush 58, 2) := dk_16 58 (dk_at dksX13_put_1 15 rfl rfl)
theorem dX13_put_41 : decode cX13_put 41 = .ok (.goto 5, 3) := dk_167 0 5 (dk_at dksX13_put_1 17 rfl rfl)
theorem dX13_put_44 : decode cX13_put 44 = .ok (.bipush 83, 2) := dk_16 83 (dk_at dksX13_put_1 20 rfl rfl)
theorem dX13_put_46 : decode cX13_put 46 = .ok (.iload_n 2, 1) := dk_28 (dk_at dksX13_put_1 22 rfl rfl)
theorem dX13_put_47 : decode cX13_put 47 = .ok (.iadd, 1) := dk_96 (dk_at dksX13_put_1 23 rfl rfl)
theorem dX13_put_48 : decode cX13_put 48 = .ok (.iload_n 3, 1) := dk_29 (dk_at dksX13_put_2 0 rfl rfl)
theorem dX13_put_49 : decode cX13_put 49 = .ok (.iastore, 1) := dk_79 (dk_at dksX13_put_2 1 rfl rfl)
theorem dX13_put_50 : decode cX13_put 50 = .ok (.return_, 1) := dk_177 (dk_at dksX13_put_2 2 rfl rfl)
abbrev cX13_count : ByteArray := prog_28_method_103_code
def yX13_count : MethodName := ⟨RX13, "count", "(I)I"⟩
def dkwX13_count_5 : List UInt8 := [180, 0, 58, 172, 42, 180, 0, 249, 172, 2, 172]
abbrev dktX13_count_5 : List UInt8 := dkwX13_count_5 ++ []
def dkwX13_count_4 : List UInt8 := [172, 42, 182, 0, 149, 172, 42, 180, 0, 7, 16, 118, 46, 42, 180, 0, 7, 17, 0, 237, 46, 96, 172, 42]
abbrev dktX13_count_4 : List UInt8 := dkwX13_count_4 ++ dktX13_count_5
def dkwX13_count_3 : List UInt8 := [42, 182, 0, 213, 172, 42, 182, 0, 222, 172, 42, 180, 0, 7, 5, 46, 184, 0, 142, 172, 42, 182, 0, 243]
abbrev dktX13_count_3 : List UInt8 := dkwX13_count_3 ++ dktX13_count_4
def dkwX13_count_2 : List UInt8 := [42, 180, 0, 7, 3, 46, 172, 42, 180, 0, 7, 4, 46, 172, 42, 182, 0, 105, 172, 42, 182, 0, 136, 172]
abbrev dktX13_count_2 : List UInt8 := dkwX13_count_2 ++ dktX13_count_3
def dkwX13_count_1 : List UInt8 := [170, 0, 0, 0, 0, 143, 0, 0, 0, 0, 0, 0, 0, 11, 0, 0, 0, 62, 0, 0, 0, 69, 0, 0, 0, 76, 0, 0, 0, 81, 0, 0, 0, 86, 0, 0, 0, 91, 0, 0, 0, 96, 0, 0, 0, 106, 0, 0, 0, 111, 0, 0, 0, 116, 0, 0, 0, 133, 0, 0, 0, 138]
abbrev dktX13_count_1 : List UInt8 := dkwX13_count_1 ++ dktX13_count_2
def dkwX13_count_0 : List UInt8 := [42, 3, 181, 0, 43, 42, 182, 0, 237, 27]
abbrev dktX13_count_0 : List UInt8 := dkwX13_count_0 ++ dktX13_count_1
theorem dksX13_count_0 : cX13_count.data.toList.drop 0 = dktX13_count_0 := by decide +kernel
theorem dksX13_count_1 : cX13_count.data.toList.drop 10 = dktX13_count_1 := dk_seg dksX13_count_0 10 rfl rfl
theorem dksX13_count_2 : cX13_count.data.toList.drop 72 = dktX13_count_2 := dk_seg dksX13_count_1 62 rfl rfl
theorem dksX13_count_3 : cX13_count.data.toList.drop 96 = dktX13_count_3 := dk_seg dksX13_count_2 24 rfl rfl
theorem dksX13_count_4 : cX13_count.data.toList.drop 120 = dktX13_count_4 := dk_seg dksX13_count_3 24 rfl rfl
theorem dksX13_count_5 : cX13_count.data.toList.drop 144 = dktX13_count_5 := dk_seg dksX13_count_4 24 rfl rfl
theorem dX13_count_0 : decode cX13_count 0 = .ok (.aload_n 0, 1) := dk_42 (dk_at dksX13_count_0 0 rfl rfl)
theorem dX13_count_1 : decode cX13_count 1 = .ok (.iconst 0, 1) := dk_3 (dk_at dksX13_count_0 1 rfl rfl)
theorem dX13_count_2 : decode cX13_count 2 = .ok (.putfield 43, 3) := dk_181 0 43 (dk_at dksX13_count_0 2 rfl rfl)
theorem dX13_count_5 : decode cX13_count 5 = .ok (.aload_n 0, 1) := dk_42 (dk_at dksX13_count_0 5 rfl rfl)
theorem dX13_count_6 : decode cX13_count 6 = .ok (.invokevirtual 237, 3) := dk_182 0 237 (dk_at dksX13_count_0 6 rfl rfl)
theorem dX13_count_9 : decode cX13_count 9 = .ok (.iload_n 1, 1) := dk_27 (dk_at dksX13_count_0 9 rfl rfl)
theorem dX13_count_10 : decode cX13_count 10 = .ok (.tableswitch 143 0 11 #[62, 69, 76, 81, 86, 91, 96, 106, 111, 116, 133, 138], 62) := by decide +kernel
theorem dX13_count_72 : decode cX13_count 72 = .ok (.aload_n 0, 1) := dk_42 (dk_at dksX13_count_2 0 rfl rfl)
theorem dX13_count_73 : decode cX13_count 73 = .ok (.getfield 7, 3) := dk_180 0 7 (dk_at dksX13_count_2 1 rfl rfl)
theorem dX13_count_76 : decode cX13_count 76 = .ok (.iconst 0, 1) := dk_3 (dk_at dksX13_count_2 4 rfl rfl)
theorem dX13_count_77 : decode cX13_count 77 = .ok (.iaload, 1) := dk_46 (dk_at dksX13_count_2 5 rfl rfl)
theorem dX13_count_78 : decode cX13_count 78 = .ok (.ireturn, 1) := dk_172 (dk_at dksX13_count_2 6 rfl rfl)
theorem dX13_count_79 : decode cX13_count 79 = .ok (.aload_n 0, 1) := dk_42 (dk_at dksX13_count_2 7 rfl rfl)
theorem dX13_count_80 : decode cX13_count 80 = .ok (.getfield 7, 3) := dk_180 0 7 (dk_at dksX13_count_2 8 rfl rfl)
theorem dX13_count_83 : decode cX13_count 83 = .ok (.iconst 1, 1) := dk_4 (dk_at dksX13_count_2 11 rfl rfl)
theorem dX13_count_84 : decode cX13_count 84 = .ok (.iaload, 1) := dk_46 (dk_at dksX13_count_2 12 rfl rfl)
theorem dX13_count_85 : decode cX13_count 85 = .ok (.ireturn, 1) := dk_172 (dk_at dksX13_count_2 13 rfl rfl)
theorem dX13_count_86 : decode cX13_count 86 = .ok (.aload_n 0, 1) := dk_42 (dk_at dksX13_count_2 14 rfl rfl)
theorem dX13_count_87 : decode cX13_count 87 = .ok (.invokevirtual 105, 3) := dk_182 0 105 (dk_at dksX13_count_2 15 rfl rfl)
theorem dX13_count_90 : decode cX13_count 90 = .ok (.ireturn, 1) := dk_172 (dk_at dksX13_count_2 18 rfl rfl)
theorem dX13_count_91 : decode cX13_count 91 = .ok (.aload_n 0, 1) := dk_42 (dk_at dksX13_count_2 19 rfl rfl)
theorem dX13_count_92 : decode cX13_count 92 = .ok (.invokevirtual 136, 3) := dk_182 0 136 (dk_at dksX13_count_2 20 rfl rfl)
theorem dX13_count_95 : decode cX13_count 95 = .ok (.ireturn, 1) := dk_172 (dk_at dksX13_count_2 23 rfl rfl)
theorem dX13_count_96 : decode cX13_count 96 = .ok (.aload_n 0, 1) := dk_42 (dk_at dksX13_count_3 0 rfl rfl)
theorem dX13_count_97 : decode cX13_count 97 = .ok (.invokevirtual 213, 3) := dk_182 0 213 (dk_at dksX13_count_3 1 rfl rfl)
theorem dX13_count_100 : decode cX13_count 100 = .ok (.ireturn, 1) := dk_172 (dk_at dksX13_count_3 4 rfl rfl)
theorem dX13_count_101 : decode cX13_count 101 = .ok (.aload_n 0, 1) := dk_42 (dk_at dksX13_count_3 5 rfl rfl)
theorem dX13_count_102 : decode cX13_count 102 = .ok (.invokevirtual 222, 3) := dk_182 0 222 (dk_at dksX13_count_3 6 rfl rfl)
theorem dX13_count_105 : decode cX13_count 105 = .ok (.ireturn, 1) := dk_172 (dk_at dksX13_count_3 9 rfl rfl)
theorem dX13_count_106 : decode cX13_count 106 = .ok (.aload_n 0, 1) := dk_42 (dk_at dksX13_count_3 10 rfl rfl)
theorem dX13_count_107 : decode cX13_count 107 = .ok (.getfield 7, 3) := dk_180 0 7 (dk_at dksX13_count_3 11 rfl rfl)
theorem dX13_count_110 : decode cX13_count 110 = .ok (.iconst 2, 1) := dk_5 (dk_at dksX13_count_3 14 rfl rfl)
theorem dX13_count_111 : decode cX13_count 111 = .ok (.iaload, 1) := dk_46 (dk_at dksX13_count_3 15 rfl rfl)
theorem dX13_count_112 : decode cX13_count 112 = .ok (.invokestatic 142, 3) := dk_184 0 142 (dk_at dksX13_count_3 16 rfl rfl)
theorem dX13_count_115 : decode cX13_count 115 = .ok (.ireturn, 1) := dk_172 (dk_at dksX13_count_3 19 rfl rfl)
theorem dX13_count_116 : decode cX13_count 116 = .ok (.aload_n 0, 1) := dk_42 (dk_at dksX13_count_3 20 rfl rfl)
theorem dX13_count_117 : decode cX13_count 117 = .ok (.invokevirtual 243, 3) := dk_182 0 243 (dk_at dksX13_count_3 21 rfl rfl)
theorem dX13_count_120 : decode cX13_count 120 = .ok (.ireturn, 1) := dk_172 (dk_at dksX13_count_4 0 rfl rfl)
theorem dX13_count_121 : decode cX13_count 121 = .ok (.aload_n 0, 1) := dk_42 (dk_at dksX13_count_4 1 rfl rfl)
theorem dX13_count_122 : decode cX13_count 122 = .ok (.invokevirtual 149, 3) := dk_182 0 149 (dk_at dksX13_count_4 2 rfl rfl)
theorem dX13_count_125 : decode cX13_count 125 = .ok (.ireturn, 1) := dk_172 (dk_at dksX13_count_4 5 rfl rfl)
theorem dX13_count_126 : decode cX13_count 126 = .ok (.aload_n 0, 1) := dk_42 (dk_at dksX13_count_4 6 rfl rfl)
theorem dX13_count_127 : decode cX13_count 127 = .ok (.getfield 7, 3) := dk_180 0 7 (dk_at dksX13_count_4 7 rfl rfl)
theorem dX13_count_130 : decode cX13_count 130 = .ok (.bipush 118, 2) := dk_16 118 (dk_at dksX13_count_4 10 rfl rfl)
theorem dX13_count_132 : decode cX13_count 132 = .ok (.iaload, 1) := dk_46 (dk_at dksX13_count_4 12 rfl rfl)
theorem dX13_count_133 : decode cX13_count 133 = .ok (.aload_n 0, 1) := dk_42 (dk_at dksX13_count_4 13 rfl rfl)
theorem dX13_count_134 : decode cX13_count 134 = .ok (.getfield 7, 3) := dk_180 0 7 (dk_at dksX13_count_4 14 rfl rfl)
theorem dX13_count_137 : decode cX13_count 137 = .ok (.sipush 237, 3) := dk_17 0 237 (dk_at dksX13_count_4 17 rfl rfl)
theorem dX13_count_140 : decode cX13_count 140 = .ok (.iaload, 1) := dk_46 (dk_at dksX13_count_4 20 rfl rfl)
theorem dX13_count_141 : decode cX13_count 141 = .ok (.iadd, 1) := dk_96 (dk_at dksX13_count_4 21 rfl rfl)
theorem dX13_count_142 : decode cX13_count 142 = .ok (.ireturn, 1) := dk_172 (dk_at dksX13_count_4 22 rfl rfl)
theorem dX13_count_143 : decode cX13_count 143 = .ok (.aload_n 0, 1) := dk_42 (dk_at dksX13_count_4 23 rfl rfl)
theorem dX13_count_144 : decode cX13_count 144 = .ok (.getfield 58, 3) := dk_180 0 58 (dk_at dksX13_count_5 0 rfl rfl)
theorem dX13_count_147 : decode cX13_count 147 = .ok (.ireturn, 1) := dk_172 (dk_at dksX13_count_5 3 rfl rfl)
theorem dX13_count_148 : decode cX13_count 148 = .ok (.aload_n 0, 1) := dk_42 (dk_at dksX13_count_5 4 rfl rfl)
theorem dX13_count_149 : decode cX13_count 149 = .ok (.getfield 249, 3) := dk_180 0 249 (dk_at dksX13_count_5 5 rfl rfl)
theorem dX13_count_152 : decode cX13_count 152 = .ok (.ireturn, 1) := dk_172 (dk_at dksX13_count_5 8 rfl rfl)
theorem dX13_count_153 : decode cX13_count 153 = .ok (.iconst (-1), 1) := dk_2 (dk_at dksX13_count_5 9 rfl rfl)
theorem dX13_count_154 : decode cX13_count 154 = .ok (.ireturn, 1) := dk_172 (dk_at dksX13_count_5 10 rfl rfl)
abbrev cX13_cell : ByteArray := prog_28_method_105_code
def yX13_cell : MethodName := ⟨RX13, "cell", "(II)I"⟩
def dkwX13_cell_5 : List UInt8 := [182, 1, 64, 172, 2, 172]
abbrev dktX13_cell_5 : List UInt8 := dkwX13_cell_5 ++ []
def dkwX13_cell_4 : List UInt8 := [4, 160, 0, 18, 42, 180, 0, 7, 16, 93, 27, 96, 46, 184, 0, 152, 167, 0, 5, 16, 157, 172, 42, 27]
abbrev dktX13_cell_4 : List UInt8 := dkwX13_cell_4 ++ dktX13_cell_5
def dkwX13_cell_3 : List UInt8 := [180, 0, 7, 16, 93, 27, 96, 46, 184, 0, 142, 172, 42, 180, 0, 7, 16, 93, 27, 96, 46, 184, 0, 142]
abbrev dktX13_cell_3 : List UInt8 := dkwX13_cell_3 ++ dktX13_cell_4
def dkwX13_cell_2 : List UInt8 := [42, 27, 182, 0, 72, 172, 42, 27, 182, 0, 99, 172, 42, 180, 0, 7, 16, 58, 27, 96, 46, 172, 42]
abbrev dktX13_cell_2 : List UInt8 := dkwX13_cell_2 ++ dktX13_cell_3
def dkwX13_cell_1 : List UInt8 := [170, 0, 0, 0, 0, 0, 0, 115, 0, 0, 0, 0, 0, 0, 0, 5, 0, 0, 0, 40, 0, 0, 0, 46, 0, 0, 0, 52, 0, 0, 0, 62, 0, 0, 0, 75, 0, 0, 0, 109]
abbrev dktX13_cell_1 : List UInt8 := dkwX13_cell_1 ++ dktX13_cell_2
def dkwX13_cell_0 : List UInt8 := [42, 3, 181, 0, 43, 42, 27, 182, 0, 108, 154, 0, 5, 2, 172, 28]
abbrev dktX13_cell_0 : List UInt8 := dkwX13_cell_0 ++ dktX13_cell_1
theorem dksX13_cell_0 : cX13_cell.data.toList.drop 0 = dktX13_cell_0 := by decide +kernel
theorem dksX13_cell_1 : cX13_cell.data.toList.drop 16 = dktX13_cell_1 := dk_seg dksX13_cell_0 16 rfl rfl
theorem dksX13_cell_2 : cX13_cell.data.toList.drop 56 = dktX13_cell_2 := dk_seg dksX13_cell_1 40 rfl rfl
theorem dksX13_cell_3 : cX13_cell.data.toList.drop 79 = dktX13_cell_3 := dk_seg dksX13_cell_2 23 rfl rfl
theorem dksX13_cell_4 : cX13_cell.data.toList.drop 103 = dktX13_cell_4 := dk_seg dksX13_cell_3 24 rfl rfl
theorem dksX13_cell_5 : cX13_cell.data.toList.drop 127 = dktX13_cell_5 := dk_seg dksX13_cell_4 24 rfl rfl
theorem dX13_cell_0 : decode cX13_cell 0 = .ok (.aload_n 0, 1) := dk_42 (dk_at dksX13_cell_0 0 rfl rfl)
theorem dX13_cell_1 : decode cX13_cell 1 = .ok (.iconst 0, 1) := dk_3 (dk_at dksX13_cell_0 1 rfl rfl)
theorem dX13_cell_2 : decode cX13_cell 2 = .ok (.putfield 43, 3) := dk_181 0 43 (dk_at dksX13_cell_0 2 rfl rfl)
theorem dX13_cell_5 : decode cX13_cell 5 = .ok (.aload_n 0, 1) := dk_42 (dk_at dksX13_cell_0 5 rfl rfl)
theorem dX13_cell_6 : decode cX13_cell 6 = .ok (.iload_n 1, 1) := dk_27 (dk_at dksX13_cell_0 6 rfl rfl)
theorem dX13_cell_7 : decode cX13_cell 7 = .ok (.invokevirtual 108, 3) := dk_182 0 108 (dk_at dksX13_cell_0 7 rfl rfl)
theorem dX13_cell_10 : decode cX13_cell 10 = .ok (.ifCond .ne 5, 3) := dk_154 0 5 (dk_at dksX13_cell_0 10 rfl rfl)
theorem dX13_cell_13 : decode cX13_cell 13 = .ok (.iconst (-1), 1) := dk_2 (dk_at dksX13_cell_0 13 rfl rfl)
theorem dX13_cell_14 : decode cX13_cell 14 = .ok (.ireturn, 1) := dk_172 (dk_at dksX13_cell_0 14 rfl rfl)
theorem dX13_cell_15 : decode cX13_cell 15 = .ok (.iload_n 2, 1) := dk_28 (dk_at dksX13_cell_0 15 rfl rfl)
theorem dX13_cell_16 : decode cX13_cell 16 = .ok (.tableswitch 115 0 5 #[40, 46, 52, 62, 75, 109], 40) := by decide +kernel
theorem dX13_cell_56 : decode cX13_cell 56 = .ok (.aload_n 0, 1) := dk_42 (dk_at dksX13_cell_2 0 rfl rfl)
theorem dX13_cell_57 : decode cX13_cell 57 = .ok (.iload_n 1, 1) := dk_27 (dk_at dksX13_cell_2 1 rfl rfl)
theorem dX13_cell_58 : decode cX13_cell 58 = .ok (.invokevirtual 72, 3) := dk_182 0 72 (dk_at dksX13_cell_2 2 rfl rfl)
theorem dX13_cell_61 : decode cX13_cell 61 = .ok (.ireturn, 1) := dk_172 (dk_at dksX13_cell_2 5 rfl rfl)
theorem dX13_cell_62 : decode cX13_cell 62 = .ok (.aload_n 0, 1) := dk_42 (dk_at dksX13_cell_2 6 rfl rfl)
theorem dX13_cell_63 : decode cX13_cell 63 = .ok (.iload_n 1, 1) := dk_27 (dk_at dksX13_cell_2 7 rfl rfl)
theorem dX13_cell_64 : decode cX13_cell 64 = .ok (.invokevirtual 99, 3) := dk_182 0 99 (dk_at dksX13_cell_2 8 rfl rfl)
theorem dX13_cell_67 : decode cX13_cell 67 = .ok (.ireturn, 1) := dk_172 (dk_at dksX13_cell_2 11 rfl rfl)
theorem dX13_cell_68 : decode cX13_cell 68 = .ok (.aload_n 0, 1) := dk_42 (dk_at dksX13_cell_2 12 rfl rfl)
theorem dX13_cell_69 : decode cX13_cell 69 = .ok (.getfield 7, 3) := dk_180 0 7 (dk_at dksX13_cell_2 13 rfl rfl)
theorem dX13_cell_72 : decode cX13_cell 72 = .ok (.bipush 58, 2) := dk_16 58 (dk_at dksX13_cell_2 16 rfl rfl)
theorem dX13_cell_74 : decode cX13_cell 74 = .ok (.iload_n 1, 1) := dk_27 (dk_at dksX13_cell_2 18 rfl rfl)
theorem dX13_cell_75 : decode cX13_cell 75 = .ok (.iadd, 1) := dk_96 (dk_at dksX13_cell_2 19 rfl rfl)
theorem dX13_cell_76 : decode cX13_cell 76 = .ok (.iaload, 1) := dk_46 (dk_at dksX13_cell_2 20 rfl rfl)
theorem dX13_cell_77 : decode cX13_cell 77 = .ok (.ireturn, 1) := dk_172 (dk_at dksX13_cell_2 21 rfl rfl)
theorem dX13_cell_78 : decode cX13_cell 78 = .ok (.aload_n 0, 1) := dk_42 (dk_at dksX13_cell_2 22 rfl rfl)
theorem dX13_cell_79 : decode cX13_cell 79 = .ok (.getfield 7, 3) := dk_180 0 7 (dk_at dksX13_cell_3 0 rfl rfl)
theorem dX13_cell_82 : decode cX13_cell 82 = .ok (.bipush 93, 2) := dk_16 93 (dk_at dksX13_cell_3 3 rfl rfl)
theorem dX13_cell_84 : decode cX13_cell 84 = .ok (.iload_n 1, 1) := dk_27 (dk_at dksX13_cell_3 5 rfl rfl)
theorem dX13_cell_85 : decode cX13_cell 85 = .ok (.iadd, 1) := dk_96 (dk_at dksX13_cell_3 6 rfl rfl)
theorem dX13_cell_86 : decode cX13_cell 86 = .ok (.iaload, 1) := dk_46 (dk_at dksX13_cell_3 7 rfl rfl)
theorem dX13_cell_87 : decode cX13_cell 87 = .ok (.invokestatic 142, 3) := dk_184 0 142 (dk_at dksX13_cell_3 8 rfl rfl)
theorem dX13_cell_90 : decode cX13_cell 90 = .ok (.ireturn, 1) := dk_172 (dk_at dksX13_cell_3 11 rfl rfl)
theorem dX13_cell_91 : decode cX13_cell 91 = .ok (.aload_n 0, 1) := dk_42 (dk_at dksX13_cell_3 12 rfl rfl)
theorem dX13_cell_92 : decode cX13_cell 92 = .ok (.getfield 7, 3) := dk_180 0 7 (dk_at dksX13_cell_3 13 rfl rfl)
theorem dX13_cell_95 : decode cX13_cell 95 = .ok (.bipush 93, 2) := dk_16 93 (dk_at dksX13_cell_3 16 rfl rfl)
theorem dX13_cell_97 : decode cX13_cell 97 = .ok (.iload_n 1, 1) := dk_27 (dk_at dksX13_cell_3 18 rfl rfl)
theorem dX13_cell_98 : decode cX13_cell 98 = .ok (.iadd, 1) := dk_96 (dk_at dksX13_cell_3 19 rfl rfl)
theorem dX13_cell_99 : decode cX13_cell 99 = .ok (.iaload, 1) := dk_46 (dk_at dksX13_cell_3 20 rfl rfl)
theorem dX13_cell_100 : decode cX13_cell 100 = .ok (.invokestatic 142, 3) := dk_184 0 142 (dk_at dksX13_cell_3 21 rfl rfl)
theorem dX13_cell_103 : decode cX13_cell 103 = .ok (.iconst 1, 1) := dk_4 (dk_at dksX13_cell_4 0 rfl rfl)
theorem dX13_cell_104 : decode cX13_cell 104 = .ok (.if_icmp .ne 18, 3) := dk_160 0 18 (dk_at dksX13_cell_4 1 rfl rfl)
theorem dX13_cell_107 : decode cX13_cell 107 = .ok (.aload_n 0, 1) := dk_42 (dk_at dksX13_cell_4 4 rfl rfl)
theorem dX13_cell_108 : decode cX13_cell 108 = .ok (.getfield 7, 3) := dk_180 0 7 (dk_at dksX13_cell_4 5 rfl rfl)
theorem dX13_cell_111 : decode cX13_cell 111 = .ok (.bipush 93, 2) := dk_16 93 (dk_at dksX13_cell_4 8 rfl rfl)
theorem dX13_cell_113 : decode cX13_cell 113 = .ok (.iload_n 1, 1) := dk_27 (dk_at dksX13_cell_4 10 rfl rfl)
theorem dX13_cell_114 : decode cX13_cell 114 = .ok (.iadd, 1) := dk_96 (dk_at dksX13_cell_4 11 rfl rfl)
theorem dX13_cell_115 : decode cX13_cell 115 = .ok (.iaload, 1) := dk_46 (dk_at dksX13_cell_4 12 rfl rfl)
theorem dX13_cell_116 : decode cX13_cell 116 = .ok (.invokestatic 152, 3) := dk_184 0 152 (dk_at dksX13_cell_4 13 rfl rfl)
theorem dX13_cell_119 : decode cX13_cell 119 = .ok (.goto 5, 3) := dk_167 0 5 (dk_at dksX13_cell_4 16 rfl rfl)
theorem dX13_cell_122 : decode cX13_cell 122 = .ok (.bipush (-99), 2) := dk_16 157 (dk_at dksX13_cell_4 19 rfl rfl)
theorem dX13_cell_124 : decode cX13_cell 124 = .ok (.ireturn, 1) := dk_172 (dk_at dksX13_cell_4 21 rfl rfl)
theorem dX13_cell_125 : decode cX13_cell 125 = .ok (.aload_n 0, 1) := dk_42 (dk_at dksX13_cell_4 22 rfl rfl)
theorem dX13_cell_126 : decode cX13_cell 126 = .ok (.iload_n 1, 1) := dk_27 (dk_at dksX13_cell_4 23 rfl rfl)
theorem dX13_cell_127 : decode cX13_cell 127 = .ok (.invokevirtual 320, 3) := dk_182 1 64 (dk_at dksX13_cell_5 0 rfl rfl)
theorem dX13_cell_130 : decode cX13_cell 130 = .ok (.ireturn, 1) := dk_172 (dk_at dksX13_cell_5 3 rfl rfl)
theorem dX13_cell_131 : decode cX13_cell 131 = .ok (.iconst (-1), 1) := dk_2 (dk_at dksX13_cell_5 4 rfl rfl)
theorem dX13_cell_132 : decode cX13_cell 132 = .ok (.ireturn, 1) := dk_172 (dk_at dksX13_cell_5 5 rfl rfl)
abbrev cX13_strangers : ByteArray := prog_28_method_104_code
def yX13_strangers : MethodName := ⟨RX13, "strangers", "(I)I"⟩
def dkwX13_strangers_2 : List UInt8 := [28, 172]
abbrev dktX13_strangers_2 : List UInt8 := dkwX13_strangers_2 ++ []
def dkwX13_strangers_1 : List UInt8 := [182, 0, 72, 42, 27, 182, 0, 72, 159, 0, 7, 4, 167, 0, 4, 3, 96, 61, 132, 3, 1, 167, 255, 215]
abbrev dktX13_strangers_1 : List UInt8 := dkwX13_strangers_1 ++ dktX13_strangers_2
def dkwX13_strangers_0 : List UInt8 := [3, 61, 3, 62, 29, 42, 182, 0, 61, 162, 0, 39, 28, 42, 27, 29, 182, 0, 83, 153, 0, 20, 42, 29]
abbrev dktX13_strangers_0 : List UInt8 := dkwX13_strangers_0 ++ dktX13_strangers_1
theorem dksX13_strangers_0 : cX13_strangers.data.toList.drop 0 = dktX13_strangers_0 := by decide +kernel
theorem dksX13_strangers_1 : cX13_strangers.data.toList.drop 24 = dktX13_strangers_1 := dk_seg dksX13_strangers_0 24 rfl rfl
theorem dksX13_strangers_2 : cX13_strangers.data.toList.drop 48 = dktX13_strangers_2 := dk_seg dksX13_strangers_1 24 rfl rfl
theorem dX13_strangers_0 : decode cX13_strangers 0 = .ok (.iconst 0, 1) := dk_3 (dk_at dksX13_strangers_0 0 rfl rfl)
theorem dX13_strangers_1 : decode cX13_strangers 1 = .ok (.istore_n 2, 1) := dk_61 (dk_at dksX13_strangers_0 1 rfl rfl)
theorem dX13_strangers_2 : decode cX13_strangers 2 = .ok (.iconst 0, 1) := dk_3 (dk_at dksX13_strangers_0 2 rfl rfl)
theorem dX13_strangers_3 : decode cX13_strangers 3 = .ok (.istore_n 3, 1) := dk_62 (dk_at dksX13_strangers_0 3 rfl rfl)
theorem dX13_strangers_4 : decode cX13_strangers 4 = .ok (.iload_n 3, 1) := dk_29 (dk_at dksX13_strangers_0 4 rfl rfl)
theorem dX13_strangers_5 : decode cX13_strangers 5 = .ok (.aload_n 0, 1) := dk_42 (dk_at dksX13_strangers_0 5 rfl rfl)
theorem dX13_strangers_6 : decode cX13_strangers 6 = .ok (.invokevirtual 61, 3) := dk_182 0 61 (dk_at dksX13_strangers_0 6 rfl rfl)
theorem dX13_strangers_9 : decode cX13_strangers 9 = .ok (.if_icmp .ge 39, 3) := dk_162 0 39 (dk_at dksX13_strangers_0 9 rfl rfl)
theorem dX13_strangers_12 : decode cX13_strangers 12 = .ok (.iload_n 2, 1) := dk_28 (dk_at dksX13_strangers_0 12 rfl rfl)
theorem dX13_strangers_13 : decode cX13_strangers 13 = .ok (.aload_n 0, 1) := dk_42 (dk_at dksX13_strangers_0 13 rfl rfl)
theorem dX13_strangers_14 : decode cX13_strangers 14 = .ok (.iload_n 1, 1) := dk_27 (dk_at dksX13_strangers_0 14 rfl rfl)
theorem dX13_strangers_15 : decode cX13_strangers 15 = .ok (.iload_n 3, 1) := dk_29 (dk_at dksX13_strangers_0 15 rfl rfl)
theorem dX13_strangers_16 : decode cX13_strangers 16 = .ok (.invokevirtual 83, 3) := dk_182 0 83 (dk_at dksX13_strangers_0 16 rfl rfl)
theorem dX13_strangers_19 : decode cX13_strangers 19 = .ok (.ifCond .eq 20, 3) := dk_153 0 20 (dk_at dksX13_strangers_0 19 rfl rfl)
theorem dX13_strangers_22 : decode cX13_strangers 22 = .ok (.aload_n 0, 1) := dk_42 (dk_at dksX13_strangers_0 22 rfl rfl)
theorem dX13_strangers_23 : decode cX13_strangers 23 = .ok (.iload_n 3, 1) := dk_29 (dk_at dksX13_strangers_0 23 rfl rfl)
theorem dX13_strangers_24 : decode cX13_strangers 24 = .ok (.invokevirtual 72, 3) := dk_182 0 72 (dk_at dksX13_strangers_1 0 rfl rfl)
theorem dX13_strangers_27 : decode cX13_strangers 27 = .ok (.aload_n 0, 1) := dk_42 (dk_at dksX13_strangers_1 3 rfl rfl)
theorem dX13_strangers_28 : decode cX13_strangers 28 = .ok (.iload_n 1, 1) := dk_27 (dk_at dksX13_strangers_1 4 rfl rfl)
theorem dX13_strangers_29 : decode cX13_strangers 29 = .ok (.invokevirtual 72, 3) := dk_182 0 72 (dk_at dksX13_strangers_1 5 rfl rfl)
theorem dX13_strangers_32 : decode cX13_strangers 32 = .ok (.if_icmp .eq 7, 3) := dk_159 0 7 (dk_at dksX13_strangers_1 8 rfl rfl)
theorem dX13_strangers_35 : decode cX13_strangers 35 = .ok (.iconst 1, 1) := dk_4 (dk_at dksX13_strangers_1 11 rfl rfl)
theorem dX13_strangers_36 : decode cX13_strangers 36 = .ok (.goto 4, 3) := dk_167 0 4 (dk_at dksX13_strangers_1 12 rfl rfl)
theorem dX13_strangers_39 : decode cX13_strangers 39 = .ok (.iconst 0, 1) := dk_3 (dk_at dksX13_strangers_1 15 rfl rfl)
theorem dX13_strangers_40 : decode cX13_strangers 40 = .ok (.iadd, 1) := dk_96 (dk_at dksX13_strangers_1 16 rfl rfl)
theorem dX13_strangers_41 : decode cX13_strangers 41 = .ok (.istore_n 2, 1) := dk_61 (dk_at dksX13_strangers_1 17 rfl rfl)
theorem dX13_strangers_42 : decode cX13_strangers 42 = .ok (.iinc 3 1, 3) := dk_132 3 1 (dk_at dksX13_strangers_1 18 rfl rfl)
theorem dX13_strangers_45 : decode cX13_strangers 45 = .ok (.goto (-41), 3) := dk_167 255 215 (dk_at dksX13_strangers_1 21 rfl rfl)
theorem dX13_strangers_48 : decode cX13_strangers 48 = .ok (.iload_n 2, 1) := dk_28 (dk_at dksX13_strangers_2 0 rfl rfl)
theorem dX13_strangers_49 : decode cX13_strangers 49 = .ok (.ireturn, 1) := dk_172 (dk_at dksX13_strangers_2 1 rfl rfl)
abbrev cX13_line : ByteArray := prog_28_method_106_code
def yX13_line : MethodName := ⟨RX13, "line", "(II)I"⟩
def dkwX13_line_4 : List UInt8 := [184, 0, 155, 167, 0, 7, 29, 184, 0, 142, 172]
abbrev dktX13_line_4 : List UInt8 := dkwX13_line_4 ++ []
def dkwX13_line_3 : List UInt8 := [167, 0, 5, 16, 157, 172, 28, 5, 160, 0, 10, 29, 184, 0, 152, 167, 0, 19, 28, 6, 160, 0, 10, 29]
abbrev dktX13_line_3 : List UInt8 := dkwX13_line_3 ++ dktX13_line_4
def dkwX13_line_2 : List UInt8 := [96, 46, 172, 42, 182, 0, 237, 42, 27, 2, 182, 0, 161, 62, 29, 154, 0, 15, 28, 7, 160, 0, 7, 3]
abbrev dktX13_line_2 : List UInt8 := dkwX13_line_2 ++ dktX13_line_3
def dkwX13_line_1 : List UInt8 := [28, 5, 162, 0, 25, 28, 154, 0, 11, 42, 27, 182, 0, 158, 167, 0, 12, 42, 180, 0, 7, 16, 83, 27]
abbrev dktX13_line_1 : List UInt8 := dkwX13_line_1 ++ dktX13_line_2
def dkwX13_line_0 : List UInt8 := [42, 3, 181, 0, 43, 42, 27, 182, 0, 216, 153, 0, 12, 28, 3, 7, 184, 0, 65, 154, 0, 5, 2, 172]
abbrev dktX13_line_0 : List UInt8 := dkwX13_line_0 ++ dktX13_line_1
theorem dksX13_line_0 : cX13_line.data.toList.drop 0 = dktX13_line_0 := by decide +kernel
theorem dksX13_line_1 : cX13_line.data.toList.drop 24 = dktX13_line_1 := dk_seg dksX13_line_0 24 rfl rfl
theorem dksX13_line_2 : cX13_line.data.toList.drop 48 = dktX13_line_2 := dk_seg dksX13_line_1 24 rfl rfl
theorem dksX13_line_3 : cX13_line.data.toList.drop 72 = dktX13_line_3 := dk_seg dksX13_line_2 24 rfl rfl
theorem dksX13_line_4 : cX13_line.data.toList.drop 96 = dktX13_line_4 := dk_seg dksX13_line_3 24 rfl rfl
theorem dX13_line_0 : decode cX13_line 0 = .ok (.aload_n 0, 1) := dk_42 (dk_at dksX13_line_0 0 rfl rfl)
theorem dX13_line_1 : decode cX13_line 1 = .ok (.iconst 0, 1) := dk_3 (dk_at dksX13_line_0 1 rfl rfl)
theorem dX13_line_2 : decode cX13_line 2 = .ok (.putfield 43, 3) := dk_181 0 43 (dk_at dksX13_line_0 2 rfl rfl)
theorem dX13_line_5 : decode cX13_line 5 = .ok (.aload_n 0, 1) := dk_42 (dk_at dksX13_line_0 5 rfl rfl)
theorem dX13_line_6 : decode cX13_line 6 = .ok (.iload_n 1, 1) := dk_27 (dk_at dksX13_line_0 6 rfl rfl)
theorem dX13_line_7 : decode cX13_line 7 = .ok (.invokevirtual 216, 3) := dk_182 0 216 (dk_at dksX13_line_0 7 rfl rfl)
theorem dX13_line_10 : decode cX13_line 10 = .ok (.ifCond .eq 12, 3) := dk_153 0 12 (dk_at dksX13_line_0 10 rfl rfl)
theorem dX13_line_13 : decode cX13_line 13 = .ok (.iload_n 2, 1) := dk_28 (dk_at dksX13_line_0 13 rfl rfl)
theorem dX13_line_14 : decode cX13_line 14 = .ok (.iconst 0, 1) := dk_3 (dk_at dksX13_line_0 14 rfl rfl)
theorem dX13_line_15 : decode cX13_line 15 = .ok (.iconst 4, 1) := dk_7 (dk_at dksX13_line_0 15 rfl rfl)
theorem dX13_line_16 : decode cX13_line 16 = .ok (.invokestatic 65, 3) := dk_184 0 65 (dk_at dksX13_line_0 16 rfl rfl)
theorem dX13_line_19 : decode cX13_line 19 = .ok (.ifCond .ne 5, 3) := dk_154 0 5 (dk_at dksX13_line_0 19 rfl rfl)
theorem dX13_line_22 : decode cX13_line 22 = .ok (.iconst (-1), 1) := dk_2 (dk_at dksX13_line_0 22 rfl rfl)
theorem dX13_line_23 : decode cX13_line 23 = .ok (.ireturn, 1) := dk_172 (dk_at dksX13_line_0 23 rfl rfl)
theorem dX13_line_24 : decode cX13_line 24 = .ok (.iload_n 2, 1) := dk_28 (dk_at dksX13_line_1 0 rfl rfl)
theorem dX13_line_25 : decode cX13_line 25 = .ok (.iconst 2, 1) := dk_5 (dk_at dksX13_line_1 1 rfl rfl)
theorem dX13_line_26 : decode cX13_line 26 = .ok (.if_icmp .ge 25, 3) := dk_162 0 25 (dk_at dksX13_line_1 2 rfl rfl)
theorem dX13_line_29 : decode cX13_line 29 = .ok (.iload_n 2, 1) := dk_28 (dk_at dksX13_line_1 5 rfl rfl)
theorem dX13_line_30 : decode cX13_line 30 = .ok (.ifCond .ne 11, 3) := dk_154 0 11 (dk_at dksX13_line_1 6 rfl rfl)
theorem dX13_line_33 : decode cX13_line 33 = .ok (.aload_n 0, 1) := dk_42 (dk_at dksX13_line_1 9 rfl rfl)
theorem dX13_line_34 : decode cX13_line 34 = .ok (.iload_n 1, 1) := dk_27 (dk_at dksX13_line_1 10 rfl rfl)
theorem dX13_line_35 : decode cX13_line 35 = .ok (.invokevirtual 158, 3) := dk_182 0 158 (dk_at dksX13_line_1 11 rfl rfl)
theorem dX13_line_38 : decode cX13_line 38 = .ok (.goto 12, 3) := dk_167 0 12 (dk_at dksX13_line_1 14 rfl rfl)
theorem dX13_line_41 : decode cX13_line 41 = .ok (.aload_n 0, 1) := dk_42 (dk_at dksX13_line_1 17 rfl rfl)
theorem dX13_line_42 : decode cX13_line 42 = .ok (.getfield 7, 3) := dk_180 0 7 (dk_at dksX13_line_1 18 rfl rfl)
theorem dX13_line_45 : decode cX13_line 45 = .ok (.bipush 83, 2) := dk_16 83 (dk_at dksX13_line_1 21 rfl rfl)
theorem dX13_line_47 : decode cX13_line 47 = .ok (.iload_n 1, 1) := dk_27 (dk_at dksX13_line_1 23 rfl rfl)
theorem dX13_line_48 : decode cX13_line 48 = .ok (.iadd, 1) := dk_96 (dk_at dksX13_line_2 0 rfl rfl)
theorem dX13_line_49 : decode cX13_line 49 = .ok (.iaload, 1) := dk_46 (dk_at dksX13_line_2 1 rfl rfl)
theorem dX13_line_50 : decode cX13_line 50 = .ok (.ireturn, 1) := dk_172 (dk_at dksX13_line_2 2 rfl rfl)
theorem dX13_line_51 : decode cX13_line 51 = .ok (.aload_n 0, 1) := dk_42 (dk_at dksX13_line_2 3 rfl rfl)
theorem dX13_line_52 : decode cX13_line 52 = .ok (.invokevirtual 237, 3) := dk_182 0 237 (dk_at dksX13_line_2 4 rfl rfl)
theorem dX13_line_55 : decode cX13_line 55 = .ok (.aload_n 0, 1) := dk_42 (dk_at dksX13_line_2 7 rfl rfl)
theorem dX13_line_56 : decode cX13_line 56 = .ok (.iload_n 1, 1) := dk_27 (dk_at dksX13_line_2 8 rfl rfl)
theorem dX13_line_57 : decode cX13_line 57 = .ok (.iconst (-1), 1) := dk_2 (dk_at dksX13_line_2 9 rfl rfl)
theorem dX13_line_58 : decode cX13_line 58 = .ok (.invokevirtual 161, 3) := dk_182 0 161 (dk_at dksX13_line_2 10 rfl rfl)
theorem dX13_line_61 : decode cX13_line 61 = .ok (.istore_n 3, 1) := dk_62 (dk_at dksX13_line_2 13 rfl rfl)
theorem dX13_line_62 : decode cX13_line 62 = .ok (.iload_n 3, 1) := dk_29 (dk_at dksX13_line_2 14 rfl rfl)
theorem dX13_line_63 : decode cX13_line 63 = .ok (.ifCond .ne 15, 3) := dk_154 0 15 (dk_at dksX13_line_2 15 rfl rfl)
theorem dX13_line_66 : decode cX13_line 66 = .ok (.iload_n 2, 1) := dk_28 (dk_at dksX13_line_2 18 rfl rfl)
theorem dX13_line_67 : decode cX13_line 67 = .ok (.iconst 4, 1) := dk_7 (dk_at dksX13_line_2 19 rfl rfl)
theorem dX13_line_68 : decode cX13_line 68 = .ok (.if_icmp .ne 7, 3) := dk_160 0 7 (dk_at dksX13_line_2 20 rfl rfl)
theorem dX13_line_71 : decode cX13_line 71 = .ok (.iconst 0, 1) := dk_3 (dk_at dksX13_line_2 23 rfl rfl)
theorem dX13_line_72 : decode cX13_line 72 = .ok (.goto 5, 3) := dk_167 0 5 (dk_at dksX13_line_3 0 rfl rfl)
theorem dX13_line_75 : decode cX13_line 75 = .ok (.bipush (-99), 2) := dk_16 157 (dk_at dksX13_line_3 3 rfl rfl)
theorem dX13_line_77 : decode cX13_line 77 = .ok (.ireturn, 1) := dk_172 (dk_at dksX13_line_3 5 rfl rfl)
theorem dX13_line_78 : decode cX13_line 78 = .ok (.iload_n 2, 1) := dk_28 (dk_at dksX13_line_3 6 rfl rfl)
theorem dX13_line_79 : decode cX13_line 79 = .ok (.iconst 2, 1) := dk_5 (dk_at dksX13_line_3 7 rfl rfl)
theorem dX13_line_80 : decode cX13_line 80 = .ok (.if_icmp .ne 10, 3) := dk_160 0 10 (dk_at dksX13_line_3 8 rfl rfl)
theorem dX13_line_83 : decode cX13_line 83 = .ok (.iload_n 3, 1) := dk_29 (dk_at dksX13_line_3 11 rfl rfl)
theorem dX13_line_84 : decode cX13_line 84 = .ok (.invokestatic 152, 3) := dk_184 0 152 (dk_at dksX13_line_3 12 rfl rfl)
theorem dX13_line_87 : decode cX13_line 87 = .ok (.goto 19, 3) := dk_167 0 19 (dk_at dksX13_line_3 15 rfl rfl)
theorem dX13_line_90 : decode cX13_line 90 = .ok (.iload_n 2, 1) := dk_28 (dk_at dksX13_line_3 18 rfl rfl)
theorem dX13_line_91 : decode cX13_line 91 = .ok (.iconst 3, 1) := dk_6 (dk_at dksX13_line_3 19 rfl rfl)
theorem dX13_line_92 : decode cX13_line 92 = .ok (.if_icmp .ne 10, 3) := dk_160 0 10 (dk_at dksX13_line_3 20 rfl rfl)
theorem dX13_line_95 : decode cX13_line 95 = .ok (.iload_n 3, 1) := dk_29 (dk_at dksX13_line_3 23 rfl rfl)
theorem dX13_line_96 : decode cX13_line 96 = .ok (.invokestatic 155, 3) := dk_184 0 155 (dk_at dksX13_line_4 0 rfl rfl)
theorem dX13_line_99 : decode cX13_line 99 = .ok (.goto 7, 3) := dk_167 0 7 (dk_at dksX13_line_4 3 rfl rfl)
theorem dX13_line_102 : decode cX13_line 102 = .ok (.iload_n 3, 1) := dk_29 (dk_at dksX13_line_4 6 rfl rfl)
theorem dX13_line_103 : decode cX13_line 103 = .ok (.invokestatic 142, 3) := dk_184 0 142 (dk_at dksX13_line_4 7 rfl rfl)
theorem dX13_line_106 : decode cX13_line 106 = .ok (.ireturn, 1) := dk_172 (dk_at dksX13_line_4 10 rfl rfl)
abbrev cX13_block : ByteArray := prog_28_method_108_code
def yX13_block : MethodName := ⟨RX13, "block", "(II)I"⟩
def dkwX13_block_7 : List UInt8 := [160, 0, 8, 21, 5, 167, 0, 5, 21, 6, 172]
abbrev dktX13_block_7 : List UInt8 := dkwX13_block_7 ++ []
def dkwX13_block_6 : List UInt8 := [167, 255, 176, 28, 154, 0, 8, 21, 4, 167, 0, 24, 28, 4, 160, 0, 7, 29, 167, 0, 15, 28, 5]
abbrev dktX13_block_6 : List UInt8 := dkwX13_block_6 ++ dktX13_block_7
def dkwX13_block_5 : List UInt8 := [21, 7, 96, 46, 184, 0, 142, 4, 160, 0, 7, 4, 167, 0, 4, 3, 96, 54, 6, 132, 7, 1]
abbrev dktX13_block_5 : List UInt8 := dkwX13_block_5 ++ dktX13_block_6
def dkwX13_block_4 : List UInt8 := [21, 5, 42, 180, 0, 7, 16, 58, 21, 7, 96, 46, 96, 54, 5, 21, 6, 42, 180, 0, 7, 16, 93]
abbrev dktX13_block_4 : List UInt8 := dkwX13_block_4 ++ dktX13_block_5
def dkwX13_block_3 : List UInt8 := [182, 0, 72, 27, 160, 0, 61, 29, 16, 157, 160, 0, 8, 21, 7, 167, 0, 4, 29, 62, 132, 4, 1]
abbrev dktX13_block_3 : List UInt8 := dkwX13_block_3 ++ dktX13_block_4
def dkwX13_block_2 : List UInt8 := [54, 4, 3, 54, 5, 3, 54, 6, 3, 54, 7, 21, 7, 42, 182, 0, 61, 162, 0, 77, 42, 21, 7]
abbrev dktX13_block_2 : List UInt8 := dkwX13_block_2 ++ dktX13_block_3
def dkwX13_block_1 : List UInt8 := [184, 0, 65, 154, 0, 5, 2, 172, 28, 7, 160, 0, 9, 42, 27, 182, 1, 67, 172, 16, 157, 62, 3]
abbrev dktX13_block_1 : List UInt8 := dkwX13_block_1 ++ dktX13_block_2
def dkwX13_block_0 : List UInt8 := [42, 3, 181, 0, 43, 27, 3, 42, 182, 0, 105, 4, 100, 184, 0, 65, 153, 0, 12, 28, 3, 7]
abbrev dktX13_block_0 : List UInt8 := dkwX13_block_0 ++ dktX13_block_1
theorem dksX13_block_0 : cX13_block.data.toList.drop 0 = dktX13_block_0 := by decide +kernel
theorem dksX13_block_1 : cX13_block.data.toList.drop 22 = dktX13_block_1 := dk_seg dksX13_block_0 22 rfl rfl
theorem dksX13_block_2 : cX13_block.data.toList.drop 45 = dktX13_block_2 := dk_seg dksX13_block_1 23 rfl rfl
theorem dksX13_block_3 : cX13_block.data.toList.drop 68 = dktX13_block_3 := dk_seg dksX13_block_2 23 rfl rfl
theorem dksX13_block_4 : cX13_block.data.toList.drop 91 = dktX13_block_4 := dk_seg dksX13_block_3 23 rfl rfl
theorem dksX13_block_5 : cX13_block.data.toList.drop 114 = dktX13_block_5 := dk_seg dksX13_block_4 23 rfl rfl
theorem dksX13_block_6 : cX13_block.data.toList.drop 136 = dktX13_block_6 := dk_seg dksX13_block_5 22 rfl rfl
theorem dksX13_block_7 : cX13_block.data.toList.drop 159 = dktX13_block_7 := dk_seg dksX13_block_6 23 rfl rfl
theorem dX13_block_0 : decode cX13_block 0 = .ok (.aload_n 0, 1) := dk_42 (dk_at dksX13_block_0 0 rfl rfl)
theorem dX13_block_1 : decode cX13_block 1 = .ok (.iconst 0, 1) := dk_3 (dk_at dksX13_block_0 1 rfl rfl)
theorem dX13_block_2 : decode cX13_block 2 = .ok (.putfield 43, 3) := dk_181 0 43 (dk_at dksX13_block_0 2 rfl rfl)
theorem dX13_block_5 : decode cX13_block 5 = .ok (.iload_n 1, 1) := dk_27 (dk_at dksX13_block_0 5 rfl rfl)
theorem dX13_block_6 : decode cX13_block 6 = .ok (.iconst 0, 1) := dk_3 (dk_at dksX13_block_0 6 rfl rfl)
theorem dX13_block_7 : decode cX13_block 7 = .ok (.aload_n 0, 1) := dk_42 (dk_at dksX13_block_0 7 rfl rfl)
theorem dX13_block_8 : decode cX13_block 8 = .ok (.invokevirtual 105, 3) := dk_182 0 105 (dk_at dksX13_block_0 8 rfl rfl)
theorem dX13_block_11 : decode cX13_block 11 = .ok (.iconst 1, 1) := dk_4 (dk_at dksX13_block_0 11 rfl rfl)
theorem dX13_block_12 : decode cX13_block 12 = .ok (.isub, 1) := dk_100 (dk_at dksX13_block_0 12 rfl rfl)
theorem dX13_block_13 : decode cX13_block 13 = .ok (.invokestatic 65, 3) := dk_184 0 65 (dk_at dksX13_block_0 13 rfl rfl)
theorem dX13_block_16 : decode cX13_block 16 = .ok (.ifCond .eq 12, 3) := dk_153 0 12 (dk_at dksX13_block_0 16 rfl rfl)
theorem dX13_block_19 : decode cX13_block 19 = .ok (.iload_n 2, 1) := dk_28 (dk_at dksX13_block_0 19 rfl rfl)
theorem dX13_block_20 : decode cX13_block 20 = .ok (.iconst 0, 1) := dk_3 (dk_at dksX13_block_0 20 rfl rfl)
theorem dX13_block_21 : decode cX13_block 21 = .ok (.iconst 4, 1) := dk_7 (dk_at dksX13_block_0 21 rfl rfl)
theorem dX13_block_22 : decode cX13_block 22 = .ok (.invokestatic 65, 3) := dk_184 0 65 (dk_at dksX13_block_1 0 rfl rfl)
theorem dX13_block_25 : decode cX13_block 25 = .ok (.ifCond .ne 5, 3) := dk_154 0 5 (dk_at dksX13_block_1 3 rfl rfl)
theorem dX13_block_28 : decode cX13_block 28 = .ok (.iconst (-1), 1) := dk_2 (dk_at dksX13_block_1 6 rfl rfl)
theorem dX13_block_29 : decode cX13_block 29 = .ok (.ireturn, 1) := dk_172 (dk_at dksX13_block_1 7 rfl rfl)
theorem dX13_block_30 : decode cX13_block 30 = .ok (.iload_n 2, 1) := dk_28 (dk_at dksX13_block_1 8 rfl rfl)
theorem dX13_block_31 : decode cX13_block 31 = .ok (.iconst 4, 1) := dk_7 (dk_at dksX13_block_1 9 rfl rfl)
theorem dX13_block_32 : decode cX13_block 32 = .ok (.if_icmp .ne 9, 3) := dk_160 0 9 (dk_at dksX13_block_1 10 rfl rfl)
theorem dX13_block_35 : decode cX13_block 35 = .ok (.aload_n 0, 1) := dk_42 (dk_at dksX13_block_1 13 rfl rfl)
theorem dX13_block_36 : decode cX13_block 36 = .ok (.iload_n 1, 1) := dk_27 (dk_at dksX13_block_1 14 rfl rfl)
theorem dX13_block_37 : decode cX13_block 37 = .ok (.invokevirtual 323, 3) := dk_182 1 67 (dk_at dksX13_block_1 15 rfl rfl)
theorem dX13_block_40 : decode cX13_block 40 = .ok (.ireturn, 1) := dk_172 (dk_at dksX13_block_1 18 rfl rfl)
theorem dX13_block_41 : decode cX13_block 41 = .ok (.bipush (-99), 2) := dk_16 157 (dk_at dksX13_block_1 19 rfl rfl)
theorem dX13_block_43 : decode cX13_block 43 = .ok (.istore_n 3, 1) := dk_62 (dk_at dksX13_block_1 21 rfl rfl)
theorem dX13_block_44 : decode cX13_block 44 = .ok (.iconst 0, 1) := dk_3 (dk_at dksX13_block_1 22 rfl rfl)
theorem dX13_block_45 : decode cX13_block 45 = .ok (.istore 4, 2) := dk_54 4 (dk_at dksX13_block_2 0 rfl rfl)
theorem dX13_block_47 : decode cX13_block 47 = .ok (.iconst 0, 1) := dk_3 (dk_at dksX13_block_2 2 rfl rfl)
theorem dX13_block_48 : decode cX13_block 48 = .ok (.istore 5, 2) := dk_54 5 (dk_at dksX13_block_2 3 rfl rfl)
theorem dX13_block_50 : decode cX13_block 50 = .ok (.iconst 0, 1) := dk_3 (dk_at dksX13_block_2 5 rfl rfl)
theorem dX13_block_51 : decode cX13_block 51 = .ok (.istore 6, 2) := dk_54 6 (dk_at dksX13_block_2 6 rfl rfl)
theorem dX13_block_53 : decode cX13_block 53 = .ok (.iconst 0, 1) := dk_3 (dk_at dksX13_block_2 8 rfl rfl)
theorem dX13_block_54 : decode cX13_block 54 = .ok (.istore 7, 2) := dk_54 7 (dk_at dksX13_block_2 9 rfl rfl)
theorem dX13_block_56 : decode cX13_block 56 = .ok (.iload 7, 2) := dk_21 7 (dk_at dksX13_block_2 11 rfl rfl)
theorem dX13_block_58 : decode cX13_block 58 = .ok (.aload_n 0, 1) := dk_42 (dk_at dksX13_block_2 13 rfl rfl)
theorem dX13_block_59 : decode cX13_block 59 = .ok (.invokevirtual 61, 3) := dk_182 0 61 (dk_at dksX13_block_2 14 rfl rfl)
theorem dX13_block_62 : decode cX13_block 62 = .ok (.if_icmp .ge 77, 3) := dk_162 0 77 (dk_at dksX13_block_2 17 rfl rfl)
theorem dX13_block_65 : decode cX13_block 65 = .ok (.aload_n 0, 1) := dk_42 (dk_at dksX13_block_2 20 rfl rfl)
theorem dX13_block_66 : decode cX13_block 66 = .ok (.iload 7, 2) := dk_21 7 (dk_at dksX13_block_2 21 rfl rfl)
theorem dX13_block_68 : decode cX13_block 68 = .ok (.invokevirtual 72, 3) := dk_182 0 72 (dk_at dksX13_block_3 0 rfl rfl)
theorem dX13_block_71 : decode cX13_block 71 = .ok (.iload_n 1, 1) := dk_27 (dk_at dksX13_block_3 3 rfl rfl)
theorem dX13_block_72 : decode cX13_block 72 = .ok (.if_icmp .ne 61, 3) := dk_160 0 61 (dk_at dksX13_block_3 4 rfl rfl)
theorem dX13_block_75 : decode cX13_block 75 = .ok (.iload_n 3, 1) := dk_29 (dk_at dksX13_block_3 7 rfl rfl)
theorem dX13_block_76 : decode cX13_block 76 = .ok (.bipush (-99), 2) := dk_16 157 (dk_at dksX13_block_3 8 rfl rfl)
theorem dX13_block_78 : decode cX13_block 78 = .ok (.if_icmp .ne 8, 3) := dk_160 0 8 (dk_at dksX13_block_3 10 rfl rfl)
theorem dX13_block_81 : decode cX13_block 81 = .ok (.iload 7, 2) := dk_21 7 (dk_at dksX13_block_3 13 rfl rfl)
theorem dX13_block_83 : decode cX13_block 83 = .ok (.goto 4, 3) := dk_167 0 4 (dk_at dksX13_block_3 15 rfl rfl)
theorem dX13_block_86 : decode cX13_block 86 = .ok (.iload_n 3, 1) := dk_29 (dk_at dksX13_block_3 18 rfl rfl)
theorem dX13_block_87 : decode cX13_block 87 = .ok (.istore_n 3, 1) := dk_62 (dk_at dksX13_block_3 19 rfl rfl)
theorem dX13_block_88 : decode cX13_block 88 = .ok (.iinc 4 1, 3) := dk_132 4 1 (dk_at dksX13_block_3 20 rfl rfl)
theorem dX13_block_91 : decode cX13_block 91 = .ok (.iload 5, 2) := dk_21 5 (dk_at dksX13_block_4 0 rfl rfl)
theorem dX13_block_93 : decode cX13_block 93 = .ok (.aload_n 0, 1) := dk_42 (dk_at dksX13_block_4 2 rfl rfl)
theorem dX13_block_94 : decode cX13_block 94 = .ok (.getfield 7, 3) := dk_180 0 7 (dk_at dksX13_block_4 3 rfl rfl)
theorem dX13_block_97 : decode cX13_block 97 = .ok (.bipush 58, 2) := dk_16 58 (dk_at dksX13_block_4 6 rfl rfl)
theorem dX13_block_99 : decode cX13_block 99 = .ok (.iload 7, 2) := dk_21 7 (dk_at dksX13_block_4 8 rfl rfl)
theorem dX13_block_101 : decode cX13_block 101 = .ok (.iadd, 1) := dk_96 (dk_at dksX13_block_4 10 rfl rfl)
theorem dX13_block_102 : decode cX13_block 102 = .ok (.iaload, 1) := dk_46 (dk_at dksX13_block_4 11 rfl rfl)
theorem dX13_block_103 : decode cX13_block 103 = .ok (.iadd, 1) := dk_96 (dk_at dksX13_block_4 12 rfl rfl)
theorem dX13_block_104 : decode cX13_block 104 = .ok (.istore 5, 2) := dk_54 5 (dk_at dksX13_block_4 13 rfl rfl)
theorem dX13_block_106 : decode cX13_block 106 = .ok (.iload 6, 2) := dk_21 6 (dk_at dksX13_block_4 15 rfl rfl)
theorem dX13_block_108 : decode cX13_block 108 = .ok (.aload_n 0, 1) := dk_42 (dk_at dksX13_block_4 17 rfl rfl)
theorem dX13_block_109 : decode cX13_block 109 = .ok (.getfield 7, 3) := dk_180 0 7 (dk_at dksX13_block_4 18 rfl rfl)
theorem dX13_block_112 : decode cX13_block 112 = .ok (.bipush 93, 2) := dk_16 93 (dk_at dksX13_block_4 21 rfl rfl)
theorem dX13_block_114 : decode cX13_block 114 = .ok (.iload 7, 2) := dk_21 7 (dk_at dksX13_block_5 0 rfl rfl)
theorem dX13_block_116 : decode cX13_block 116 = .ok (.iadd, 1) := dk_96 (dk_at dksX13_block_5 2 rfl rfl)
theorem dX13_block_117 : decode cX13_block 117 = .ok (.iaload, 1) := dk_46 (dk_at dksX13_block_5 3 rfl rfl)
theorem dX13_block_118 : decode cX13_block 118 = .ok (.invokestatic 142, 3) := dk_184 0 142 (dk_at dksX13_block_5 4 rfl rfl)
theorem dX13_block_121 : decode cX13_block 121 = .ok (.iconst 1, 1) := dk_4 (dk_at dksX13_block_5 7 rfl rfl)
theorem dX13_block_122 : decode cX13_block 122 = .ok (.if_icmp .ne 7, 3) := dk_160 0 7 (dk_at dksX13_block_5 8 rfl rfl)
theorem dX13_block_125 : decode cX13_block 125 = .ok (.iconst 1, 1) := dk_4 (dk_at dksX13_block_5 11 rfl rfl)
theorem dX13_block_126 : decode cX13_block 126 = .ok (.goto 4, 3) := dk_167 0 4 (dk_at dksX13_block_5 12 rfl rfl)
theorem dX13_block_129 : decode cX13_block 129 = .ok (.iconst 0, 1) := dk_3 (dk_at dksX13_block_5 15 rfl rfl)
theorem dX13_block_130 : decode cX13_block 130 = .ok (.iadd, 1) := dk_96 (dk_at dksX13_block_5 16 rfl rfl)
theorem dX13_block_131 : decode cX13_block 131 = .ok (.istore 6, 2) := dk_54 6 (dk_at dksX13_block_5 17 rfl rfl)
theorem dX13_block_133 : decode cX13_block 133 = .ok (.iinc 7 1, 3) := dk_132 7 1 (dk_at dksX13_block_5 19 rfl rfl)
theorem dX13_block_136 : decode cX13_block 136 = .ok (.goto (-80), 3) := dk_167 255 176 (dk_at dksX13_block_6 0 rfl rfl)
theorem dX13_block_139 : decode cX13_block 139 = .ok (.iload_n 2, 1) := dk_28 (dk_at dksX13_block_6 3 rfl rfl)
theorem dX13_block_140 : decode cX13_block 140 = .ok (.ifCond .ne 8, 3) := dk_154 0 8 (dk_at dksX13_block_6 4 rfl rfl)
theorem dX13_block_143 : decode cX13_block 143 = .ok (.iload 4, 2) := dk_21 4 (dk_at dksX13_block_6 7 rfl rfl)
theorem dX13_block_145 : decode cX13_block 145 = .ok (.goto 24, 3) := dk_167 0 24 (dk_at dksX13_block_6 9 rfl rfl)
theorem dX13_block_148 : decode cX13_block 148 = .ok (.iload_n 2, 1) := dk_28 (dk_at dksX13_block_6 12 rfl rfl)
theorem dX13_block_149 : decode cX13_block 149 = .ok (.iconst 1, 1) := dk_4 (dk_at dksX13_block_6 13 rfl rfl)
theorem dX13_block_150 : decode cX13_block 150 = .ok (.if_icmp .ne 7, 3) := dk_160 0 7 (dk_at dksX13_block_6 14 rfl rfl)
theorem dX13_block_153 : decode cX13_block 153 = .ok (.iload_n 3, 1) := dk_29 (dk_at dksX13_block_6 17 rfl rfl)
theorem dX13_block_154 : decode cX13_block 154 = .ok (.goto 15, 3) := dk_167 0 15 (dk_at dksX13_block_6 18 rfl rfl)
theorem dX13_block_157 : decode cX13_block 157 = .ok (.iload_n 2, 1) := dk_28 (dk_at dksX13_block_6 21 rfl rfl)
theorem dX13_block_158 : decode cX13_block 158 = .ok (.iconst 2, 1) := dk_5 (dk_at dksX13_block_6 22 rfl rfl)
theorem dX13_block_159 : decode cX13_block 159 = .ok (.if_icmp .ne 8, 3) := dk_160 0 8 (dk_at dksX13_block_7 0 rfl rfl)
theorem dX13_block_162 : decode cX13_block 162 = .ok (.iload 5, 2) := dk_21 5 (dk_at dksX13_block_7 3 rfl rfl)
theorem dX13_block_164 : decode cX13_block 164 = .ok (.goto 5, 3) := dk_167 0 5 (dk_at dksX13_block_7 5 rfl rfl)
theorem dX13_block_167 : decode cX13_block 167 = .ok (.iload 6, 2) := dk_21 6 (dk_at dksX13_block_7 8 rfl rfl)
theorem dX13_block_169 : decode cX13_block 169 = .ok (.ireturn, 1) := dk_172 (dk_at dksX13_block_7 10 rfl rfl)
abbrev cX13_borders : ByteArray := prog_28_method_107_code
def yX13_borders : MethodName := ⟨RX13, "borders", "(I)I"⟩
def dkwX13_borders_3 : List UInt8 := [167, 255, 200, 132, 3, 1, 167, 255, 183, 28, 184, 0, 142, 172]
abbrev dktX13_borders_3 : List UInt8 := dkwX13_borders_3 ++ []
def dkwX13_borders_2 : List UInt8 := [182, 0, 72, 27, 159, 0, 14, 4, 42, 21, 4, 182, 0, 72, 120, 167, 0, 4, 3, 128, 61, 132, 4, 1]
abbrev dktX13_borders_2 : List UInt8 := dkwX13_borders_2 ++ dktX13_borders_3
def dkwX13_borders_1 : List UInt8 := [42, 29, 182, 0, 72, 27, 160, 0, 44, 28, 42, 29, 21, 4, 182, 0, 83, 153, 0, 24, 42, 21, 4]
abbrev dktX13_borders_1 : List UInt8 := dkwX13_borders_1 ++ dktX13_borders_2
def dkwX13_borders_0 : List UInt8 := [3, 61, 3, 62, 29, 42, 182, 0, 61, 162, 0, 71, 3, 54, 4, 21, 4, 42, 182, 0, 61, 162, 0, 53]
abbrev dktX13_borders_0 : List UInt8 := dkwX13_borders_0 ++ dktX13_borders_1
theorem dksX13_borders_0 : cX13_borders.data.toList.drop 0 = dktX13_borders_0 := by decide +kernel
theorem dksX13_borders_1 : cX13_borders.data.toList.drop 24 = dktX13_borders_1 := dk_seg dksX13_borders_0 24 rfl rfl
theorem dksX13_borders_2 : cX13_borders.data.toList.drop 47 = dktX13_borders_2 := dk_seg dksX13_borders_1 23 rfl rfl
theorem dksX13_borders_3 : cX13_borders.data.toList.drop 71 = dktX13_borders_3 := dk_seg dksX13_borders_2 24 rfl rfl
theorem dX13_borders_0 : decode cX13_borders 0 = .ok (.iconst 0, 1) := dk_3 (dk_at dksX13_borders_0 0 rfl rfl)
theorem dX13_borders_1 : decode cX13_borders 1 = .ok (.istore_n 2, 1) := dk_61 (dk_at dksX13_borders_0 1 rfl rfl)
theorem dX13_borders_2 : decode cX13_borders 2 = .ok (.iconst 0, 1) := dk_3 (dk_at dksX13_borders_0 2 rfl rfl)
theorem dX13_borders_3 : decode cX13_borders 3 = .ok (.istore_n 3, 1) := dk_62 (dk_at dksX13_borders_0 3 rfl rfl)
theorem dX13_borders_4 : decode cX13_borders 4 = .ok (.iload_n 3, 1) := dk_29 (dk_at dksX13_borders_0 4 rfl rfl)
theorem dX13_borders_5 : decode cX13_borders 5 = .ok (.aload_n 0, 1) := dk_42 (dk_at dksX13_borders_0 5 rfl rfl)
theorem dX13_borders_6 : decode cX13_borders 6 = .ok (.invokevirtual 61, 3) := dk_182 0 61 (dk_at dksX13_borders_0 6 rfl rfl)
theorem dX13_borders_9 : decode cX13_borders 9 = .ok (.if_icmp .ge 71, 3) := dk_162 0 71 (dk_at dksX13_borders_0 9 rfl rfl)
theorem dX13_borders_12 : decode cX13_borders 12 = .ok (.iconst 0, 1) := dk_3 (dk_at dksX13_borders_0 12 rfl rfl)
theorem dX13_borders_13 : decode cX13_borders 13 = .ok (.istore 4, 2) := dk_54 4 (dk_at dksX13_borders_0 13 rfl rfl)
theorem dX13_borders_15 : decode cX13_borders 15 = .ok (.iload 4, 2) := dk_21 4 (dk_at dksX13_borders_0 15 rfl rfl)
theorem dX13_borders_17 : decode cX13_borders 17 = .ok (.aload_n 0, 1) := dk_42 (dk_at dksX13_borders_0 17 rfl rfl)
theorem dX13_borders_18 : decode cX13_borders 18 = .ok (.invokevirtual 61, 3) := dk_182 0 61 (dk_at dksX13_borders_0 18 rfl rfl)
theorem dX13_borders_21 : decode cX13_borders 21 = .ok (.if_icmp .ge 53, 3) := dk_162 0 53 (dk_at dksX13_borders_0 21 rfl rfl)
theorem dX13_borders_24 : decode cX13_borders 24 = .ok (.aload_n 0, 1) := dk_42 (dk_at dksX13_borders_1 0 rfl rfl)
theorem dX13_borders_25 : decode cX13_borders 25 = .ok (.iload_n 3, 1) := dk_29 (dk_at dksX13_borders_1 1 rfl rfl)
theorem dX13_borders_26 : decode cX13_borders 26 = .ok (.invokevirtual 72, 3) := dk_182 0 72 (dk_at dksX13_borders_1 2 rfl rfl)
theorem dX13_borders_29 : decode cX13_borders 29 = .ok (.iload_n 1, 1) := dk_27 (dk_at dksX13_borders_1 5 rfl rfl)
theorem dX13_borders_30 : decode cX13_borders 30 = .ok (.if_icmp .ne 44, 3) := dk_160 0 44 (dk_at dksX13_borders_1 6 rfl rfl)
theorem dX13_borders_33 : decode cX13_borders 33 = .ok (.iload_n 2, 1) := dk_28 (dk_at dksX13_borders_1 9 rfl rfl)
theorem dX13_borders_34 : decode cX13_borders 34 = .ok (.aload_n 0, 1) := dk_42 (dk_at dksX13_borders_1 10 rfl rfl)
theorem dX13_borders_35 : decode cX13_borders 35 = .ok (.iload_n 3, 1) := dk_29 (dk_at dksX13_borders_1 11 rfl rfl)
theorem dX13_borders_36 : decode cX13_borders 36 = .ok (.iload 4, 2) := dk_21 4 (dk_at dksX13_borders_1 12 rfl rfl)
theorem dX13_borders_38 : decode cX13_borders 38 = .ok (.invokevirtual 83, 3) := dk_182 0 83 (dk_at dksX13_borders_1 14 rfl rfl)
theorem dX13_borders_41 : decode cX13_borders 41 = .ok (.ifCond .eq 24, 3) := dk_153 0 24 (dk_at dksX13_borders_1 17 rfl rfl)
theorem dX13_borders_44 : decode cX13_borders 44 = .ok (.aload_n 0, 1) := dk_42 (dk_at dksX13_borders_1 20 rfl rfl)
theorem dX13_borders_45 : decode cX13_borders 45 = .ok (.iload 4, 2) := dk_21 4 (dk_at dksX13_borders_1 21 rfl rfl)
theorem dX13_borders_47 : decode cX13_borders 47 = .ok (.invokevirtual 72, 3) := dk_182 0 72 (dk_at dksX13_borders_2 0 rfl rfl)
theorem dX13_borders_50 : decode cX13_borders 50 = .ok (.iload_n 1, 1) := dk_27 (dk_at dksX13_borders_2 3 rfl rfl)
theorem dX13_borders_51 : decode cX13_borders 51 = .ok (.if_icmp .eq 14, 3) := dk_159 0 14 (dk_at dksX13_borders_2 4 rfl rfl)
theorem dX13_borders_54 : decode cX13_borders 54 = .ok (.iconst 1, 1) := dk_4 (dk_at dksX13_borders_2 7 rfl rfl)
theorem dX13_borders_55 : decode cX13_borders 55 = .ok (.aload_n 0, 1) := dk_42 (dk_at dksX13_borders_2 8 rfl rfl)
theorem dX13_borders_56 : decode cX13_borders 56 = .ok (.iload 4, 2) := dk_21 4 (dk_at dksX13_borders_2 9 rfl rfl)
theorem dX13_borders_58 : decode cX13_borders 58 = .ok (.invokevirtual 72, 3) := dk_182 0 72 (dk_at dksX13_borders_2 11 rfl rfl)
theorem dX13_borders_61 : decode cX13_borders 61 = .ok (.ishl, 1) := dk_120 (dk_at dksX13_borders_2 14 rfl rfl)
theorem dX13_borders_62 : decode cX13_borders 62 = .ok (.goto 4, 3) := dk_167 0 4 (dk_at dksX13_borders_2 15 rfl rfl)
theorem dX13_borders_65 : decode cX13_borders 65 = .ok (.iconst 0, 1) := dk_3 (dk_at dksX13_borders_2 18 rfl rfl)
theorem dX13_borders_66 : decode cX13_borders 66 = .ok (.ior, 1) := dk_128 (dk_at dksX13_borders_2 19 rfl rfl)
theorem dX13_borders_67 : decode cX13_borders 67 = .ok (.istore_n 2, 1) := dk_61 (dk_at dksX13_borders_2 20 rfl rfl)
theorem dX13_borders_68 : decode cX13_borders 68 = .ok (.iinc 4 1, 3) := dk_132 4 1 (dk_at dksX13_borders_2 21 rfl rfl)
theorem dX13_borders_71 : decode cX13_borders 71 = .ok (.goto (-56), 3) := dk_167 255 200 (dk_at dksX13_borders_3 0 rfl rfl)
theorem dX13_borders_74 : decode cX13_borders 74 = .ok (.iinc 3 1, 3) := dk_132 3 1 (dk_at dksX13_borders_3 3 rfl rfl)
theorem dX13_borders_77 : decode cX13_borders 77 = .ok (.goto (-73), 3) := dk_167 255 183 (dk_at dksX13_borders_3 6 rfl rfl)
theorem dX13_borders_80 : decode cX13_borders 80 = .ok (.iload_n 2, 1) := dk_28 (dk_at dksX13_borders_3 9 rfl rfl)
theorem dX13_borders_81 : decode cX13_borders 81 = .ok (.invokestatic 142, 3) := dk_184 0 142 (dk_at dksX13_borders_3 10 rfl rfl)
theorem dX13_borders_84 : decode cX13_borders 84 = .ok (.ireturn, 1) := dk_172 (dk_at dksX13_borders_3 13 rfl rfl)
abbrev cX13_rule : ByteArray := prog_28_method_110_code
def yX13_rule : MethodName := ⟨RX13, "rule", "(II)I"⟩
def dkwX13_rule_4 : List UInt8 := [160, 0, 7, 4, 167, 0, 4, 3, 96, 62, 132, 4, 1, 167, 255, 223, 29, 172]
abbrev dktX13_rule_4 : List UInt8 := dkwX13_rule_4 ++ []
def dkwX13_rule_3 : List UInt8 := [62, 3, 54, 4, 21, 4, 42, 180, 0, 198, 162, 0, 30, 29, 42, 180, 0, 25, 7, 21, 4, 104, 46, 27]
abbrev dktX13_rule_3 : List UInt8 := dkwX13_rule_3 ++ dktX13_rule_4
def dkwX13_rule_2 : List UInt8 := [180, 0, 7, 6, 27, 96, 46, 172, 28, 6, 160, 0, 9, 42, 27, 182, 1, 70, 172, 42, 182, 1, 73, 3]
abbrev dktX13_rule_2 : List UInt8 := dkwX13_rule_2 ++ dktX13_rule_3
def dkwX13_rule_1 : List UInt8 := [172, 28, 5, 162, 0, 29, 28, 154, 0, 16, 42, 180, 0, 7, 5, 46, 27, 122, 4, 126, 167, 0, 11, 42]
abbrev dktX13_rule_1 : List UInt8 := dkwX13_rule_1 ++ dktX13_rule_2
def dkwX13_rule_0 : List UInt8 := [42, 3, 181, 0, 43, 27, 3, 7, 184, 0, 65, 153, 0, 12, 28, 3, 6, 184, 0, 65, 154, 0, 5, 2]
abbrev dktX13_rule_0 : List UInt8 := dkwX13_rule_0 ++ dktX13_rule_1
theorem dksX13_rule_0 : cX13_rule.data.toList.drop 0 = dktX13_rule_0 := by decide +kernel
theorem dksX13_rule_1 : cX13_rule.data.toList.drop 24 = dktX13_rule_1 := dk_seg dksX13_rule_0 24 rfl rfl
theorem dksX13_rule_2 : cX13_rule.data.toList.drop 48 = dktX13_rule_2 := dk_seg dksX13_rule_1 24 rfl rfl
theorem dksX13_rule_3 : cX13_rule.data.toList.drop 72 = dktX13_rule_3 := dk_seg dksX13_rule_2 24 rfl rfl
theorem dksX13_rule_4 : cX13_rule.data.toList.drop 96 = dktX13_rule_4 := dk_seg dksX13_rule_3 24 rfl rfl
theorem dX13_rule_0 : decode cX13_rule 0 = .ok (.aload_n 0, 1) := dk_42 (dk_at dksX13_rule_0 0 rfl rfl)
theorem dX13_rule_1 : decode cX13_rule 1 = .ok (.iconst 0, 1) := dk_3 (dk_at dksX13_rule_0 1 rfl rfl)
theorem dX13_rule_2 : decode cX13_rule 2 = .ok (.putfield 43, 3) := dk_181 0 43 (dk_at dksX13_rule_0 2 rfl rfl)
theorem dX13_rule_5 : decode cX13_rule 5 = .ok (.iload_n 1, 1) := dk_27 (dk_at dksX13_rule_0 5 rfl rfl)
theorem dX13_rule_6 : decode cX13_rule 6 = .ok (.iconst 0, 1) := dk_3 (dk_at dksX13_rule_0 6 rfl rfl)
theorem dX13_rule_7 : decode cX13_rule 7 = .ok (.iconst 4, 1) := dk_7 (dk_at dksX13_rule_0 7 rfl rfl)
theorem dX13_rule_8 : decode cX13_rule 8 = .ok (.invokestatic 65, 3) := dk_184 0 65 (dk_at dksX13_rule_0 8 rfl rfl)
theorem dX13_rule_11 : decode cX13_rule 11 = .ok (.ifCond .eq 12, 3) := dk_153 0 12 (dk_at dksX13_rule_0 11 rfl rfl)
theorem dX13_rule_14 : decode cX13_rule 14 = .ok (.iload_n 2, 1) := dk_28 (dk_at dksX13_rule_0 14 rfl rfl)
theorem dX13_rule_15 : decode cX13_rule 15 = .ok (.iconst 0, 1) := dk_3 (dk_at dksX13_rule_0 15 rfl rfl)
theorem dX13_rule_16 : decode cX13_rule 16 = .ok (.iconst 3, 1) := dk_6 (dk_at dksX13_rule_0 16 rfl rfl)
theorem dX13_rule_17 : decode cX13_rule 17 = .ok (.invokestatic 65, 3) := dk_184 0 65 (dk_at dksX13_rule_0 17 rfl rfl)
theorem dX13_rule_20 : decode cX13_rule 20 = .ok (.ifCond .ne 5, 3) := dk_154 0 5 (dk_at dksX13_rule_0 20 rfl rfl)
theorem dX13_rule_23 : decode cX13_rule 23 = .ok (.iconst (-1), 1) := dk_2 (dk_at dksX13_rule_0 23 rfl rfl)
theorem dX13_rule_24 : decode cX13_rule 24 = .ok (.ireturn, 1) := dk_172 (dk_at dksX13_rule_1 0 rfl rfl)
theorem dX13_rule_25 : decode cX13_rule 25 = .ok (.iload_n 2, 1) := dk_28 (dk_at dksX13_rule_1 1 rfl rfl)
theorem dX13_rule_26 : decode cX13_rule 26 = .ok (.iconst 2, 1) := dk_5 (dk_at dksX13_rule_1 2 rfl rfl)
theorem dX13_rule_27 : decode cX13_rule 27 = .ok (.if_icmp .ge 29, 3) := dk_162 0 29 (dk_at dksX13_rule_1 3 rfl rfl)
theorem dX13_rule_30 : decode cX13_rule 30 = .ok (.iload_n 2, 1) := dk_28 (dk_at dksX13_rule_1 6 rfl rfl)
theorem dX13_rule_31 : decode cX13_rule 31 = .ok (.ifCond .ne 16, 3) := dk_154 0 16 (dk_at dksX13_rule_1 7 rfl rfl)
theorem dX13_rule_34 : decode cX13_rule 34 = .ok (.aload_n 0, 1) := dk_42 (dk_at dksX13_rule_1 10 rfl rfl)
theorem dX13_rule_35 : decode cX13_rule 35 = .ok (.getfield 7, 3) := dk_180 0 7 (dk_at dksX13_rule_1 11 rfl rfl)
theorem dX13_rule_38 : decode cX13_rule 38 = .ok (.iconst 2, 1) := dk_5 (dk_at dksX13_rule_1 14 rfl rfl)
theorem dX13_rule_39 : decode cX13_rule 39 = .ok (.iaload, 1) := dk_46 (dk_at dksX13_rule_1 15 rfl rfl)
theorem dX13_rule_40 : decode cX13_rule 40 = .ok (.iload_n 1, 1) := dk_27 (dk_at dksX13_rule_1 16 rfl rfl)
theorem dX13_rule_41 : decode cX13_rule 41 = .ok (.ishr, 1) := dk_122 (dk_at dksX13_rule_1 17 rfl rfl)
theorem dX13_rule_42 : decode cX13_rule 42 = .ok (.iconst 1, 1) := dk_4 (dk_at dksX13_rule_1 18 rfl rfl)
theorem dX13_rule_43 : decode cX13_rule 43 = .ok (.iand, 1) := dk_126 (dk_at dksX13_rule_1 19 rfl rfl)
theorem dX13_rule_44 : decode cX13_rule 44 = .ok (.goto 11, 3) := dk_167 0 11 (dk_at dksX13_rule_1 20 rfl rfl)
theorem dX13_rule_47 : decode cX13_rule 47 = .ok (.aload_n 0, 1) := dk_42 (dk_at dksX13_rule_1 23 rfl rfl)
theorem dX13_rule_48 : decode cX13_rule 48 = .ok (.getfield 7, 3) := dk_180 0 7 (dk_at dksX13_rule_2 0 rfl rfl)
theorem dX13_rule_51 : decode cX13_rule 51 = .ok (.iconst 3, 1) := dk_6 (dk_at dksX13_rule_2 3 rfl rfl)
theorem dX13_rule_52 : decode cX13_rule 52 = .ok (.iload_n 1, 1) := dk_27 (dk_at dksX13_rule_2 4 rfl rfl)
theorem dX13_rule_53 : decode cX13_rule 53 = .ok (.iadd, 1) := dk_96 (dk_at dksX13_rule_2 5 rfl rfl)
theorem dX13_rule_54 : decode cX13_rule 54 = .ok (.iaload, 1) := dk_46 (dk_at dksX13_rule_2 6 rfl rfl)
theorem dX13_rule_55 : decode cX13_rule 55 = .ok (.ireturn, 1) := dk_172 (dk_at dksX13_rule_2 7 rfl rfl)
theorem dX13_rule_56 : decode cX13_rule 56 = .ok (.iload_n 2, 1) := dk_28 (dk_at dksX13_rule_2 8 rfl rfl)
theorem dX13_rule_57 : decode cX13_rule 57 = .ok (.iconst 3, 1) := dk_6 (dk_at dksX13_rule_2 9 rfl rfl)
theorem dX13_rule_58 : decode cX13_rule 58 = .ok (.if_icmp .ne 9, 3) := dk_160 0 9 (dk_at dksX13_rule_2 10 rfl rfl)
theorem dX13_rule_61 : decode cX13_rule 61 = .ok (.aload_n 0, 1) := dk_42 (dk_at dksX13_rule_2 13 rfl rfl)
theorem dX13_rule_62 : decode cX13_rule 62 = .ok (.iload_n 1, 1) := dk_27 (dk_at dksX13_rule_2 14 rfl rfl)
theorem dX13_rule_63 : decode cX13_rule 63 = .ok (.invokevirtual 326, 3) := dk_182 1 70 (dk_at dksX13_rule_2 15 rfl rfl)
theorem dX13_rule_66 : decode cX13_rule 66 = .ok (.ireturn, 1) := dk_172 (dk_at dksX13_rule_2 18 rfl rfl)
theorem dX13_rule_67 : decode cX13_rule 67 = .ok (.aload_n 0, 1) := dk_42 (dk_at dksX13_rule_2 19 rfl rfl)
theorem dX13_rule_68 : decode cX13_rule 68 = .ok (.invokevirtual 329, 3) := dk_182 1 73 (dk_at dksX13_rule_2 20 rfl rfl)
theorem dX13_rule_71 : decode cX13_rule 71 = .ok (.iconst 0, 1) := dk_3 (dk_at dksX13_rule_2 23 rfl rfl)
theorem dX13_rule_72 : decode cX13_rule 72 = .ok (.istore_n 3, 1) := dk_62 (dk_at dksX13_rule_3 0 rfl rfl)
theorem dX13_rule_73 : decode cX13_rule 73 = .ok (.iconst 0, 1) := dk_3 (dk_at dksX13_rule_3 1 rfl rfl)
theorem dX13_rule_74 : decode cX13_rule 74 = .ok (.istore 4, 2) := dk_54 4 (dk_at dksX13_rule_3 2 rfl rfl)
theorem dX13_rule_76 : decode cX13_rule 76 = .ok (.iload 4, 2) := dk_21 4 (dk_at dksX13_rule_3 4 rfl rfl)
theorem dX13_rule_78 : decode cX13_rule 78 = .ok (.aload_n 0, 1) := dk_42 (dk_at dksX13_rule_3 6 rfl rfl)
theorem dX13_rule_79 : decode cX13_rule 79 = .ok (.getfield 198, 3) := dk_180 0 198 (dk_at dksX13_rule_3 7 rfl rfl)
theorem dX13_rule_82 : decode cX13_rule 82 = .ok (.if_icmp .ge 30, 3) := dk_162 0 30 (dk_at dksX13_rule_3 10 rfl rfl)
theorem dX13_rule_85 : decode cX13_rule 85 = .ok (.iload_n 3, 1) := dk_29 (dk_at dksX13_rule_3 13 rfl rfl)
theorem dX13_rule_86 : decode cX13_rule 86 = .ok (.aload_n 0, 1) := dk_42 (dk_at dksX13_rule_3 14 rfl rfl)
theorem dX13_rule_87 : decode cX13_rule 87 = .ok (.getfield 25, 3) := dk_180 0 25 (dk_at dksX13_rule_3 15 rfl rfl)
theorem dX13_rule_90 : decode cX13_rule 90 = .ok (.iconst 4, 1) := dk_7 (dk_at dksX13_rule_3 18 rfl rfl)
theorem dX13_rule_91 : decode cX13_rule 91 = .ok (.iload 4, 2) := dk_21 4 (dk_at dksX13_rule_3 19 rfl rfl)
theorem dX13_rule_93 : decode cX13_rule 93 = .ok (.imul, 1) := dk_104 (dk_at dksX13_rule_3 21 rfl rfl)
theorem dX13_rule_94 : decode cX13_rule 94 = .ok (.iaload, 1) := dk_46 (dk_at dksX13_rule_3 22 rfl rfl)
theorem dX13_rule_95 : decode cX13_rule 95 = .ok (.iload_n 1, 1) := dk_27 (dk_at dksX13_rule_3 23 rfl rfl)
theorem dX13_rule_96 : decode cX13_rule 96 = .ok (.if_icmp .ne 7, 3) := dk_160 0 7 (dk_at dksX13_rule_4 0 rfl rfl)
theorem dX13_rule_99 : decode cX13_rule 99 = .ok (.iconst 1, 1) := dk_4 (dk_at dksX13_rule_4 3 rfl rfl)
theorem dX13_rule_100 : decode cX13_rule 100 = .ok (.goto 4, 3) := dk_167 0 4 (dk_at dksX13_rule_4 4 rfl rfl)
theorem dX13_rule_103 : decode cX13_rule 103 = .ok (.iconst 0, 1) := dk_3 (dk_at dksX13_rule_4 7 rfl rfl)
theorem dX13_rule_104 : decode cX13_rule 104 = .ok (.iadd, 1) := dk_96 (dk_at dksX13_rule_4 8 rfl rfl)
theorem dX13_rule_105 : decode cX13_rule 105 = .ok (.istore_n 3, 1) := dk_62 (dk_at dksX13_rule_4 9 rfl rfl)
theorem dX13_rule_106 : decode cX13_rule 106 = .ok (.iinc 4 1, 3) := dk_132 4 1 (dk_at dksX13_rule_4 10 rfl rfl)
theorem dX13_rule_109 : decode cX13_rule 109 = .ok (.goto (-33), 3) := dk_167 255 223 (dk_at dksX13_rule_4 13 rfl rfl)
theorem dX13_rule_112 : decode cX13_rule 112 = .ok (.iload_n 3, 1) := dk_29 (dk_at dksX13_rule_4 16 rfl rfl)
theorem dX13_rule_113 : decode cX13_rule 113 = .ok (.ireturn, 1) := dk_172 (dk_at dksX13_rule_4 17 rfl rfl)
abbrev cX13_strikesBy : ByteArray := prog_28_method_109_code
def yX13_strikesBy : MethodName := ⟨RX13, "strikesBy", "(I)I"⟩
def dkwX13_strikesBy_3 : List UInt8 := [167, 255, 211, 132, 3, 1, 167, 255, 187, 28, 172]
abbrev dktX13_strikesBy_3 : List UInt8 := dkwX13_strikesBy_3 ++ []
def dkwX13_strikesBy_2 : List UInt8 := [42, 27, 29, 21, 4, 182, 0, 183, 16, 157, 159, 0, 7, 4, 167, 0, 4, 3, 96, 61, 132, 4, 1]
abbrev dktX13_strikesBy_2 : List UInt8 := dkwX13_strikesBy_2 ++ dktX13_strikesBy_3
def dkwX13_strikesBy_1 : List UInt8 := [54, 4, 21, 4, 16, 6, 163, 0, 44, 28, 42, 180, 0, 22, 29, 46, 21, 4, 184, 0, 54, 153, 0, 20]
abbrev dktX13_strikesBy_1 : List UInt8 := dkwX13_strikesBy_1 ++ dktX13_strikesBy_2
def dkwX13_strikesBy_0 : List UInt8 := [42, 182, 0, 237, 3, 61, 3, 62, 29, 42, 182, 0, 61, 162, 0, 67, 42, 182, 0, 145, 154, 0, 60, 4]
abbrev dktX13_strikesBy_0 : List UInt8 := dkwX13_strikesBy_0 ++ dktX13_strikesBy_1
theorem dksX13_strikesBy_0 : cX13_strikesBy.data.toList.drop 0 = dktX13_strikesBy_0 := by decide +kernel
theorem dksX13_strikesBy_1 : cX13_strikesBy.data.toList.drop 24 = dktX13_strikesBy_1 := dk_seg dksX13_strikesBy_0 24 rfl rfl
theorem dksX13_strikesBy_2 : cX13_strikesBy.data.toList.drop 48 = dktX13_strikesBy_2 := dk_seg dksX13_strikesBy_1 24 rfl rfl
theorem dksX13_strikesBy_3 : cX13_strikesBy.data.toList.drop 71 = dktX13_strikesBy_3 := dk_seg dksX13_strikesBy_2 23 rfl rfl
theorem dX13_strikesBy_0 : decode cX13_strikesBy 0 = .ok (.aload_n 0, 1) := dk_42 (dk_at dksX13_strikesBy_0 0 rfl rfl)
theorem dX13_strikesBy_1 : decode cX13_strikesBy 1 = .ok (.invokevirtual 237, 3) := dk_182 0 237 (dk_at dksX13_strikesBy_0 1 rfl rfl)
theorem dX13_strikesBy_4 : decode cX13_strikesBy 4 = .ok (.iconst 0, 1) := dk_3 (dk_at dksX13_strikesBy_0 4 rfl rfl)
theorem dX13_strikesBy_5 : decode cX13_strikesBy 5 = .ok (.istore_n 2, 1) := dk_61 (dk_at dksX13_strikesBy_0 5 rfl rfl)
theorem dX13_strikesBy_6 : decode cX13_strikesBy 6 = .ok (.iconst 0, 1) := dk_3 (dk_at dksX13_strikesBy_0 6 rfl rfl)
theorem dX13_strikesBy_7 : decode cX13_strikesBy 7 = .ok (.istore_n 3, 1) := dk_62 (dk_at dksX13_strikesBy_0 7 rfl rfl)
theorem dX13_strikesBy_8 : decode cX13_strikesBy 8 = .ok (.iload_n 3, 1) := dk_29 (dk_at dksX13_strikesBy_0 8 rfl rfl)
theorem dX13_strikesBy_9 : decode cX13_strikesBy 9 = .ok (.aload_n 0, 1) := dk_42 (dk_at dksX13_strikesBy_0 9 rfl rfl)
theorem dX13_strikesBy_10 : decode cX13_strikesBy 10 = .ok (.invokevirtual 61, 3) := dk_182 0 61 (dk_at dksX13_strikesBy_0 10 rfl rfl)
theorem dX13_strikesBy_13 : decode cX13_strikesBy 13 = .ok (.if_icmp .ge 67, 3) := dk_162 0 67 (dk_at dksX13_strikesBy_0 13 rfl rfl)
theorem dX13_strikesBy_16 : decode cX13_strikesBy 16 = .ok (.aload_n 0, 1) := dk_42 (dk_at dksX13_strikesBy_0 16 rfl rfl)
theorem dX13_strikesBy_17 : decode cX13_strikesBy 17 = .ok (.invokevirtual 145, 3) := dk_182 0 145 (dk_at dksX13_strikesBy_0 17 rfl rfl)
theorem dX13_strikesBy_20 : decode cX13_strikesBy 20 = .ok (.ifCond .ne 60, 3) := dk_154 0 60 (dk_at dksX13_strikesBy_0 20 rfl rfl)
theorem dX13_strikesBy_23 : decode cX13_strikesBy 23 = .ok (.iconst 1, 1) := dk_4 (dk_at dksX13_strikesBy_0 23 rfl rfl)
theorem dX13_strikesBy_24 : decode cX13_strikesBy 24 = .ok (.istore 4, 2) := dk_54 4 (dk_at dksX13_strikesBy_1 0 rfl rfl)
theorem dX13_strikesBy_26 : decode cX13_strikesBy 26 = .ok (.iload 4, 2) := dk_21 4 (dk_at dksX13_strikesBy_1 2 rfl rfl)
theorem dX13_strikesBy_28 : decode cX13_strikesBy 28 = .ok (.bipush 6, 2) := dk_16 6 (dk_at dksX13_strikesBy_1 4 rfl rfl)
theorem dX13_strikesBy_30 : decode cX13_strikesBy 30 = .ok (.if_icmp .gt 44, 3) := dk_163 0 44 (dk_at dksX13_strikesBy_1 6 rfl rfl)
theorem dX13_strikesBy_33 : decode cX13_strikesBy 33 = .ok (.iload_n 2, 1) := dk_28 (dk_at dksX13_strikesBy_1 9 rfl rfl)
theorem dX13_strikesBy_34 : decode cX13_strikesBy 34 = .ok (.aload_n 0, 1) := dk_42 (dk_at dksX13_strikesBy_1 10 rfl rfl)
theorem dX13_strikesBy_35 : decode cX13_strikesBy 35 = .ok (.getfield 22, 3) := dk_180 0 22 (dk_at dksX13_strikesBy_1 11 rfl rfl)
theorem dX13_strikesBy_38 : decode cX13_strikesBy 38 = .ok (.iload_n 3, 1) := dk_29 (dk_at dksX13_strikesBy_1 14 rfl rfl)
theorem dX13_strikesBy_39 : decode cX13_strikesBy 39 = .ok (.iaload, 1) := dk_46 (dk_at dksX13_strikesBy_1 15 rfl rfl)
theorem dX13_strikesBy_40 : decode cX13_strikesBy 40 = .ok (.iload 4, 2) := dk_21 4 (dk_at dksX13_strikesBy_1 16 rfl rfl)
theorem dX13_strikesBy_42 : decode cX13_strikesBy 42 = .ok (.invokestatic 54, 3) := dk_184 0 54 (dk_at dksX13_strikesBy_1 18 rfl rfl)
theorem dX13_strikesBy_45 : decode cX13_strikesBy 45 = .ok (.ifCond .eq 20, 3) := dk_153 0 20 (dk_at dksX13_strikesBy_1 21 rfl rfl)
theorem dX13_strikesBy_48 : decode cX13_strikesBy 48 = .ok (.aload_n 0, 1) := dk_42 (dk_at dksX13_strikesBy_2 0 rfl rfl)
theorem dX13_strikesBy_49 : decode cX13_strikesBy 49 = .ok (.iload_n 1, 1) := dk_27 (dk_at dksX13_strikesBy_2 1 rfl rfl)
theorem dX13_strikesBy_50 : decode cX13_strikesBy 50 = .ok (.iload_n 3, 1) := dk_29 (dk_at dksX13_strikesBy_2 2 rfl rfl)
theorem dX13_strikesBy_51 : decode cX13_strikesBy 51 = .ok (.iload 4, 2) := dk_21 4 (dk_at dksX13_strikesBy_2 3 rfl rfl)
theorem dX13_strikesBy_53 : decode cX13_strikesBy 53 = .ok (.invokevirtual 183, 3) := dk_182 0 183 (dk_at dksX13_strikesBy_2 5 rfl rfl)
theorem dX13_strikesBy_56 : decode cX13_strikesBy 56 = .ok (.bipush (-99), 2) := dk_16 157 (dk_at dksX13_strikesBy_2 8 rfl rfl)
theorem dX13_strikesBy_58 : decode cX13_strikesBy 58 = .ok (.if_icmp .eq 7, 3) := dk_159 0 7 (dk_at dksX13_strikesBy_2 10 rfl rfl)
theorem dX13_strikesBy_61 : decode cX13_strikesBy 61 = .ok (.iconst 1, 1) := dk_4 (dk_at dksX13_strikesBy_2 13 rfl rfl)
theorem dX13_strikesBy_62 : decode cX13_strikesBy 62 = .ok (.goto 4, 3) := dk_167 0 4 (dk_at dksX13_strikesBy_2 14 rfl rfl)
theorem dX13_strikesBy_65 : decode cX13_strikesBy 65 = .ok (.iconst 0, 1) := dk_3 (dk_at dksX13_strikesBy_2 17 rfl rfl)
theorem dX13_strikesBy_66 : decode cX13_strikesBy 66 = .ok (.iadd, 1) := dk_96 (dk_at dksX13_strikesBy_2 18 rfl rfl)
theorem dX13_strikesBy_67 : decode cX13_strikesBy 67 = .ok (.istore_n 2, 1) := dk_61 (dk_at dksX13_strikesBy_2 19 rfl rfl)
theorem dX13_strikesBy_68 : decode cX13_strikesBy 68 = .ok (.iinc 4 1, 3) := dk_132 4 1 (dk_at dksX13_strikesBy_2 20 rfl rfl)
theorem dX13_strikesBy_71 : decode cX13_strikesBy 71 = .ok (.goto (-45), 3) := dk_167 255 211 (dk_at dksX13_strikesBy_3 0 rfl rfl)
theorem dX13_strikesBy_74 : decode cX13_strikesBy 74 = .ok (.iinc 3 1, 3) := dk_132 3 1 (dk_at dksX13_strikesBy_3 3 rfl rfl)
theorem dX13_strikesBy_77 : decode cX13_strikesBy 77 = .ok (.goto (-69), 3) := dk_167 255 187 (dk_at dksX13_strikesBy_3 6 rfl rfl)
theorem dX13_strikesBy_80 : decode cX13_strikesBy 80 = .ok (.iload_n 2, 1) := dk_28 (dk_at dksX13_strikesBy_3 9 rfl rfl)
theorem dX13_strikesBy_81 : decode cX13_strikesBy 81 = .ok (.ireturn, 1) := dk_172 (dk_at dksX13_strikesBy_3 10 rfl rfl)
abbrev cX13_goThrough : ByteArray := prog_28_method_63_code
def yX13_goThrough : MethodName := ⟨RX13, "goThrough", "()V"⟩
def dkwX13_goThrough_0 : List UInt8 := [42, 182, 0, 139, 42, 42, 180, 0, 7, 5, 46, 182, 0, 204, 177]
abbrev dktX13_goThrough_0 : List UInt8 := dkwX13_goThrough_0 ++ []
theorem dksX13_goThrough_0 : cX13_goThrough.data.toList.drop 0 = dktX13_goThrough_0 := by decide +kernel
theorem dX13_goThrough_0 : decode cX13_goThrough 0 = .ok (.aload_n 0, 1) := dk_42 (dk_at dksX13_goThrough_0 0 rfl rfl)
theorem dX13_goThrough_1 : decode cX13_goThrough 1 = .ok (.invokevirtual 139, 3) := dk_182 0 139 (dk_at dksX13_goThrough_0 1 rfl rfl)
theorem dX13_goThrough_4 : decode cX13_goThrough 4 = .ok (.aload_n 0, 1) := dk_42 (dk_at dksX13_goThrough_0 4 rfl rfl)
theorem dX13_goThrough_5 : decode cX13_goThrough 5 = .ok (.aload_n 0, 1) := dk_42 (dk_at dksX13_goThrough_0 5 rfl rfl)
theorem dX13_goThrough_6 : decode cX13_goThrough 6 = .ok (.getfield 7, 3) := dk_180 0 7 (dk_at dksX13_goThrough_0 6 rfl rfl)
theorem dX13_goThrough_9 : decode cX13_goThrough 9 = .ok (.iconst 2, 1) := dk_5 (dk_at dksX13_goThrough_0 9 rfl rfl)
theorem dX13_goThrough_10 : decode cX13_goThrough 10 = .ok (.iaload, 1) := dk_46 (dk_at dksX13_goThrough_0 10 rfl rfl)
theorem dX13_goThrough_11 : decode cX13_goThrough 11 = .ok (.invokevirtual 204, 3) := dk_182 0 204 (dk_at dksX13_goThrough_0 11 rfl rfl)
theorem dX13_goThrough_14 : decode cX13_goThrough 14 = .ok (.return_, 1) := dk_177 (dk_at dksX13_goThrough_0 14 rfl rfl)
abbrev cX13_possible : ByteArray := prog_28_method_111_code
def yX13_possible : MethodName := ⟨RX13, "possible", "(II)I"⟩
def dkwX13_possible_1 : List UInt8 := [122, 4, 126, 167, 0, 4, 2, 172]
abbrev dktX13_possible_1 : List UInt8 := dkwX13_possible_1 ++ []
def dkwX13_possible_0 : List UInt8 := [42, 3, 181, 0, 43, 42, 27, 28, 182, 0, 234, 153, 0, 19, 42, 180, 0, 7, 16, 93, 27, 96, 46, 28]
abbrev dktX13_possible_0 : List UInt8 := dkwX13_possible_0 ++ dktX13_possible_1
theorem dksX13_possible_0 : cX13_possible.data.toList.drop 0 = dktX13_possible_0 := by decide +kernel
theorem dksX13_possible_1 : cX13_possible.data.toList.drop 24 = dktX13_possible_1 := dk_seg dksX13_possible_0 24 rfl rfl
theorem dX13_possible_0 : decode cX13_possible 0 = .ok (.aload_n 0, 1) := dk_42 (dk_at dksX13_possible_0 0 rfl rfl)
theorem dX13_possible_1 : decode cX13_possible 1 = .ok (.iconst 0, 1) := dk_3 (dk_at dksX13_possible_0 1 rfl rfl)
theorem dX13_possible_2 : decode cX13_possible 2 = .ok (.putfield 43, 3) := dk_181 0 43 (dk_at dksX13_possible_0 2 rfl rfl)
theorem dX13_possible_5 : decode cX13_possible 5 = .ok (.aload_n 0, 1) := dk_42 (dk_at dksX13_possible_0 5 rfl rfl)
theorem dX13_possible_6 : decode cX13_possible 6 = .ok (.iload_n 1, 1) := dk_27 (dk_at dksX13_possible_0 6 rfl rfl)
theorem dX13_possible_7 : decode cX13_possible 7 = .ok (.iload_n 2, 1) := dk_28 (dk_at dksX13_possible_0 7 rfl rfl)
theorem dX13_possible_8 : decode cX13_possible 8 = .ok (.invokevirtual 234, 3) := dk_182 0 234 (dk_at dksX13_possible_0 8 rfl rfl)
theorem dX13_possible_11 : decode cX13_possible 11 = .ok (.ifCond .eq 19, 3) := dk_153 0 19 (dk_at dksX13_possible_0 11 rfl rfl)
theorem dX13_possible_14 : decode cX13_possible 14 = .ok (.aload_n 0, 1) := dk_42 (dk_at dksX13_possible_0 14 rfl rfl)
theorem dX13_possible_15 : decode cX13_possible 15 = .ok (.getfield 7, 3) := dk_180 0 7 (dk_at dksX13_possible_0 15 rfl rfl)
theorem dX13_possible_18 : decode cX13_possible 18 = .ok (.bipush 93, 2) := dk_16 93 (dk_at dksX13_possible_0 18 rfl rfl)
theorem dX13_possible_20 : decode cX13_possible 20 = .ok (.iload_n 1, 1) := dk_27 (dk_at dksX13_possible_0 20 rfl rfl)
theorem dX13_possible_21 : decode cX13_possible 21 = .ok (.iadd, 1) := dk_96 (dk_at dksX13_possible_0 21 rfl rfl)
theorem dX13_possible_22 : decode cX13_possible 22 = .ok (.iaload, 1) := dk_46 (dk_at dksX13_possible_0 22 rfl rfl)
theorem dX13_possible_23 : decode cX13_possible 23 = .ok (.iload_n 2, 1) := dk_28 (dk_at dksX13_possible_0 23 rfl rfl)
theorem dX13_possible_24 : decode cX13_possible 24 = .ok (.ishr, 1) := dk_122 (dk_at dksX13_possible_1 0 rfl rfl)
theorem dX13_possible_25 : decode cX13_possible 25 = .ok (.iconst 1, 1) := dk_4 (dk_at dksX13_possible_1 1 rfl rfl)
theorem dX13_possible_26 : decode cX13_possible 26 = .ok (.iand, 1) := dk_126 (dk_at dksX13_possible_1 2 rfl rfl)
theorem dX13_possible_27 : decode cX13_possible 27 = .ok (.goto 4, 3) := dk_167 0 4 (dk_at dksX13_possible_1 3 rfl rfl)
theorem dX13_possible_30 : decode cX13_possible 30 = .ok (.iconst (-1), 1) := dk_2 (dk_at dksX13_possible_1 6 rfl rfl)
theorem dX13_possible_31 : decode cX13_possible 31 = .ok (.ireturn, 1) := dk_172 (dk_at dksX13_possible_1 7 rfl rfl)
abbrev cX13_why : ByteArray := prog_28_method_112_code
def yX13_why : MethodName := ⟨RX13, "why", "(III)I"⟩
def dkwX13_why_2 : List UInt8 := [21, 4, 167, 0, 7, 42, 180, 0, 195, 172]
abbrev dktX13_why_2 : List UInt8 := dkwX13_why_2 ++ []
def dkwX13_why_1 : List UInt8 := [172, 42, 182, 0, 237, 42, 27, 28, 182, 0, 240, 54, 4, 21, 4, 16, 157, 159, 0, 7, 29, 154, 0, 8]
abbrev dktX13_why_1 : List UInt8 := dkwX13_why_1 ++ dktX13_why_2
def dkwX13_why_0 : List UInt8 := [42, 3, 181, 0, 43, 42, 27, 28, 182, 0, 234, 153, 0, 12, 29, 3, 4, 184, 0, 65, 154, 0, 5, 2]
abbrev dktX13_why_0 : List UInt8 := dkwX13_why_0 ++ dktX13_why_1
theorem dksX13_why_0 : cX13_why.data.toList.drop 0 = dktX13_why_0 := by decide +kernel
theorem dksX13_why_1 : cX13_why.data.toList.drop 24 = dktX13_why_1 := dk_seg dksX13_why_0 24 rfl rfl
theorem dksX13_why_2 : cX13_why.data.toList.drop 48 = dktX13_why_2 := dk_seg dksX13_why_1 24 rfl rfl
theorem dX13_why_0 : decode cX13_why 0 = .ok (.aload_n 0, 1) := dk_42 (dk_at dksX13_why_0 0 rfl rfl)
theorem dX13_why_1 : decode cX13_why 1 = .ok (.iconst 0, 1) := dk_3 (dk_at dksX13_why_0 1 rfl rfl)
theorem dX13_why_2 : decode cX13_why 2 = .ok (.putfield 43, 3) := dk_181 0 43 (dk_at dksX13_why_0 2 rfl rfl)
theorem dX13_why_5 : decode cX13_why 5 = .ok (.aload_n 0, 1) := dk_42 (dk_at dksX13_why_0 5 rfl rfl)
theorem dX13_why_6 : decode cX13_why 6 = .ok (.iload_n 1, 1) := dk_27 (dk_at dksX13_why_0 6 rfl rfl)
theorem dX13_why_7 : decode cX13_why 7 = .ok (.iload_n 2, 1) := dk_28 (dk_at dksX13_why_0 7 rfl rfl)
theorem dX13_why_8 : decode cX13_why 8 = .ok (.invokevirtual 234, 3) := dk_182 0 234 (dk_at dksX13_why_0 8 rfl rfl)
theorem dX13_why_11 : decode cX13_why 11 = .ok (.ifCond .eq 12, 3) := dk_153 0 12 (dk_at dksX13_why_0 11 rfl rfl)
theorem dX13_why_14 : decode cX13_why 14 = .ok (.iload_n 3, 1) := dk_29 (dk_at dksX13_why_0 14 rfl rfl)
theorem dX13_why_15 : decode cX13_why 15 = .ok (.iconst 0, 1) := dk_3 (dk_at dksX13_why_0 15 rfl rfl)
theorem dX13_why_16 : decode cX13_why 16 = .ok (.iconst 1, 1) := dk_4 (dk_at dksX13_why_0 16 rfl rfl)
theorem dX13_why_17 : decode cX13_why 17 = .ok (.invokestatic 65, 3) := dk_184 0 65 (dk_at dksX13_why_0 17 rfl rfl)
theorem dX13_why_20 : decode cX13_why 20 = .ok (.ifCond .ne 5, 3) := dk_154 0 5 (dk_at dksX13_why_0 20 rfl rfl)
theorem dX13_why_23 : decode cX13_why 23 = .ok (.iconst (-1), 1) := dk_2 (dk_at dksX13_why_0 23 rfl rfl)
theorem dX13_why_24 : decode cX13_why 24 = .ok (.ireturn, 1) := dk_172 (dk_at dksX13_why_1 0 rfl rfl)
theorem dX13_why_25 : decode cX13_why 25 = .ok (.aload_n 0, 1) := dk_42 (dk_at dksX13_why_1 1 rfl rfl)
theorem dX13_why_26 : decode cX13_why 26 = .ok (.invokevirtual 237, 3) := dk_182 0 237 (dk_at dksX13_why_1 2 rfl rfl)
theorem dX13_why_29 : decode cX13_why 29 = .ok (.aload_n 0, 1) := dk_42 (dk_at dksX13_why_1 5 rfl rfl)
theorem dX13_why_30 : decode cX13_why 30 = .ok (.iload_n 1, 1) := dk_27 (dk_at dksX13_why_1 6 rfl rfl)
theorem dX13_why_31 : decode cX13_why 31 = .ok (.iload_n 2, 1) := dk_28 (dk_at dksX13_why_1 7 rfl rfl)
theorem dX13_why_32 : decode cX13_why 32 = .ok (.invokevirtual 240, 3) := dk_182 0 240 (dk_at dksX13_why_1 8 rfl rfl)
theorem dX13_why_35 : decode cX13_why 35 = .ok (.istore 4, 2) := dk_54 4 (dk_at dksX13_why_1 11 rfl rfl)
theorem dX13_why_37 : decode cX13_why 37 = .ok (.iload 4, 2) := dk_21 4 (dk_at dksX13_why_1 13 rfl rfl)
theorem dX13_why_39 : decode cX13_why 39 = .ok (.bipush (-99), 2) := dk_16 157 (dk_at dksX13_why_1 15 rfl rfl)
theorem dX13_why_41 : decode cX13_why 41 = .ok (.if_icmp .eq 7, 3) := dk_159 0 7 (dk_at dksX13_why_1 17 rfl rfl)
theorem dX13_why_44 : decode cX13_why 44 = .ok (.iload_n 3, 1) := dk_29 (dk_at dksX13_why_1 20 rfl rfl)
theorem dX13_why_45 : decode cX13_why 45 = .ok (.ifCond .ne 8, 3) := dk_154 0 8 (dk_at dksX13_why_1 21 rfl rfl)
theorem dX13_why_48 : decode cX13_why 48 = .ok (.iload 4, 2) := dk_21 4 (dk_at dksX13_why_2 0 rfl rfl)
theorem dX13_why_50 : decode cX13_why 50 = .ok (.goto 7, 3) := dk_167 0 7 (dk_at dksX13_why_2 2 rfl rfl)
theorem dX13_why_53 : decode cX13_why 53 = .ok (.aload_n 0, 1) := dk_42 (dk_at dksX13_why_2 5 rfl rfl)
theorem dX13_why_54 : decode cX13_why 54 = .ok (.getfield 195, 3) := dk_180 0 195 (dk_at dksX13_why_2 6 rfl rfl)
theorem dX13_why_57 : decode cX13_why 57 = .ok (.ireturn, 1) := dk_172 (dk_at dksX13_why_2 9 rfl rfl)
abbrev cX13_next : ByteArray := prog_28_method_114_code
def yX13_next : MethodName := ⟨RX13, "next", "(I)I"⟩
def dkwX13_next_1 : List UInt8 := [180, 0, 7, 5, 46, 182, 0, 201, 153, 0, 11, 42, 27, 182, 1, 76, 167, 0, 5, 16, 157, 172]
abbrev dktX13_next_1 : List UInt8 := dkwX13_next_1 ++ []
def dkwX13_next_0 : List UInt8 := [42, 3, 181, 0, 43, 27, 3, 6, 184, 0, 65, 154, 0, 5, 2, 172, 42, 182, 0, 237, 42, 42]
abbrev dktX13_next_0 : List UInt8 := dkwX13_next_0 ++ dktX13_next_1
theorem dksX13_next_0 : cX13_next.data.toList.drop 0 = dktX13_next_0 := by decide +kernel
theorem dksX13_next_1 : cX13_next.data.toList.drop 22 = dktX13_next_1 := dk_seg dksX13_next_0 22 rfl rfl
theorem dX13_next_0 : decode cX13_next 0 = .ok (.aload_n 0, 1) := dk_42 (dk_at dksX13_next_0 0 rfl rfl)
theorem dX13_next_1 : decode cX13_next 1 = .ok (.iconst 0, 1) := dk_3 (dk_at dksX13_next_0 1 rfl rfl)
theorem dX13_next_2 : decode cX13_next 2 = .ok (.putfield 43, 3) := dk_181 0 43 (dk_at dksX13_next_0 2 rfl rfl)
theorem dX13_next_5 : decode cX13_next 5 = .ok (.iload_n 1, 1) := dk_27 (dk_at dksX13_next_0 5 rfl rfl)
theorem dX13_next_6 : decode cX13_next 6 = .ok (.iconst 0, 1) := dk_3 (dk_at dksX13_next_0 6 rfl rfl)
theorem dX13_next_7 : decode cX13_next 7 = .ok (.iconst 3, 1) := dk_6 (dk_at dksX13_next_0 7 rfl rfl)
theorem dX13_next_8 : decode cX13_next 8 = .ok (.invokestatic 65, 3) := dk_184 0 65 (dk_at dksX13_next_0 8 rfl rfl)
theorem dX13_next_11 : decode cX13_next 11 = .ok (.ifCond .ne 5, 3) := dk_154 0 5 (dk_at dksX13_next_0 11 rfl rfl)
theorem dX13_next_14 : decode cX13_next 14 = .ok (.iconst (-1), 1) := dk_2 (dk_at dksX13_next_0 14 rfl rfl)
theorem dX13_next_15 : decode cX13_next 15 = .ok (.ireturn, 1) := dk_172 (dk_at dksX13_next_0 15 rfl rfl)
theorem dX13_next_16 : decode cX13_next 16 = .ok (.aload_n 0, 1) := dk_42 (dk_at dksX13_next_0 16 rfl rfl)
theorem dX13_next_17 : decode cX13_next 17 = .ok (.invokevirtual 237, 3) := dk_182 0 237 (dk_at dksX13_next_0 17 rfl rfl)
theorem dX13_next_20 : decode cX13_next 20 = .ok (.aload_n 0, 1) := dk_42 (dk_at dksX13_next_0 20 rfl rfl)
theorem dX13_next_21 : decode cX13_next 21 = .ok (.aload_n 0, 1) := dk_42 (dk_at dksX13_next_0 21 rfl rfl)
theorem dX13_next_22 : decode cX13_next 22 = .ok (.getfield 7, 3) := dk_180 0 7 (dk_at dksX13_next_1 0 rfl rfl)
theorem dX13_next_25 : decode cX13_next 25 = .ok (.iconst 2, 1) := dk_5 (dk_at dksX13_next_1 3 rfl rfl)
theorem dX13_next_26 : decode cX13_next 26 = .ok (.iaload, 1) := dk_46 (dk_at dksX13_next_1 4 rfl rfl)
theorem dX13_next_27 : decode cX13_next 27 = .ok (.invokevirtual 201, 3) := dk_182 0 201 (dk_at dksX13_next_1 5 rfl rfl)
theorem dX13_next_30 : decode cX13_next 30 = .ok (.ifCond .eq 11, 3) := dk_153 0 11 (dk_at dksX13_next_1 8 rfl rfl)
theorem dX13_next_33 : decode cX13_next 33 = .ok (.aload_n 0, 1) := dk_42 (dk_at dksX13_next_1 11 rfl rfl)
theorem dX13_next_34 : decode cX13_next 34 = .ok (.iload_n 1, 1) := dk_27 (dk_at dksX13_next_1 12 rfl rfl)
theorem dX13_next_35 : decode cX13_next 35 = .ok (.invokevirtual 332, 3) := dk_182 1 76 (dk_at dksX13_next_1 13 rfl rfl)
theorem dX13_next_38 : decode cX13_next 38 = .ok (.goto 5, 3) := dk_167 0 5 (dk_at dksX13_next_1 16 rfl rfl)
theorem dX13_next_41 : decode cX13_next 41 = .ok (.bipush (-99), 2) := dk_16 157 (dk_at dksX13_next_1 19 rfl rfl)
theorem dX13_next_43 : decode cX13_next 43 = .ok (.ireturn, 1) := dk_172 (dk_at dksX13_next_1 21 rfl rfl)
abbrev cX13_partOf : ByteArray := prog_28_method_113_code
def yX13_partOf : MethodName := ⟨RX13, "partOf", "(I)I"⟩
def dkwX13_partOf_1 : List UInt8 := [5, 160, 0, 10, 42, 180, 0, 192, 167, 0, 7, 42, 180, 0, 195, 172]
abbrev dktX13_partOf_1 : List UInt8 := dkwX13_partOf_1 ++ []
def dkwX13_partOf_0 : List UInt8 := [27, 154, 0, 10, 42, 180, 0, 186, 167, 0, 31, 27, 4, 160, 0, 10, 42, 180, 0, 189, 167, 0, 19, 27]
abbrev dktX13_partOf_0 : List UInt8 := dkwX13_partOf_0 ++ dktX13_partOf_1
theorem dksX13_partOf_0 : cX13_partOf.data.toList.drop 0 = dktX13_partOf_0 := by decide +kernel
theorem dksX13_partOf_1 : cX13_partOf.data.toList.drop 24 = dktX13_partOf_1 := dk_seg dksX13_partOf_0 24 rfl rfl
theorem dX13_partOf_0 : decode cX13_partOf 0 = .ok (.iload_n 1, 1) := dk_27 (dk_at dksX13_partOf_0 0 rfl rfl)
theorem dX13_partOf_1 : decode cX13_partOf 1 = .ok (.ifCond .ne 10, 3) := dk_154 0 10 (dk_at dksX13_partOf_0 1 rfl rfl)
theorem dX13_partOf_4 : decode cX13_partOf 4 = .ok (.aload_n 0, 1) := dk_42 (dk_at dksX13_partOf_0 4 rfl rfl)
theorem dX13_partOf_5 : decode cX13_partOf 5 = .ok (.getfield 186, 3) := dk_180 0 186 (dk_at dksX13_partOf_0 5 rfl rfl)
theorem dX13_partOf_8 : decode cX13_partOf 8 = .ok (.goto 31, 3) := dk_167 0 31 (dk_at dksX13_partOf_0 8 rfl rfl)
theorem dX13_partOf_11 : decode cX13_partOf 11 = .ok (.iload_n 1, 1) := dk_27 (dk_at dksX13_partOf_0 11 rfl rfl)
theorem dX13_partOf_12 : decode cX13_partOf 12 = .ok (.iconst 1, 1) := dk_4 (dk_at dksX13_partOf_0 12 rfl rfl)
theorem dX13_partOf_13 : decode cX13_partOf 13 = .ok (.if_icmp .ne 10, 3) := dk_160 0 10 (dk_at dksX13_partOf_0 13 rfl rfl)
theorem dX13_partOf_16 : decode cX13_partOf 16 = .ok (.aload_n 0, 1) := dk_42 (dk_at dksX13_partOf_0 16 rfl rfl)
theorem dX13_partOf_17 : decode cX13_partOf 17 = .ok (.getfield 189, 3) := dk_180 0 189 (dk_at dksX13_partOf_0 17 rfl rfl)
theorem dX13_partOf_20 : decode cX13_partOf 20 = .ok (.goto 19, 3) := dk_167 0 19 (dk_at dksX13_partOf_0 20 rfl rfl)
theorem dX13_partOf_23 : decode cX13_partOf 23 = .ok (.iload_n 1, 1) := dk_27 (dk_at dksX13_partOf_0 23 rfl rfl)
theorem dX13_partOf_24 : decode cX13_partOf 24 = .ok (.iconst 2, 1) := dk_5 (dk_at dksX13_partOf_1 0 rfl rfl)
theorem dX13_partOf_25 : decode cX13_partOf 25 = .ok (.if_icmp .ne 10, 3) := dk_160 0 10 (dk_at dksX13_partOf_1 1 rfl rfl)
theorem dX13_partOf_28 : decode cX13_partOf 28 = .ok (.aload_n 0, 1) := dk_42 (dk_at dksX13_partOf_1 4 rfl rfl)
theorem dX13_partOf_29 : decode cX13_partOf 29 = .ok (.getfield 192, 3) := dk_180 0 192 (dk_at dksX13_partOf_1 5 rfl rfl)
theorem dX13_partOf_32 : decode cX13_partOf 32 = .ok (.goto 7, 3) := dk_167 0 7 (dk_at dksX13_partOf_1 8 rfl rfl)
theorem dX13_partOf_35 : decode cX13_partOf 35 = .ok (.aload_n 0, 1) := dk_42 (dk_at dksX13_partOf_1 11 rfl rfl)
theorem dX13_partOf_36 : decode cX13_partOf 36 = .ok (.getfield 195, 3) := dk_180 0 195 (dk_at dksX13_partOf_1 12 rfl rfl)
theorem dX13_partOf_39 : decode cX13_partOf 39 = .ok (.ireturn, 1) := dk_172 (dk_at dksX13_partOf_1 15 rfl rfl)
abbrev cX13_run : ByteArray := prog_28_method_116_code
def yX13_run : MethodName := ⟨RX13, "run", "(I)I"⟩
def dkwX13_run_6 : List UInt8 := [167, 0, 4, 29, 172]
abbrev dktX13_run_6 : List UInt8 := dkwX13_run_6 ++ []
def dkwX13_run_5 : List UInt8 := [4, 96, 167, 0, 25, 27, 6, 160, 0, 7, 28, 167, 0, 16, 27, 7, 160, 0, 10, 42, 182, 0, 243]
abbrev dktX13_run_5 : List UInt8 := dkwX13_run_5 ++ dktX13_run_6
def dkwX13_run_4 : List UInt8 := [167, 0, 51, 27, 4, 160, 0, 10, 42, 180, 0, 198, 167, 0, 39, 27, 5, 160, 0, 12, 42, 182, 1, 79]
abbrev dktX13_run_4 : List UInt8 := dkwX13_run_4 ++ dktX13_run_5
def dkwX13_run_3 : List UInt8 := [160, 0, 8, 21, 4, 167, 0, 4, 29, 62, 132, 4, 255, 167, 255, 206, 27, 154, 0, 10, 42, 182, 0, 207]
abbrev dktX13_run_3 : List UInt8 := dkwX13_run_3 ++ dktX13_run_4
def dkwX13_run_2 : List UInt8 := [7, 21, 4, 104, 46, 96, 46, 96, 61, 42, 180, 0, 25, 7, 21, 4, 104, 46, 42, 182, 1, 79]
abbrev dktX13_run_2 : List UInt8 := dkwX13_run_2 ++ dktX13_run_3
def dkwX13_run_1 : List UInt8 := [62, 42, 180, 0, 198, 4, 100, 54, 4, 21, 4, 155, 0, 51, 28, 42, 180, 0, 7, 6, 42, 180, 0, 25]
abbrev dktX13_run_1 : List UInt8 := dkwX13_run_1 ++ dktX13_run_2
def dkwX13_run_0 : List UInt8 := [42, 3, 181, 0, 43, 27, 3, 8, 184, 0, 65, 154, 0, 5, 2, 172, 42, 182, 1, 73, 3, 61, 16, 157]
abbrev dktX13_run_0 : List UInt8 := dkwX13_run_0 ++ dktX13_run_1
theorem dksX13_run_0 : cX13_run.data.toList.drop 0 = dktX13_run_0 := by decide +kernel
theorem dksX13_run_1 : cX13_run.data.toList.drop 24 = dktX13_run_1 := dk_seg dksX13_run_0 24 rfl rfl
theorem dksX13_run_2 : cX13_run.data.toList.drop 48 = dktX13_run_2 := dk_seg dksX13_run_1 24 rfl rfl
theorem dksX13_run_3 : cX13_run.data.toList.drop 70 = dktX13_run_3 := dk_seg dksX13_run_2 22 rfl rfl
theorem dksX13_run_4 : cX13_run.data.toList.drop 94 = dktX13_run_4 := dk_seg dksX13_run_3 24 rfl rfl
theorem dksX13_run_5 : cX13_run.data.toList.drop 118 = dktX13_run_5 := dk_seg dksX13_run_4 24 rfl rfl
theorem dksX13_run_6 : cX13_run.data.toList.drop 141 = dktX13_run_6 := dk_seg dksX13_run_5 23 rfl rfl
theorem dX13_run_0 : decode cX13_run 0 = .ok (.aload_n 0, 1) := dk_42 (dk_at dksX13_run_0 0 rfl rfl)
theorem dX13_run_1 : decode cX13_run 1 = .ok (.iconst 0, 1) := dk_3 (dk_at dksX13_run_0 1 rfl rfl)
theorem dX13_run_2 : decode cX13_run 2 = .ok (.putfield 43, 3) := dk_181 0 43 (dk_at dksX13_run_0 2 rfl rfl)
theorem dX13_run_5 : decode cX13_run 5 = .ok (.iload_n 1, 1) := dk_27 (dk_at dksX13_run_0 5 rfl rfl)
theorem dX13_run_6 : decode cX13_run 6 = .ok (.iconst 0, 1) := dk_3 (dk_at dksX13_run_0 6 rfl rfl)
theorem dX13_run_7 : decode cX13_run 7 = .ok (.iconst 5, 1) := dk_8 (dk_at dksX13_run_0 7 rfl rfl)
theorem dX13_run_8 : decode cX13_run 8 = .ok (.invokestatic 65, 3) := dk_184 0 65 (dk_at dksX13_run_0 8 rfl rfl)
theorem dX13_run_11 : decode cX13_run 11 = .ok (.ifCond .ne 5, 3) := dk_154 0 5 (dk_at dksX13_run_0 11 rfl rfl)
theorem dX13_run_14 : decode cX13_run 14 = .ok (.iconst (-1), 1) := dk_2 (dk_at dksX13_run_0 14 rfl rfl)
theorem dX13_run_15 : decode cX13_run 15 = .ok (.ireturn, 1) := dk_172 (dk_at dksX13_run_0 15 rfl rfl)
theorem dX13_run_16 : decode cX13_run 16 = .ok (.aload_n 0, 1) := dk_42 (dk_at dksX13_run_0 16 rfl rfl)
theorem dX13_run_17 : decode cX13_run 17 = .ok (.invokevirtual 329, 3) := dk_182 1 73 (dk_at dksX13_run_0 17 rfl rfl)
theorem dX13_run_20 : decode cX13_run 20 = .ok (.iconst 0, 1) := dk_3 (dk_at dksX13_run_0 20 rfl rfl)
theorem dX13_run_21 : decode cX13_run 21 = .ok (.istore_n 2, 1) := dk_61 (dk_at dksX13_run_0 21 rfl rfl)
theorem dX13_run_22 : decode cX13_run 22 = .ok (.bipush (-99), 2) := dk_16 157 (dk_at dksX13_run_0 22 rfl rfl)
theorem dX13_run_24 : decode cX13_run 24 = .ok (.istore_n 3, 1) := dk_62 (dk_at dksX13_run_1 0 rfl rfl)
theorem dX13_run_25 : decode cX13_run 25 = .ok (.aload_n 0, 1) := dk_42 (dk_at dksX13_run_1 1 rfl rfl)
theorem dX13_run_26 : decode cX13_run 26 = .ok (.getfield 198, 3) := dk_180 0 198 (dk_at dksX13_run_1 2 rfl rfl)
theorem dX13_run_29 : decode cX13_run 29 = .ok (.iconst 1, 1) := dk_4 (dk_at dksX13_run_1 5 rfl rfl)
theorem dX13_run_30 : decode cX13_run 30 = .ok (.isub, 1) := dk_100 (dk_at dksX13_run_1 6 rfl rfl)
theorem dX13_run_31 : decode cX13_run 31 = .ok (.istore 4, 2) := dk_54 4 (dk_at dksX13_run_1 7 rfl rfl)
theorem dX13_run_33 : decode cX13_run 33 = .ok (.iload 4, 2) := dk_21 4 (dk_at dksX13_run_1 9 rfl rfl)
theorem dX13_run_35 : decode cX13_run 35 = .ok (.ifCond .lt 51, 3) := dk_155 0 51 (dk_at dksX13_run_1 11 rfl rfl)
theorem dX13_run_38 : decode cX13_run 38 = .ok (.iload_n 2, 1) := dk_28 (dk_at dksX13_run_1 14 rfl rfl)
theorem dX13_run_39 : decode cX13_run 39 = .ok (.aload_n 0, 1) := dk_42 (dk_at dksX13_run_1 15 rfl rfl)
theorem dX13_run_40 : decode cX13_run 40 = .ok (.getfield 7, 3) := dk_180 0 7 (dk_at dksX13_run_1 16 rfl rfl)
theorem dX13_run_43 : decode cX13_run 43 = .ok (.iconst 3, 1) := dk_6 (dk_at dksX13_run_1 19 rfl rfl)
theorem dX13_run_44 : decode cX13_run 44 = .ok (.aload_n 0, 1) := dk_42 (dk_at dksX13_run_1 20 rfl rfl)
theorem dX13_run_45 : decode cX13_run 45 = .ok (.getfield 25, 3) := dk_180 0 25 (dk_at dksX13_run_1 21 rfl rfl)
theorem dX13_run_48 : decode cX13_run 48 = .ok (.iconst 4, 1) := dk_7 (dk_at dksX13_run_2 0 rfl rfl)
theorem dX13_run_49 : decode cX13_run 49 = .ok (.iload 4, 2) := dk_21 4 (dk_at dksX13_run_2 1 rfl rfl)
theorem dX13_run_51 : decode cX13_run 51 = .ok (.imul, 1) := dk_104 (dk_at dksX13_run_2 3 rfl rfl)
theorem dX13_run_52 : decode cX13_run 52 = .ok (.iaload, 1) := dk_46 (dk_at dksX13_run_2 4 rfl rfl)
theorem dX13_run_53 : decode cX13_run 53 = .ok (.iadd, 1) := dk_96 (dk_at dksX13_run_2 5 rfl rfl)
theorem dX13_run_54 : decode cX13_run 54 = .ok (.iaload, 1) := dk_46 (dk_at dksX13_run_2 6 rfl rfl)
theorem dX13_run_55 : decode cX13_run 55 = .ok (.iadd, 1) := dk_96 (dk_at dksX13_run_2 7 rfl rfl)
theorem dX13_run_56 : decode cX13_run 56 = .ok (.istore_n 2, 1) := dk_61 (dk_at dksX13_run_2 8 rfl rfl)
theorem dX13_run_57 : decode cX13_run 57 = .ok (.aload_n 0, 1) := dk_42 (dk_at dksX13_run_2 9 rfl rfl)
theorem dX13_run_58 : decode cX13_run 58 = .ok (.getfield 25, 3) := dk_180 0 25 (dk_at dksX13_run_2 10 rfl rfl)
theorem dX13_run_61 : decode cX13_run 61 = .ok (.iconst 4, 1) := dk_7 (dk_at dksX13_run_2 13 rfl rfl)
theorem dX13_run_62 : decode cX13_run 62 = .ok (.iload 4, 2) := dk_21 4 (dk_at dksX13_run_2 14 rfl rfl)
theorem dX13_run_64 : decode cX13_run 64 = .ok (.imul, 1) := dk_104 (dk_at dksX13_run_2 16 rfl rfl)
theorem dX13_run_65 : decode cX13_run 65 = .ok (.iaload, 1) := dk_46 (dk_at dksX13_run_2 17 rfl rfl)
theorem dX13_run_66 : decode cX13_run 66 = .ok (.aload_n 0, 1) := dk_42 (dk_at dksX13_run_2 18 rfl rfl)
theorem dX13_run_67 : decode cX13_run 67 = .ok (.invokevirtual 335, 3) := dk_182 1 79 (dk_at dksX13_run_2 19 rfl rfl)
theorem dX13_run_70 : decode cX13_run 70 = .ok (.if_icmp .ne 8, 3) := dk_160 0 8 (dk_at dksX13_run_3 0 rfl rfl)
theorem dX13_run_73 : decode cX13_run 73 = .ok (.iload 4, 2) := dk_21 4 (dk_at dksX13_run_3 3 rfl rfl)
theorem dX13_run_75 : decode cX13_run 75 = .ok (.goto 4, 3) := dk_167 0 4 (dk_at dksX13_run_3 5 rfl rfl)
theorem dX13_run_78 : decode cX13_run 78 = .ok (.iload_n 3, 1) := dk_29 (dk_at dksX13_run_3 8 rfl rfl)
theorem dX13_run_79 : decode cX13_run 79 = .ok (.istore_n 3, 1) := dk_62 (dk_at dksX13_run_3 9 rfl rfl)
theorem dX13_run_80 : decode cX13_run 80 = .ok (.iinc 4 (-1), 3) := dk_132 4 255 (dk_at dksX13_run_3 10 rfl rfl)
theorem dX13_run_83 : decode cX13_run 83 = .ok (.goto (-50), 3) := dk_167 255 206 (dk_at dksX13_run_3 13 rfl rfl)
theorem dX13_run_86 : decode cX13_run 86 = .ok (.iload_n 1, 1) := dk_27 (dk_at dksX13_run_3 16 rfl rfl)
theorem dX13_run_87 : decode cX13_run 87 = .ok (.ifCond .ne 10, 3) := dk_154 0 10 (dk_at dksX13_run_3 17 rfl rfl)
theorem dX13_run_90 : decode cX13_run 90 = .ok (.aload_n 0, 1) := dk_42 (dk_at dksX13_run_3 20 rfl rfl)
theorem dX13_run_91 : decode cX13_run 91 = .ok (.invokevirtual 207, 3) := dk_182 0 207 (dk_at dksX13_run_3 21 rfl rfl)
theorem dX13_run_94 : decode cX13_run 94 = .ok (.goto 51, 3) := dk_167 0 51 (dk_at dksX13_run_4 0 rfl rfl)
theorem dX13_run_97 : decode cX13_run 97 = .ok (.iload_n 1, 1) := dk_27 (dk_at dksX13_run_4 3 rfl rfl)
theorem dX13_run_98 : decode cX13_run 98 = .ok (.iconst 1, 1) := dk_4 (dk_at dksX13_run_4 4 rfl rfl)
theorem dX13_run_99 : decode cX13_run 99 = .ok (.if_icmp .ne 10, 3) := dk_160 0 10 (dk_at dksX13_run_4 5 rfl rfl)
theorem dX13_run_102 : decode cX13_run 102 = .ok (.aload_n 0, 1) := dk_42 (dk_at dksX13_run_4 8 rfl rfl)
theorem dX13_run_103 : decode cX13_run 103 = .ok (.getfield 198, 3) := dk_180 0 198 (dk_at dksX13_run_4 9 rfl rfl)
theorem dX13_run_106 : decode cX13_run 106 = .ok (.goto 39, 3) := dk_167 0 39 (dk_at dksX13_run_4 12 rfl rfl)
theorem dX13_run_109 : decode cX13_run 109 = .ok (.iload_n 1, 1) := dk_27 (dk_at dksX13_run_4 15 rfl rfl)
theorem dX13_run_110 : decode cX13_run 110 = .ok (.iconst 2, 1) := dk_5 (dk_at dksX13_run_4 16 rfl rfl)
theorem dX13_run_111 : decode cX13_run 111 = .ok (.if_icmp .ne 12, 3) := dk_160 0 12 (dk_at dksX13_run_4 17 rfl rfl)
theorem dX13_run_114 : decode cX13_run 114 = .ok (.aload_n 0, 1) := dk_42 (dk_at dksX13_run_4 20 rfl rfl)
theorem dX13_run_115 : decode cX13_run 115 = .ok (.invokevirtual 335, 3) := dk_182 1 79 (dk_at dksX13_run_4 21 rfl rfl)
theorem dX13_run_118 : decode cX13_run 118 = .ok (.iconst 1, 1) := dk_4 (dk_at dksX13_run_5 0 rfl rfl)
theorem dX13_run_119 : decode cX13_run 119 = .ok (.iadd, 1) := dk_96 (dk_at dksX13_run_5 1 rfl rfl)
theorem dX13_run_120 : decode cX13_run 120 = .ok (.goto 25, 3) := dk_167 0 25 (dk_at dksX13_run_5 2 rfl rfl)
theorem dX13_run_123 : decode cX13_run 123 = .ok (.iload_n 1, 1) := dk_27 (dk_at dksX13_run_5 5 rfl rfl)
theorem dX13_run_124 : decode cX13_run 124 = .ok (.iconst 3, 1) := dk_6 (dk_at dksX13_run_5 6 rfl rfl)
theorem dX13_run_125 : decode cX13_run 125 = .ok (.if_icmp .ne 7, 3) := dk_160 0 7 (dk_at dksX13_run_5 7 rfl rfl)
theorem dX13_run_128 : decode cX13_run 128 = .ok (.iload_n 2, 1) := dk_28 (dk_at dksX13_run_5 10 rfl rfl)
theorem dX13_run_129 : decode cX13_run 129 = .ok (.goto 16, 3) := dk_167 0 16 (dk_at dksX13_run_5 11 rfl rfl)
theorem dX13_run_132 : decode cX13_run 132 = .ok (.iload_n 1, 1) := dk_27 (dk_at dksX13_run_5 14 rfl rfl)
theorem dX13_run_133 : decode cX13_run 133 = .ok (.iconst 4, 1) := dk_7 (dk_at dksX13_run_5 15 rfl rfl)
theorem dX13_run_134 : decode cX13_run 134 = .ok (.if_icmp .ne 10, 3) := dk_160 0 10 (dk_at dksX13_run_5 16 rfl rfl)
theorem dX13_run_137 : decode cX13_run 137 = .ok (.aload_n 0, 1) := dk_42 (dk_at dksX13_run_5 19 rfl rfl)
theorem dX13_run_138 : decode cX13_run 138 = .ok (.invokevirtual 243, 3) := dk_182 0 243 (dk_at dksX13_run_5 20 rfl rfl)
theorem dX13_run_141 : decode cX13_run 141 = .ok (.goto 4, 3) := dk_167 0 4 (dk_at dksX13_run_6 0 rfl rfl)
theorem dX13_run_144 : decode cX13_run 144 = .ok (.iload_n 3, 1) := dk_29 (dk_at dksX13_run_6 3 rfl rfl)
theorem dX13_run_145 : decode cX13_run 145 = .ok (.ireturn, 1) := dk_172 (dk_at dksX13_run_6 4 rfl rfl)
abbrev cX13_greatestRule : ByteArray := prog_28_method_115_code
def yX13_greatestRule : MethodName := ⟨RX13, "greatestRule", "()I"⟩
def dkwX13_greatestRule_1 : List UInt8 := [60, 132, 2, 1, 167, 255, 232, 27, 172]
abbrev dktX13_greatestRule_1 : List UInt8 := dkwX13_greatestRule_1 ++ []
def dkwX13_greatestRule_0 : List UInt8 := [2, 60, 3, 61, 28, 42, 180, 0, 198, 162, 0, 22, 27, 42, 180, 0, 25, 7, 28, 104, 46, 184, 0, 79]
abbrev dktX13_greatestRule_0 : List UInt8 := dkwX13_greatestRule_0 ++ dktX13_greatestRule_1
theorem dksX13_greatestRule_0 : cX13_greatestRule.data.toList.drop 0 = dktX13_greatestRule_0 := by decide +kernel
theorem dksX13_greatestRule_1 : cX13_greatestRule.data.toList.drop 24 = dktX13_greatestRule_1 := dk_seg dksX13_greatestRule_0 24 rfl rfl
theorem dX13_greatestRule_0 : decode cX13_greatestRule 0 = .ok (.iconst (-1), 1) := dk_2 (dk_at dksX13_greatestRule_0 0 rfl rfl)
theorem dX13_greatestRule_1 : decode cX13_greatestRule 1 = .ok (.istore_n 1, 1) := dk_60 (dk_at dksX13_greatestRule_0 1 rfl rfl)
theorem dX13_greatestRule_2 : decode cX13_greatestRule 2 = .ok (.iconst 0, 1) := dk_3 (dk_at dksX13_greatestRule_0 2 rfl rfl)
theorem dX13_greatestRule_3 : decode cX13_greatestRule 3 = .ok (.istore_n 2, 1) := dk_61 (dk_at dksX13_greatestRule_0 3 rfl rfl)
theorem dX13_greatestRule_4 : decode cX13_greatestRule 4 = .ok (.iload_n 2, 1) := dk_28 (dk_at dksX13_greatestRule_0 4 rfl rfl)
theorem dX13_greatestRule_5 : decode cX13_greatestRule 5 = .ok (.aload_n 0, 1) := dk_42 (dk_at dksX13_greatestRule_0 5 rfl rfl)
theorem dX13_greatestRule_6 : decode cX13_greatestRule 6 = .ok (.getfield 198, 3) := dk_180 0 198 (dk_at dksX13_greatestRule_0 6 rfl rfl)
theorem dX13_greatestRule_9 : decode cX13_greatestRule 9 = .ok (.if_icmp .ge 22, 3) := dk_162 0 22 (dk_at dksX13_greatestRule_0 9 rfl rfl)
theorem dX13_greatestRule_12 : decode cX13_greatestRule 12 = .ok (.iload_n 1, 1) := dk_27 (dk_at dksX13_greatestRule_0 12 rfl rfl)
theorem dX13_greatestRule_13 : decode cX13_greatestRule 13 = .ok (.aload_n 0, 1) := dk_42 (dk_at dksX13_greatestRule_0 13 rfl rfl)
theorem dX13_greatestRule_14 : decode cX13_greatestRule 14 = .ok (.getfield 25, 3) := dk_180 0 25 (dk_at dksX13_greatestRule_0 14 rfl rfl)
theorem dX13_greatestRule_17 : decode cX13_greatestRule 17 = .ok (.iconst 4, 1) := dk_7 (dk_at dksX13_greatestRule_0 17 rfl rfl)
theorem dX13_greatestRule_18 : decode cX13_greatestRule 18 = .ok (.iload_n 2, 1) := dk_28 (dk_at dksX13_greatestRule_0 18 rfl rfl)
theorem dX13_greatestRule_19 : decode cX13_greatestRule 19 = .ok (.imul, 1) := dk_104 (dk_at dksX13_greatestRule_0 19 rfl rfl)
theorem dX13_greatestRule_20 : decode cX13_greatestRule 20 = .ok (.iaload, 1) := dk_46 (dk_at dksX13_greatestRule_0 20 rfl rfl)
theorem dX13_greatestRule_21 : decode cX13_greatestRule 21 = .ok (.invokestatic 79, 3) := dk_184 0 79 (dk_at dksX13_greatestRule_0 21 rfl rfl)
theorem dX13_greatestRule_24 : decode cX13_greatestRule 24 = .ok (.istore_n 1, 1) := dk_60 (dk_at dksX13_greatestRule_1 0 rfl rfl)
theorem dX13_greatestRule_25 : decode cX13_greatestRule 25 = .ok (.iinc 2 1, 3) := dk_132 2 1 (dk_at dksX13_greatestRule_1 1 rfl rfl)
theorem dX13_greatestRule_28 : decode cX13_greatestRule 28 = .ok (.goto (-24), 3) := dk_167 255 232 (dk_at dksX13_greatestRule_1 4 rfl rfl)
theorem dX13_greatestRule_31 : decode cX13_greatestRule 31 = .ok (.iload_n 1, 1) := dk_27 (dk_at dksX13_greatestRule_1 7 rfl rfl)
theorem dX13_greatestRule_32 : decode cX13_greatestRule 32 = .ok (.ireturn, 1) := dk_172 (dk_at dksX13_greatestRule_1 8 rfl rfl)
abbrev cX13_step : ByteArray := prog_28_method_117_code
def yX13_step : MethodName := ⟨RX13, "step", "(II)I"⟩
def dkwX13_step_1 : List UInt8 := [27, 42, 180, 0, 198, 162, 0, 16, 42, 180, 0, 25, 7, 27, 104, 28, 96, 46, 167, 0, 5, 16, 157, 172]
abbrev dktX13_step_1 : List UInt8 := dkwX13_step_1 ++ []
def dkwX13_step_0 : List UInt8 := [42, 3, 181, 0, 43, 27, 155, 0, 12, 28, 3, 6, 184, 0, 65, 154, 0, 5, 2, 172, 42, 182, 1, 73]
abbrev dktX13_step_0 : List UInt8 := dkwX13_step_0 ++ dktX13_step_1
theorem dksX13_step_0 : cX13_step.data.toList.drop 0 = dktX13_step_0 := by decide +kernel
theorem dksX13_step_1 : cX13_step.data.toList.drop 24 = dktX13_step_1 := dk_seg dksX13_step_0 24 rfl rfl
theorem dX13_step_0 : decode cX13_step 0 = .ok (.aload_n 0, 1) := dk_42 (dk_at dksX13_step_0 0 rfl rfl)
theorem dX13_step_1 : decode cX13_step 1 = .ok (.iconst 0, 1) := dk_3 (dk_at dksX13_step_0 1 rfl rfl)
theorem dX13_step_2 : decode cX13_step 2 = .ok (.putfield 43, 3) := dk_181 0 43 (dk_at dksX13_step_0 2 rfl rfl)
theorem dX13_step_5 : decode cX13_step 5 = .ok (.iload_n 1, 1) := dk_27 (dk_at dksX13_step_0 5 rfl rfl)
theorem dX13_step_6 : decode cX13_step 6 = .ok (.ifCond .lt 12, 3) := dk_155 0 12 (dk_at dksX13_step_0 6 rfl rfl)
theorem dX13_step_9 : decode cX13_step 9 = .ok (.iload_n 2, 1) := dk_28 (dk_at dksX13_step_0 9 rfl rfl)
theorem dX13_step_10 : decode cX13_step 10 = .ok (.iconst 0, 1) := dk_3 (dk_at dksX13_step_0 10 rfl rfl)
theorem dX13_step_11 : decode cX13_step 11 = .ok (.iconst 3, 1) := dk_6 (dk_at dksX13_step_0 11 rfl rfl)
theorem dX13_step_12 : decode cX13_step 12 = .ok (.invokestatic 65, 3) := dk_184 0 65 (dk_at dksX13_step_0 12 rfl rfl)
theorem dX13_step_15 : decode cX13_step 15 = .ok (.ifCond .ne 5, 3) := dk_154 0 5 (dk_at dksX13_step_0 15 rfl rfl)
theorem dX13_step_18 : decode cX13_step 18 = .ok (.iconst (-1), 1) := dk_2 (dk_at dksX13_step_0 18 rfl rfl)
theorem dX13_step_19 : decode cX13_step 19 = .ok (.ireturn, 1) := dk_172 (dk_at dksX13_step_0 19 rfl rfl)
theorem dX13_step_20 : decode cX13_step 20 = .ok (.aload_n 0, 1) := dk_42 (dk_at dksX13_step_0 20 rfl rfl)
theorem dX13_step_21 : decode cX13_step 21 = .ok (.invokevirtual 329, 3) := dk_182 1 73 (dk_at dksX13_step_0 21 rfl rfl)
theorem dX13_step_24 : decode cX13_step 24 = .ok (.iload_n 1, 1) := dk_27 (dk_at dksX13_step_1 0 rfl rfl)
theorem dX13_step_25 : decode cX13_step 25 = .ok (.aload_n 0, 1) := dk_42 (dk_at dksX13_step_1 1 rfl rfl)
theorem dX13_step_26 : decode cX13_step 26 = .ok (.getfield 198, 3) := dk_180 0 198 (dk_at dksX13_step_1 2 rfl rfl)
theorem dX13_step_29 : decode cX13_step 29 = .ok (.if_icmp .ge 16, 3) := dk_162 0 16 (dk_at dksX13_step_1 5 rfl rfl)
theorem dX13_step_32 : decode cX13_step 32 = .ok (.aload_n 0, 1) := dk_42 (dk_at dksX13_step_1 8 rfl rfl)
theorem dX13_step_33 : decode cX13_step 33 = .ok (.getfield 25, 3) := dk_180 0 25 (dk_at dksX13_step_1 9 rfl rfl)
theorem dX13_step_36 : decode cX13_step 36 = .ok (.iconst 4, 1) := dk_7 (dk_at dksX13_step_1 12 rfl rfl)
theorem dX13_step_37 : decode cX13_step 37 = .ok (.iload_n 1, 1) := dk_27 (dk_at dksX13_step_1 13 rfl rfl)
theorem dX13_step_38 : decode cX13_step 38 = .ok (.imul, 1) := dk_104 (dk_at dksX13_step_1 14 rfl rfl)
theorem dX13_step_39 : decode cX13_step 39 = .ok (.iload_n 2, 1) := dk_28 (dk_at dksX13_step_1 15 rfl rfl)
theorem dX13_step_40 : decode cX13_step 40 = .ok (.iadd, 1) := dk_96 (dk_at dksX13_step_1 16 rfl rfl)
theorem dX13_step_41 : decode cX13_step 41 = .ok (.iaload, 1) := dk_46 (dk_at dksX13_step_1 17 rfl rfl)
theorem dX13_step_42 : decode cX13_step 42 = .ok (.goto 5, 3) := dk_167 0 5 (dk_at dksX13_step_1 18 rfl rfl)
theorem dX13_step_45 : decode cX13_step 45 = .ok (.bipush (-99), 2) := dk_16 157 (dk_at dksX13_step_1 21 rfl rfl)
theorem dX13_step_47 : decode cX13_step 47 = .ok (.ireturn, 1) := dk_172 (dk_at dksX13_step_1 23 rfl rfl)
abbrev cX13_rank : ByteArray := prog_28_method_118_code
def yX13_rank : MethodName := ⟨RX13, "rank", "(I)I"⟩
def dkwX13_rank_6 : List UInt8 := [162, 0, 12, 42, 180, 0, 34, 27, 46, 167, 0, 5, 16, 157, 172]
abbrev dktX13_rank_6 : List UInt8 := dkwX13_rank_6 ++ []
def dkwX13_rank_5 : List UInt8 := [160, 0, 14, 42, 180, 0, 34, 28, 21, 4, 79, 132, 2, 1, 132, 3, 1, 167, 255, 184, 27, 28]
abbrev dktX13_rank_5 : List UInt8 := dkwX13_rank_5 ++ dktX13_rank_6
def dkwX13_rank_4 : List UInt8 := [7, 29, 104, 5, 96, 46, 120, 2, 130, 126, 79, 42, 180, 0, 22, 21, 4, 46, 184, 0, 142, 4]
abbrev dktX13_rank_4 : List UInt8 := dkwX13_rank_4 ++ dktX13_rank_5
def dkwX13_rank_3 : List UInt8 := [180, 0, 25, 7, 29, 104, 4, 96, 46, 54, 4, 42, 180, 0, 22, 21, 4, 92, 46, 4, 42, 180, 0, 25]
abbrev dktX13_rank_3 : List UInt8 := dkwX13_rank_3 ++ dktX13_rank_4
def dkwX13_rank_2 : List UInt8 := [28, 29, 79, 132, 2, 1, 132, 3, 1, 167, 255, 222, 3, 62, 29, 42, 180, 0, 198, 162, 0, 70, 42]
abbrev dktX13_rank_2 : List UInt8 := dkwX13_rank_2 ++ dktX13_rank_3
def dkwX13_rank_1 : List UInt8 := [42, 182, 0, 61, 162, 0, 32, 42, 180, 0, 22, 29, 46, 184, 0, 142, 4, 160, 0, 13, 42, 180, 0, 34]
abbrev dktX13_rank_1 : List UInt8 := dkwX13_rank_1 ++ dktX13_rank_2
def dkwX13_rank_0 : List UInt8 := [42, 3, 181, 0, 43, 27, 156, 0, 5, 2, 172, 42, 182, 1, 73, 42, 182, 0, 139, 3, 61, 3, 62, 29]
abbrev dktX13_rank_0 : List UInt8 := dkwX13_rank_0 ++ dktX13_rank_1
theorem dksX13_rank_0 : cX13_rank.data.toList.drop 0 = dktX13_rank_0 := by decide +kernel
theorem dksX13_rank_1 : cX13_rank.data.toList.drop 24 = dktX13_rank_1 := dk_seg dksX13_rank_0 24 rfl rfl
theorem dksX13_rank_2 : cX13_rank.data.toList.drop 48 = dktX13_rank_2 := dk_seg dksX13_rank_1 24 rfl rfl
theorem dksX13_rank_3 : cX13_rank.data.toList.drop 71 = dktX13_rank_3 := dk_seg dksX13_rank_2 23 rfl rfl
theorem dksX13_rank_4 : cX13_rank.data.toList.drop 95 = dktX13_rank_4 := dk_seg dksX13_rank_3 24 rfl rfl
theorem dksX13_rank_5 : cX13_rank.data.toList.drop 117 = dktX13_rank_5 := dk_seg dksX13_rank_4 22 rfl rfl
theorem dksX13_rank_6 : cX13_rank.data.toList.drop 139 = dktX13_rank_6 := dk_seg dksX13_rank_5 22 rfl rfl
theorem dX13_rank_0 : decode cX13_rank 0 = .ok (.aload_n 0, 1) := dk_42 (dk_at dksX13_rank_0 0 rfl rfl)
theorem dX13_rank_1 : decode cX13_rank 1 = .ok (.iconst 0, 1) := dk_3 (dk_at dksX13_rank_0 1 rfl rfl)
theorem dX13_rank_2 : decode cX13_rank 2 = .ok (.putfield 43, 3) := dk_181 0 43 (dk_at dksX13_rank_0 2 rfl rfl)
theorem dX13_rank_5 : decode cX13_rank 5 = .ok (.iload_n 1, 1) := dk_27 (dk_at dksX13_rank_0 5 rfl rfl)
theorem dX13_rank_6 : decode cX13_rank 6 = .ok (.ifCond .ge 5, 3) := dk_156 0 5 (dk_at dksX13_rank_0 6 rfl rfl)
theorem dX13_rank_9 : decode cX13_rank 9 = .ok (.iconst (-1), 1) := dk_2 (dk_at dksX13_rank_0 9 rfl rfl)
theorem dX13_rank_10 : decode cX13_rank 10 = .ok (.ireturn, 1) := dk_172 (dk_at dksX13_rank_0 10 rfl rfl)
theorem dX13_rank_11 : decode cX13_rank 11 = .ok (.aload_n 0, 1) := dk_42 (dk_at dksX13_rank_0 11 rfl rfl)
theorem dX13_rank_12 : decode cX13_rank 12 = .ok (.invokevirtual 329, 3) := dk_182 1 73 (dk_at dksX13_rank_0 12 rfl rfl)
theorem dX13_rank_15 : decode cX13_rank 15 = .ok (.aload_n 0, 1) := dk_42 (dk_at dksX13_rank_0 15 rfl rfl)
theorem dX13_rank_16 : decode cX13_rank 16 = .ok (.invokevirtual 139, 3) := dk_182 0 139 (dk_at dksX13_rank_0 16 rfl rfl)
theorem dX13_rank_19 : decode cX13_rank 19 = .ok (.iconst 0, 1) := dk_3 (dk_at dksX13_rank_0 19 rfl rfl)
theorem dX13_rank_20 : decode cX13_rank 20 = .ok (.istore_n 2, 1) := dk_61 (dk_at dksX13_rank_0 20 rfl rfl)
theorem dX13_rank_21 : decode cX13_rank 21 = .ok (.iconst 0, 1) := dk_3 (dk_at dksX13_rank_0 21 rfl rfl)
theorem dX13_rank_22 : decode cX13_rank 22 = .ok (.istore_n 3, 1) := dk_62 (dk_at dksX13_rank_0 22 rfl rfl)
theorem dX13_rank_23 : decode cX13_rank 23 = .ok (.iload_n 3, 1) := dk_29 (dk_at dksX13_rank_0 23 rfl rfl)
theorem dX13_rank_24 : decode cX13_rank 24 = .ok (.aload_n 0, 1) := dk_42 (dk_at dksX13_rank_1 0 rfl rfl)
theorem dX13_rank_25 : decode cX13_rank 25 = .ok (.invokevirtual 61, 3) := dk_182 0 61 (dk_at dksX13_rank_1 1 rfl rfl)
theorem dX13_rank_28 : decode cX13_rank 28 = .ok (.if_icmp .ge 32, 3) := dk_162 0 32 (dk_at dksX13_rank_1 4 rfl rfl)
theorem dX13_rank_31 : decode cX13_rank 31 = .ok (.aload_n 0, 1) := dk_42 (dk_at dksX13_rank_1 7 rfl rfl)
theorem dX13_rank_32 : decode cX13_rank 32 = .ok (.getfield 22, 3) := dk_180 0 22 (dk_at dksX13_rank_1 8 rfl rfl)
theorem dX13_rank_35 : decode cX13_rank 35 = .ok (.iload_n 3, 1) := dk_29 (dk_at dksX13_rank_1 11 rfl rfl)
theorem dX13_rank_36 : decode cX13_rank 36 = .ok (.iaload, 1) := dk_46 (dk_at dksX13_rank_1 12 rfl rfl)
theorem dX13_rank_37 : decode cX13_rank 37 = .ok (.invokestatic 142, 3) := dk_184 0 142 (dk_at dksX13_rank_1 13 rfl rfl)
theorem dX13_rank_40 : decode cX13_rank 40 = .ok (.iconst 1, 1) := dk_4 (dk_at dksX13_rank_1 16 rfl rfl)
theorem dX13_rank_41 : decode cX13_rank 41 = .ok (.if_icmp .ne 13, 3) := dk_160 0 13 (dk_at dksX13_rank_1 17 rfl rfl)
theorem dX13_rank_44 : decode cX13_rank 44 = .ok (.aload_n 0, 1) := dk_42 (dk_at dksX13_rank_1 20 rfl rfl)
theorem dX13_rank_45 : decode cX13_rank 45 = .ok (.getfield 34, 3) := dk_180 0 34 (dk_at dksX13_rank_1 21 rfl rfl)
theorem dX13_rank_48 : decode cX13_rank 48 = .ok (.iload_n 2, 1) := dk_28 (dk_at dksX13_rank_2 0 rfl rfl)
theorem dX13_rank_49 : decode cX13_rank 49 = .ok (.iload_n 3, 1) := dk_29 (dk_at dksX13_rank_2 1 rfl rfl)
theorem dX13_rank_50 : decode cX13_rank 50 = .ok (.iastore, 1) := dk_79 (dk_at dksX13_rank_2 2 rfl rfl)
theorem dX13_rank_51 : decode cX13_rank 51 = .ok (.iinc 2 1, 3) := dk_132 2 1 (dk_at dksX13_rank_2 3 rfl rfl)
theorem dX13_rank_54 : decode cX13_rank 54 = .ok (.iinc 3 1, 3) := dk_132 3 1 (dk_at dksX13_rank_2 6 rfl rfl)
theorem dX13_rank_57 : decode cX13_rank 57 = .ok (.goto (-34), 3) := dk_167 255 222 (dk_at dksX13_rank_2 9 rfl rfl)
theorem dX13_rank_60 : decode cX13_rank 60 = .ok (.iconst 0, 1) := dk_3 (dk_at dksX13_rank_2 12 rfl rfl)
theorem dX13_rank_61 : decode cX13_rank 61 = .ok (.istore_n 3, 1) := dk_62 (dk_at dksX13_rank_2 13 rfl rfl)
theorem dX13_rank_62 : decode cX13_rank 62 = .ok (.iload_n 3, 1) := dk_29 (dk_at dksX13_rank_2 14 rfl rfl)
theorem dX13_rank_63 : decode cX13_rank 63 = .ok (.aload_n 0, 1) := dk_42 (dk_at dksX13_rank_2 15 rfl rfl)
theorem dX13_rank_64 : decode cX13_rank 64 = .ok (.getfield 198, 3) := dk_180 0 198 (dk_at dksX13_rank_2 16 rfl rfl)
theorem dX13_rank_67 : decode cX13_rank 67 = .ok (.if_icmp .ge 70, 3) := dk_162 0 70 (dk_at dksX13_rank_2 19 rfl rfl)
theorem dX13_rank_70 : decode cX13_rank 70 = .ok (.aload_n 0, 1) := dk_42 (dk_at dksX13_rank_2 22 rfl rfl)
theorem dX13_rank_71 : decode cX13_rank 71 = .ok (.getfield 25, 3) := dk_180 0 25 (dk_at dksX13_rank_3 0 rfl rfl)
theorem dX13_rank_74 : decode cX13_rank 74 = .ok (.iconst 4, 1) := dk_7 (dk_at dksX13_rank_3 3 rfl rfl)
theorem dX13_rank_75 : decode cX13_rank 75 = .ok (.iload_n 3, 1) := dk_29 (dk_at dksX13_rank_3 4 rfl rfl)
theorem dX13_rank_76 : decode cX13_rank 76 = .ok (.imul, 1) := dk_104 (dk_at dksX13_rank_3 5 rfl rfl)
theorem dX13_rank_77 : decode cX13_rank 77 = .ok (.iconst 1, 1) := dk_4 (dk_at dksX13_rank_3 6 rfl rfl)
theorem dX13_rank_78 : decode cX13_rank 78 = .ok (.iadd, 1) := dk_96 (dk_at dksX13_rank_3 7 rfl rfl)
theorem dX13_rank_79 : decode cX13_rank 79 = .ok (.iaload, 1) := dk_46 (dk_at dksX13_rank_3 8 rfl rfl)
theorem dX13_rank_80 : decode cX13_rank 80 = .ok (.istore 4, 2) := dk_54 4 (dk_at dksX13_rank_3 9 rfl rfl)
theorem dX13_rank_82 : decode cX13_rank 82 = .ok (.aload_n 0, 1) := dk_42 (dk_at dksX13_rank_3 11 rfl rfl)
theorem dX13_rank_83 : decode cX13_rank 83 = .ok (.getfield 22, 3) := dk_180 0 22 (dk_at dksX13_rank_3 12 rfl rfl)
theorem dX13_rank_86 : decode cX13_rank 86 = .ok (.iload 4, 2) := dk_21 4 (dk_at dksX13_rank_3 15 rfl rfl)
theorem dX13_rank_88 : decode cX13_rank 88 = .ok (.dup2, 1) := dk_92 (dk_at dksX13_rank_3 17 rfl rfl)
theorem dX13_rank_89 : decode cX13_rank 89 = .ok (.iaload, 1) := dk_46 (dk_at dksX13_rank_3 18 rfl rfl)
theorem dX13_rank_90 : decode cX13_rank 90 = .ok (.iconst 1, 1) := dk_4 (dk_at dksX13_rank_3 19 rfl rfl)
theorem dX13_rank_91 : decode cX13_rank 91 = .ok (.aload_n 0, 1) := dk_42 (dk_at dksX13_rank_3 20 rfl rfl)
theorem dX13_rank_92 : decode cX13_rank 92 = .ok (.getfield 25, 3) := dk_180 0 25 (dk_at dksX13_rank_3 21 rfl rfl)
theorem dX13_rank_95 : decode cX13_rank 95 = .ok (.iconst 4, 1) := dk_7 (dk_at dksX13_rank_4 0 rfl rfl)
theorem dX13_rank_96 : decode cX13_rank 96 = .ok (.iload_n 3, 1) := dk_29 (dk_at dksX13_rank_4 1 rfl rfl)
theorem dX13_rank_97 : decode cX13_rank 97 = .ok (.imul, 1) := dk_104 (dk_at dksX13_rank_4 2 rfl rfl)
theorem dX13_rank_98 : decode cX13_rank 98 = .ok (.iconst 2, 1) := dk_5 (dk_at dksX13_rank_4 3 rfl rfl)
theorem dX13_rank_99 : decode cX13_rank 99 = .ok (.iadd, 1) := dk_96 (dk_at dksX13_rank_4 4 rfl rfl)
theorem dX13_rank_100 : decode cX13_rank 100 = .ok (.iaload, 1) := dk_46 (dk_at dksX13_rank_4 5 rfl rfl)
theorem dX13_rank_101 : decode cX13_rank 101 = .ok (.ishl, 1) := dk_120 (dk_at dksX13_rank_4 6 rfl rfl)
theorem dX13_rank_102 : decode cX13_rank 102 = .ok (.iconst (-1), 1) := dk_2 (dk_at dksX13_rank_4 7 rfl rfl)
theorem dX13_rank_103 : decode cX13_rank 103 = .ok (.ixor, 1) := dk_130 (dk_at dksX13_rank_4 8 rfl rfl)
theorem dX13_rank_104 : decode cX13_rank 104 = .ok (.iand, 1) := dk_126 (dk_at dksX13_rank_4 9 rfl rfl)
theorem dX13_rank_105 : decode cX13_rank 105 = .ok (.iastore, 1) := dk_79 (dk_at dksX13_rank_4 10 rfl rfl)
theorem dX13_rank_106 : decode cX13_rank 106 = .ok (.aload_n 0, 1) := dk_42 (dk_at dksX13_rank_4 11 rfl rfl)
theorem dX13_rank_107 : decode cX13_rank 107 = .ok (.getfield 22, 3) := dk_180 0 22 (dk_at dksX13_rank_4 12 rfl rfl)
theorem dX13_rank_110 : decode cX13_rank 110 = .ok (.iload 4, 2) := dk_21 4 (dk_at dksX13_rank_4 15 rfl rfl)
theorem dX13_rank_112 : decode cX13_rank 112 = .ok (.iaload, 1) := dk_46 (dk_at dksX13_rank_4 17 rfl rfl)
theorem dX13_rank_113 : decode cX13_rank 113 = .ok (.invokestatic 142, 3) := dk_184 0 142 (dk_at dksX13_rank_4 18 rfl rfl)
theorem dX13_rank_116 : decode cX13_rank 116 = .ok (.iconst 1, 1) := dk_4 (dk_at dksX13_rank_4 21 rfl rfl)
theorem dX13_rank_117 : decode cX13_rank 117 = .ok (.if_icmp .ne 14, 3) := dk_160 0 14 (dk_at dksX13_rank_5 0 rfl rfl)
theorem dX13_rank_120 : decode cX13_rank 120 = .ok (.aload_n 0, 1) := dk_42 (dk_at dksX13_rank_5 3 rfl rfl)
theorem dX13_rank_121 : decode cX13_rank 121 = .ok (.getfield 34, 3) := dk_180 0 34 (dk_at dksX13_rank_5 4 rfl rfl)
theorem dX13_rank_124 : decode cX13_rank 124 = .ok (.iload_n 2, 1) := dk_28 (dk_at dksX13_rank_5 7 rfl rfl)
theorem dX13_rank_125 : decode cX13_rank 125 = .ok (.iload 4, 2) := dk_21 4 (dk_at dksX13_rank_5 8 rfl rfl)
theorem dX13_rank_127 : decode cX13_rank 127 = .ok (.iastore, 1) := dk_79 (dk_at dksX13_rank_5 10 rfl rfl)
theorem dX13_rank_128 : decode cX13_rank 128 = .ok (.iinc 2 1, 3) := dk_132 2 1 (dk_at dksX13_rank_5 11 rfl rfl)
theorem dX13_rank_131 : decode cX13_rank 131 = .ok (.iinc 3 1, 3) := dk_132 3 1 (dk_at dksX13_rank_5 14 rfl rfl)
theorem dX13_rank_134 : decode cX13_rank 134 = .ok (.goto (-72), 3) := dk_167 255 184 (dk_at dksX13_rank_5 17 rfl rfl)
theorem dX13_rank_137 : decode cX13_rank 137 = .ok (.iload_n 1, 1) := dk_27 (dk_at dksX13_rank_5 20 rfl rfl)
theorem dX13_rank_138 : decode cX13_rank 138 = .ok (.iload_n 2, 1) := dk_28 (dk_at dksX13_rank_5 21 rfl rfl)
theorem dX13_rank_139 : decode cX13_rank 139 = .ok (.if_icmp .ge 12, 3) := dk_162 0 12 (dk_at dksX13_rank_6 0 rfl rfl)
theorem dX13_rank_142 : decode cX13_rank 142 = .ok (.aload_n 0, 1) := dk_42 (dk_at dksX13_rank_6 3 rfl rfl)
theorem dX13_rank_143 : decode cX13_rank 143 = .ok (.getfield 34, 3) := dk_180 0 34 (dk_at dksX13_rank_6 4 rfl rfl)
theorem dX13_rank_146 : decode cX13_rank 146 = .ok (.iload_n 1, 1) := dk_27 (dk_at dksX13_rank_6 7 rfl rfl)
theorem dX13_rank_147 : decode cX13_rank 147 = .ok (.iaload, 1) := dk_46 (dk_at dksX13_rank_6 8 rfl rfl)
theorem dX13_rank_148 : decode cX13_rank 148 = .ok (.goto 5, 3) := dk_167 0 5 (dk_at dksX13_rank_6 9 rfl rfl)
theorem dX13_rank_151 : decode cX13_rank 151 = .ok (.bipush (-99), 2) := dk_16 157 (dk_at dksX13_rank_6 12 rfl rfl)
theorem dX13_rank_153 : decode cX13_rank 153 = .ok (.ireturn, 1) := dk_172 (dk_at dksX13_rank_6 14 rfl rfl)
abbrev cX13_suppose : ByteArray := prog_28_method_119_code
def yX13_suppose : MethodName := ⟨RX13, "suppose", "(III)I"⟩
def dkwX13_suppose_3 : List UInt8 := [182, 0, 207, 167, 0, 7, 42, 180, 0, 198, 172]
abbrev dktX13_suppose_3 : List UInt8 := dkwX13_suppose_3 ++ []
def dkwX13_suppose_2 : List UInt8 := [42, 180, 0, 22, 27, 4, 28, 120, 79, 42, 42, 180, 0, 7, 5, 46, 182, 0, 204, 29, 154, 0, 10, 42]
abbrev dktX13_suppose_2 : List UInt8 := dkwX13_suppose_2 ++ dktX13_suppose_3
def dkwX13_suppose_1 : List UInt8 := [172, 42, 180, 0, 7, 16, 93, 27, 96, 46, 28, 184, 0, 54, 154, 0, 6, 16, 254, 172, 42, 182, 0, 237]
abbrev dktX13_suppose_1 : List UInt8 := dkwX13_suppose_1 ++ dktX13_suppose_2
def dkwX13_suppose_0 : List UInt8 := [42, 3, 181, 0, 43, 42, 27, 28, 182, 0, 234, 153, 0, 12, 29, 3, 4, 184, 0, 65, 154, 0, 5, 2]
abbrev dktX13_suppose_0 : List UInt8 := dkwX13_suppose_0 ++ dktX13_suppose_1
theorem dksX13_suppose_0 : cX13_suppose.data.toList.drop 0 = dktX13_suppose_0 := by decide +kernel
theorem dksX13_suppose_1 : cX13_suppose.data.toList.drop 24 = dktX13_suppose_1 := dk_seg dksX13_suppose_0 24 rfl rfl
theorem dksX13_suppose_2 : cX13_suppose.data.toList.drop 48 = dktX13_suppose_2 := dk_seg dksX13_suppose_1 24 rfl rfl
theorem dksX13_suppose_3 : cX13_suppose.data.toList.drop 72 = dktX13_suppose_3 := dk_seg dksX13_suppose_2 24 rfl rfl
theorem dX13_suppose_0 : decode cX13_suppose 0 = .ok (.aload_n 0, 1) := dk_42 (dk_at dksX13_suppose_0 0 rfl rfl)
theorem dX13_suppose_1 : decode cX13_suppose 1 = .ok (.iconst 0, 1) := dk_3 (dk_at dksX13_suppose_0 1 rfl rfl)
theorem dX13_suppose_2 : decode cX13_suppose 2 = .ok (.putfield 43, 3) := dk_181 0 43 (dk_at dksX13_suppose_0 2 rfl rfl)
theorem dX13_suppose_5 : decode cX13_suppose 5 = .ok (.aload_n 0, 1) := dk_42 (dk_at dksX13_suppose_0 5 rfl rfl)
theorem dX13_suppose_6 : decode cX13_suppose 6 = .ok (.iload_n 1, 1) := dk_27 (dk_at dksX13_suppose_0 6 rfl rfl)
theorem dX13_suppose_7 : decode cX13_suppose 7 = .ok (.iload_n 2, 1) := dk_28 (dk_at dksX13_suppose_0 7 rfl rfl)
theorem dX13_suppose_8 : decode cX13_suppose 8 = .ok (.invokevirtual 234, 3) := dk_182 0 234 (dk_at dksX13_suppose_0 8 rfl rfl)
theorem dX13_suppose_11 : decode cX13_suppose 11 = .ok (.ifCond .eq 12, 3) := dk_153 0 12 (dk_at dksX13_suppose_0 11 rfl rfl)
theorem dX13_suppose_14 : decode cX13_suppose 14 = .ok (.iload_n 3, 1) := dk_29 (dk_at dksX13_suppose_0 14 rfl rfl)
theorem dX13_suppose_15 : decode cX13_suppose 15 = .ok (.iconst 0, 1) := dk_3 (dk_at dksX13_suppose_0 15 rfl rfl)
theorem dX13_suppose_16 : decode cX13_suppose 16 = .ok (.iconst 1, 1) := dk_4 (dk_at dksX13_suppose_0 16 rfl rfl)
theorem dX13_suppose_17 : decode cX13_suppose 17 = .ok (.invokestatic 65, 3) := dk_184 0 65 (dk_at dksX13_suppose_0 17 rfl rfl)
theorem dX13_suppose_20 : decode cX13_suppose 20 = .ok (.ifCond .ne 5, 3) := dk_154 0 5 (dk_at dksX13_suppose_0 20 rfl rfl)
theorem dX13_suppose_23 : decode cX13_suppose 23 = .ok (.iconst (-1), 1) := dk_2 (dk_at dksX13_suppose_0 23 rfl rfl)
theorem dX13_suppose_24 : decode cX13_suppose 24 = .ok (.ireturn, 1) := dk_172 (dk_at dksX13_suppose_1 0 rfl rfl)
theorem dX13_suppose_25 : decode cX13_suppose 25 = .ok (.aload_n 0, 1) := dk_42 (dk_at dksX13_suppose_1 1 rfl rfl)
theorem dX13_suppose_26 : decode cX13_suppose 26 = .ok (.getfield 7, 3) := dk_180 0 7 (dk_at dksX13_suppose_1 2 rfl rfl)
theorem dX13_suppose_29 : decode cX13_suppose 29 = .ok (.bipush 93, 2) := dk_16 93 (dk_at dksX13_suppose_1 5 rfl rfl)
theorem dX13_suppose_31 : decode cX13_suppose 31 = .ok (.iload_n 1, 1) := dk_27 (dk_at dksX13_suppose_1 7 rfl rfl)
theorem dX13_suppose_32 : decode cX13_suppose 32 = .ok (.iadd, 1) := dk_96 (dk_at dksX13_suppose_1 8 rfl rfl)
theorem dX13_suppose_33 : decode cX13_suppose 33 = .ok (.iaload, 1) := dk_46 (dk_at dksX13_suppose_1 9 rfl rfl)
theorem dX13_suppose_34 : decode cX13_suppose 34 = .ok (.iload_n 2, 1) := dk_28 (dk_at dksX13_suppose_1 10 rfl rfl)
theorem dX13_suppose_35 : decode cX13_suppose 35 = .ok (.invokestatic 54, 3) := dk_184 0 54 (dk_at dksX13_suppose_1 11 rfl rfl)
theorem dX13_suppose_38 : decode cX13_suppose 38 = .ok (.ifCond .ne 6, 3) := dk_154 0 6 (dk_at dksX13_suppose_1 14 rfl rfl)
theorem dX13_suppose_41 : decode cX13_suppose 41 = .ok (.bipush (-2), 2) := dk_16 254 (dk_at dksX13_suppose_1 17 rfl rfl)
theorem dX13_suppose_43 : decode cX13_suppose 43 = .ok (.ireturn, 1) := dk_172 (dk_at dksX13_suppose_1 19 rfl rfl)
theorem dX13_suppose_44 : decode cX13_suppose 44 = .ok (.aload_n 0, 1) := dk_42 (dk_at dksX13_suppose_1 20 rfl rfl)
theorem dX13_suppose_45 : decode cX13_suppose 45 = .ok (.invokevirtual 237, 3) := dk_182 0 237 (dk_at dksX13_suppose_1 21 rfl rfl)
theorem dX13_suppose_48 : decode cX13_suppose 48 = .ok (.aload_n 0, 1) := dk_42 (dk_at dksX13_suppose_2 0 rfl rfl)
theorem dX13_suppose_49 : decode cX13_suppose 49 = .ok (.getfield 22, 3) := dk_180 0 22 (dk_at dksX13_suppose_2 1 rfl rfl)
theorem dX13_suppose_52 : decode cX13_suppose 52 = .ok (.iload_n 1, 1) := dk_27 (dk_at dksX13_suppose_2 4 rfl rfl)
theorem dX13_suppose_53 : decode cX13_suppose 53 = .ok (.iconst 1, 1) := dk_4 (dk_at dksX13_suppose_2 5 rfl rfl)
theorem dX13_suppose_54 : decode cX13_suppose 54 = .ok (.iload_n 2, 1) := dk_28 (dk_at dksX13_suppose_2 6 rfl rfl)
theorem dX13_suppose_55 : decode cX13_suppose 55 = .ok (.ishl, 1) := dk_120 (dk_at dksX13_suppose_2 7 rfl rfl)
theorem dX13_suppose_56 : decode cX13_suppose 56 = .ok (.iastore, 1) := dk_79 (dk_at dksX13_suppose_2 8 rfl rfl)
theorem dX13_suppose_57 : decode cX13_suppose 57 = .ok (.aload_n 0, 1) := dk_42 (dk_at dksX13_suppose_2 9 rfl rfl)
theorem dX13_suppose_58 : decode cX13_suppose 58 = .ok (.aload_n 0, 1) := dk_42 (dk_at dksX13_suppose_2 10 rfl rfl)
theorem dX13_suppose_59 : decode cX13_suppose 59 = .ok (.getfield 7, 3) := dk_180 0 7 (dk_at dksX13_suppose_2 11 rfl rfl)
theorem dX13_suppose_62 : decode cX13_suppose 62 = .ok (.iconst 2, 1) := dk_5 (dk_at dksX13_suppose_2 14 rfl rfl)
theorem dX13_suppose_63 : decode cX13_suppose 63 = .ok (.iaload, 1) := dk_46 (dk_at dksX13_suppose_2 15 rfl rfl)
theorem dX13_suppose_64 : decode cX13_suppose 64 = .ok (.invokevirtual 204, 3) := dk_182 0 204 (dk_at dksX13_suppose_2 16 rfl rfl)
theorem dX13_suppose_67 : decode cX13_suppose 67 = .ok (.iload_n 3, 1) := dk_29 (dk_at dksX13_suppose_2 19 rfl rfl)
theorem dX13_suppose_68 : decode cX13_suppose 68 = .ok (.ifCond .ne 10, 3) := dk_154 0 10 (dk_at dksX13_suppose_2 20 rfl rfl)
theorem dX13_suppose_71 : decode cX13_suppose 71 = .ok (.aload_n 0, 1) := dk_42 (dk_at dksX13_suppose_2 23 rfl rfl)
theorem dX13_suppose_72 : decode cX13_suppose 72 = .ok (.invokevirtual 207, 3) := dk_182 0 207 (dk_at dksX13_suppose_3 0 rfl rfl)
theorem dX13_suppose_75 : decode cX13_suppose 75 = .ok (.goto 7, 3) := dk_167 0 7 (dk_at dksX13_suppose_3 3 rfl rfl)
theorem dX13_suppose_78 : decode cX13_suppose 78 = .ok (.aload_n 0, 1) := dk_42 (dk_at dksX13_suppose_3 6 rfl rfl)
theorem dX13_suppose_79 : decode cX13_suppose 79 = .ok (.getfield 198, 3) := dk_180 0 198 (dk_at dksX13_suppose_3 7 rfl rfl)
theorem dX13_suppose_82 : decode cX13_suppose 82 = .ok (.ireturn, 1) := dk_172 (dk_at dksX13_suppose_3 10 rfl rfl)
abbrev cX13_needed : ByteArray := prog_28_method_120_code
def yX13_needed : MethodName := ⟨RX13, "needed", "(II)I"⟩
def dkwX13_needed_4 : List UInt8 := [42, 180, 0, 7, 29, 4, 79, 21, 4, 172]
abbrev dktX13_needed_4 : List UInt8 := dkwX13_needed_4 ++ []
def dkwX13_needed_3 : List UInt8 := [16, 254, 172, 42, 180, 0, 7, 29, 3, 79, 42, 182, 0, 228, 153, 0, 7, 3, 167, 0, 4, 4, 54, 4]
abbrev dktX13_needed_3 : List UInt8 := dkwX13_needed_3 ++ dktX13_needed_4
def dkwX13_needed_2 : List UInt8 := [167, 0, 5, 16, 83, 28, 96, 62, 42, 180, 0, 7, 29, 46, 153, 0, 10, 42, 182, 0, 228, 154, 0, 6]
abbrev dktX13_needed_2 : List UInt8 := dkwX13_needed_2 ++ dktX13_needed_3
def dkwX13_needed_1 : List UInt8 := [153, 0, 14, 167, 0, 13, 42, 28, 182, 0, 216, 154, 0, 5, 2, 172, 27, 154, 0, 8, 16, 58]
abbrev dktX13_needed_1 : List UInt8 := dkwX13_needed_1 ++ dktX13_needed_2
def dkwX13_needed_0 : List UInt8 := [42, 3, 181, 0, 43, 27, 3, 4, 184, 0, 65, 153, 0, 26, 27, 154, 0, 14, 42, 28, 182, 0, 108]
abbrev dktX13_needed_0 : List UInt8 := dkwX13_needed_0 ++ dktX13_needed_1
theorem dksX13_needed_0 : cX13_needed.data.toList.drop 0 = dktX13_needed_0 := by decide +kernel
theorem dksX13_needed_1 : cX13_needed.data.toList.drop 23 = dktX13_needed_1 := dk_seg dksX13_needed_0 23 rfl rfl
theorem dksX13_needed_2 : cX13_needed.data.toList.drop 45 = dktX13_needed_2 := dk_seg dksX13_needed_1 22 rfl rfl
theorem dksX13_needed_3 : cX13_needed.data.toList.drop 69 = dktX13_needed_3 := dk_seg dksX13_needed_2 24 rfl rfl
theorem dksX13_needed_4 : cX13_needed.data.toList.drop 93 = dktX13_needed_4 := dk_seg dksX13_needed_3 24 rfl rfl
theorem dX13_needed_0 : decode cX13_needed 0 = .ok (.aload_n 0, 1) := dk_42 (dk_at dksX13_needed_0 0 rfl rfl)
theorem dX13_needed_1 : decode cX13_needed 1 = .ok (.iconst 0, 1) := dk_3 (dk_at dksX13_needed_0 1 rfl rfl)
theorem dX13_needed_2 : decode cX13_needed 2 = .ok (.putfield 43, 3) := dk_181 0 43 (dk_at dksX13_needed_0 2 rfl rfl)
theorem dX13_needed_5 : decode cX13_needed 5 = .ok (.iload_n 1, 1) := dk_27 (dk_at dksX13_needed_0 5 rfl rfl)
theorem dX13_needed_6 : decode cX13_needed 6 = .ok (.iconst 0, 1) := dk_3 (dk_at dksX13_needed_0 6 rfl rfl)
theorem dX13_needed_7 : decode cX13_needed 7 = .ok (.iconst 1, 1) := dk_4 (dk_at dksX13_needed_0 7 rfl rfl)
theorem dX13_needed_8 : decode cX13_needed 8 = .ok (.invokestatic 65, 3) := dk_184 0 65 (dk_at dksX13_needed_0 8 rfl rfl)
theorem dX13_needed_11 : decode cX13_needed 11 = .ok (.ifCond .eq 26, 3) := dk_153 0 26 (dk_at dksX13_needed_0 11 rfl rfl)
theorem dX13_needed_14 : decode cX13_needed 14 = .ok (.iload_n 1, 1) := dk_27 (dk_at dksX13_needed_0 14 rfl rfl)
theorem dX13_needed_15 : decode cX13_needed 15 = .ok (.ifCond .ne 14, 3) := dk_154 0 14 (dk_at dksX13_needed_0 15 rfl rfl)
theorem dX13_needed_18 : decode cX13_needed 18 = .ok (.aload_n 0, 1) := dk_42 (dk_at dksX13_needed_0 18 rfl rfl)
theorem dX13_needed_19 : decode cX13_needed 19 = .ok (.iload_n 2, 1) := dk_28 (dk_at dksX13_needed_0 19 rfl rfl)
theorem dX13_needed_20 : decode cX13_needed 20 = .ok (.invokevirtual 108, 3) := dk_182 0 108 (dk_at dksX13_needed_0 20 rfl rfl)
theorem dX13_needed_23 : decode cX13_needed 23 = .ok (.ifCond .eq 14, 3) := dk_153 0 14 (dk_at dksX13_needed_1 0 rfl rfl)
theorem dX13_needed_26 : decode cX13_needed 26 = .ok (.goto 13, 3) := dk_167 0 13 (dk_at dksX13_needed_1 3 rfl rfl)
theorem dX13_needed_29 : decode cX13_needed 29 = .ok (.aload_n 0, 1) := dk_42 (dk_at dksX13_needed_1 6 rfl rfl)
theorem dX13_needed_30 : decode cX13_needed 30 = .ok (.iload_n 2, 1) := dk_28 (dk_at dksX13_needed_1 7 rfl rfl)
theorem dX13_needed_31 : decode cX13_needed 31 = .ok (.invokevirtual 216, 3) := dk_182 0 216 (dk_at dksX13_needed_1 8 rfl rfl)
theorem dX13_needed_34 : decode cX13_needed 34 = .ok (.ifCond .ne 5, 3) := dk_154 0 5 (dk_at dksX13_needed_1 11 rfl rfl)
theorem dX13_needed_37 : decode cX13_needed 37 = .ok (.iconst (-1), 1) := dk_2 (dk_at dksX13_needed_1 14 rfl rfl)
theorem dX13_needed_38 : decode cX13_needed 38 = .ok (.ireturn, 1) := dk_172 (dk_at dksX13_needed_1 15 rfl rfl)
theorem dX13_needed_39 : decode cX13_needed 39 = .ok (.iload_n 1, 1) := dk_27 (dk_at dksX13_needed_1 16 rfl rfl)
theorem dX13_needed_40 : decode cX13_needed 40 = .ok (.ifCond .ne 8, 3) := dk_154 0 8 (dk_at dksX13_needed_1 17 rfl rfl)
theorem dX13_needed_43 : decode cX13_needed 43 = .ok (.bipush 58, 2) := dk_16 58 (dk_at dksX13_needed_1 20 rfl rfl)
theorem dX13_needed_45 : decode cX13_needed 45 = .ok (.goto 5, 3) := dk_167 0 5 (dk_at dksX13_needed_2 0 rfl rfl)
theorem dX13_needed_48 : decode cX13_needed 48 = .ok (.bipush 83, 2) := dk_16 83 (dk_at dksX13_needed_2 3 rfl rfl)
theorem dX13_needed_50 : decode cX13_needed 50 = .ok (.iload_n 2, 1) := dk_28 (dk_at dksX13_needed_2 5 rfl rfl)
theorem dX13_needed_51 : decode cX13_needed 51 = .ok (.iadd, 1) := dk_96 (dk_at dksX13_needed_2 6 rfl rfl)
theorem dX13_needed_52 : decode cX13_needed 52 = .ok (.istore_n 3, 1) := dk_62 (dk_at dksX13_needed_2 7 rfl rfl)
theorem dX13_needed_53 : decode cX13_needed 53 = .ok (.aload_n 0, 1) := dk_42 (dk_at dksX13_needed_2 8 rfl rfl)
theorem dX13_needed_54 : decode cX13_needed 54 = .ok (.getfield 7, 3) := dk_180 0 7 (dk_at dksX13_needed_2 9 rfl rfl)
theorem dX13_needed_57 : decode cX13_needed 57 = .ok (.iload_n 3, 1) := dk_29 (dk_at dksX13_needed_2 12 rfl rfl)
theorem dX13_needed_58 : decode cX13_needed 58 = .ok (.iaload, 1) := dk_46 (dk_at dksX13_needed_2 13 rfl rfl)
theorem dX13_needed_59 : decode cX13_needed 59 = .ok (.ifCond .eq 10, 3) := dk_153 0 10 (dk_at dksX13_needed_2 14 rfl rfl)
theorem dX13_needed_62 : decode cX13_needed 62 = .ok (.aload_n 0, 1) := dk_42 (dk_at dksX13_needed_2 17 rfl rfl)
theorem dX13_needed_63 : decode cX13_needed 63 = .ok (.invokevirtual 228, 3) := dk_182 0 228 (dk_at dksX13_needed_2 18 rfl rfl)
theorem dX13_needed_66 : decode cX13_needed 66 = .ok (.ifCond .ne 6, 3) := dk_154 0 6 (dk_at dksX13_needed_2 21 rfl rfl)
theorem dX13_needed_69 : decode cX13_needed 69 = .ok (.bipush (-2), 2) := dk_16 254 (dk_at dksX13_needed_3 0 rfl rfl)
theorem dX13_needed_71 : decode cX13_needed 71 = .ok (.ireturn, 1) := dk_172 (dk_at dksX13_needed_3 2 rfl rfl)
theorem dX13_needed_72 : decode cX13_needed 72 = .ok (.aload_n 0, 1) := dk_42 (dk_at dksX13_needed_3 3 rfl rfl)
theorem dX13_needed_73 : decode cX13_needed 73 = .ok (.getfield 7, 3) := dk_180 0 7 (dk_at dksX13_needed_3 4 rfl rfl)
theorem dX13_needed_76 : decode cX13_needed 76 = .ok (.iload_n 3, 1) := dk_29 (dk_at dksX13_needed_3 7 rfl rfl)
theorem dX13_needed_77 : decode cX13_needed 77 = .ok (.iconst 0, 1) := dk_3 (dk_at dksX13_needed_3 8 rfl rfl)
theorem dX13_needed_78 : decode cX13_needed 78 = .ok (.iastore, 1) := dk_79 (dk_at dksX13_needed_3 9 rfl rfl)
theorem dX13_needed_79 : decode cX13_needed 79 = .ok (.aload_n 0, 1) := dk_42 (dk_at dksX13_needed_3 10 rfl rfl)
theorem dX13_needed_80 : decode cX13_needed 80 = .ok (.invokevirtual 228, 3) := dk_182 0 228 (dk_at dksX13_needed_3 11 rfl rfl)
theorem dX13_needed_83 : decode cX13_needed 83 = .ok (.ifCond .eq 7, 3) := dk_153 0 7 (dk_at dksX13_needed_3 14 rfl rfl)
theorem dX13_needed_86 : decode cX13_needed 86 = .ok (.iconst 0, 1) := dk_3 (dk_at dksX13_needed_3 17 rfl rfl)
theorem dX13_needed_87 : decode cX13_needed 87 = .ok (.goto 4, 3) := dk_167 0 4 (dk_at dksX13_needed_3 18 rfl rfl)
theorem dX13_needed_90 : decode cX13_needed 90 = .ok (.iconst 1, 1) := dk_4 (dk_at dksX13_needed_3 21 rfl rfl)
theorem dX13_needed_91 : decode cX13_needed 91 = .ok (.istore 4, 2) := dk_54 4 (dk_at dksX13_needed_3 22 rfl rfl)
theorem dX13_needed_93 : decode cX13_needed 93 = .ok (.aload_n 0, 1) := dk_42 (dk_at dksX13_needed_4 0 rfl rfl)
theorem dX13_needed_94 : decode cX13_needed 94 = .ok (.getfield 7, 3) := dk_180 0 7 (dk_at dksX13_needed_4 1 rfl rfl)
theorem dX13_needed_97 : decode cX13_needed 97 = .ok (.iload_n 3, 1) := dk_29 (dk_at dksX13_needed_4 4 rfl rfl)
theorem dX13_needed_98 : decode cX13_needed 98 = .ok (.iconst 1, 1) := dk_4 (dk_at dksX13_needed_4 5 rfl rfl)
theorem dX13_needed_99 : decode cX13_needed 99 = .ok (.iastore, 1) := dk_79 (dk_at dksX13_needed_4 6 rfl rfl)
theorem dX13_needed_100 : decode cX13_needed 100 = .ok (.iload 4, 2) := dk_21 4 (dk_at dksX13_needed_4 7 rfl rfl)
theorem dX13_needed_102 : decode cX13_needed 102 = .ok (.ireturn, 1) := dk_172 (dk_at dksX13_needed_4 9 rfl rfl)
abbrev cX13_enough : ByteArray := prog_28_method_122_code
def yX13_enough : MethodName := ⟨RX13, "enough", "()I"⟩
def dkwX13_enough_4 : List UInt8 := [182, 0, 210, 153, 0, 7, 28, 167, 0, 4, 27, 60, 132, 2, 1, 167, 255, 157, 27, 172]
abbrev dktX13_enough_4 : List UInt8 := dkwX13_enough_4 ++ []
def dkwX13_enough_3 : List UInt8 := [182, 1, 82, 162, 0, 7, 4, 167, 0, 4, 3, 54, 4, 29, 153, 0, 20, 21, 4, 153, 0, 15, 42, 28]
abbrev dktX13_enough_3 : List UInt8 := dkwX13_enough_3 ++ dktX13_enough_4
def dkwX13_enough_2 : List UInt8 := [184, 0, 142, 161, 0, 27, 28, 184, 0, 142, 27, 184, 0, 142, 160, 0, 20, 42, 28, 182, 1, 82, 42, 27]
abbrev dktX13_enough_2 : List UInt8 := dkwX13_enough_2 ++ dktX13_enough_3
def dkwX13_enough_1 : List UInt8 := [130, 126, 154, 0, 7, 4, 167, 0, 4, 3, 62, 27, 16, 157, 159, 0, 38, 28, 184, 0, 142, 27]
abbrev dktX13_enough_1 : List UInt8 := dkwX13_enough_1 ++ dktX13_enough_2
def dkwX13_enough_0 : List UInt8 := [42, 3, 181, 0, 43, 16, 157, 60, 3, 61, 28, 16, 32, 162, 0, 99, 28, 42, 180, 0, 7, 5, 46, 2]
abbrev dktX13_enough_0 : List UInt8 := dkwX13_enough_0 ++ dktX13_enough_1
theorem dksX13_enough_0 : cX13_enough.data.toList.drop 0 = dktX13_enough_0 := by decide +kernel
theorem dksX13_enough_1 : cX13_enough.data.toList.drop 24 = dktX13_enough_1 := dk_seg dksX13_enough_0 24 rfl rfl
theorem dksX13_enough_2 : cX13_enough.data.toList.drop 46 = dktX13_enough_2 := dk_seg dksX13_enough_1 22 rfl rfl
theorem dksX13_enough_3 : cX13_enough.data.toList.drop 70 = dktX13_enough_3 := dk_seg dksX13_enough_2 24 rfl rfl
theorem dksX13_enough_4 : cX13_enough.data.toList.drop 94 = dktX13_enough_4 := dk_seg dksX13_enough_3 24 rfl rfl
theorem dX13_enough_0 : decode cX13_enough 0 = .ok (.aload_n 0, 1) := dk_42 (dk_at dksX13_enough_0 0 rfl rfl)
theorem dX13_enough_1 : decode cX13_enough 1 = .ok (.iconst 0, 1) := dk_3 (dk_at dksX13_enough_0 1 rfl rfl)
theorem dX13_enough_2 : decode cX13_enough 2 = .ok (.putfield 43, 3) := dk_181 0 43 (dk_at dksX13_enough_0 2 rfl rfl)
theorem dX13_enough_5 : decode cX13_enough 5 = .ok (.bipush (-99), 2) := dk_16 157 (dk_at dksX13_enough_0 5 rfl rfl)
theorem dX13_enough_7 : decode cX13_enough 7 = .ok (.istore_n 1, 1) := dk_60 (dk_at dksX13_enough_0 7 rfl rfl)
theorem dX13_enough_8 : decode cX13_enough 8 = .ok (.iconst 0, 1) := dk_3 (dk_at dksX13_enough_0 8 rfl rfl)
theorem dX13_enough_9 : decode cX13_enough 9 = .ok (.istore_n 2, 1) := dk_61 (dk_at dksX13_enough_0 9 rfl rfl)
theorem dX13_enough_10 : decode cX13_enough 10 = .ok (.iload_n 2, 1) := dk_28 (dk_at dksX13_enough_0 10 rfl rfl)
theorem dX13_enough_11 : decode cX13_enough 11 = .ok (.bipush 32, 2) := dk_16 32 (dk_at dksX13_enough_0 11 rfl rfl)
theorem dX13_enough_13 : decode cX13_enough 13 = .ok (.if_icmp .ge 99, 3) := dk_162 0 99 (dk_at dksX13_enough_0 13 rfl rfl)
theorem dX13_enough_16 : decode cX13_enough 16 = .ok (.iload_n 2, 1) := dk_28 (dk_at dksX13_enough_0 16 rfl rfl)
theorem dX13_enough_17 : decode cX13_enough 17 = .ok (.aload_n 0, 1) := dk_42 (dk_at dksX13_enough_0 17 rfl rfl)
theorem dX13_enough_18 : decode cX13_enough 18 = .ok (.getfield 7, 3) := dk_180 0 7 (dk_at dksX13_enough_0 18 rfl rfl)
theorem dX13_enough_21 : decode cX13_enough 21 = .ok (.iconst 2, 1) := dk_5 (dk_at dksX13_enough_0 21 rfl rfl)
theorem dX13_enough_22 : decode cX13_enough 22 = .ok (.iaload, 1) := dk_46 (dk_at dksX13_enough_0 22 rfl rfl)
theorem dX13_enough_23 : decode cX13_enough 23 = .ok (.iconst (-1), 1) := dk_2 (dk_at dksX13_enough_0 23 rfl rfl)
theorem dX13_enough_24 : decode cX13_enough 24 = .ok (.ixor, 1) := dk_130 (dk_at dksX13_enough_1 0 rfl rfl)
theorem dX13_enough_25 : decode cX13_enough 25 = .ok (.iand, 1) := dk_126 (dk_at dksX13_enough_1 1 rfl rfl)
theorem dX13_enough_26 : decode cX13_enough 26 = .ok (.ifCond .ne 7, 3) := dk_154 0 7 (dk_at dksX13_enough_1 2 rfl rfl)
theorem dX13_enough_29 : decode cX13_enough 29 = .ok (.iconst 1, 1) := dk_4 (dk_at dksX13_enough_1 5 rfl rfl)
theorem dX13_enough_30 : decode cX13_enough 30 = .ok (.goto 4, 3) := dk_167 0 4 (dk_at dksX13_enough_1 6 rfl rfl)
theorem dX13_enough_33 : decode cX13_enough 33 = .ok (.iconst 0, 1) := dk_3 (dk_at dksX13_enough_1 9 rfl rfl)
theorem dX13_enough_34 : decode cX13_enough 34 = .ok (.istore_n 3, 1) := dk_62 (dk_at dksX13_enough_1 10 rfl rfl)
theorem dX13_enough_35 : decode cX13_enough 35 = .ok (.iload_n 1, 1) := dk_27 (dk_at dksX13_enough_1 11 rfl rfl)
theorem dX13_enough_36 : decode cX13_enough 36 = .ok (.bipush (-99), 2) := dk_16 157 (dk_at dksX13_enough_1 12 rfl rfl)
theorem dX13_enough_38 : decode cX13_enough 38 = .ok (.if_icmp .eq 38, 3) := dk_159 0 38 (dk_at dksX13_enough_1 14 rfl rfl)
theorem dX13_enough_41 : decode cX13_enough 41 = .ok (.iload_n 2, 1) := dk_28 (dk_at dksX13_enough_1 17 rfl rfl)
theorem dX13_enough_42 : decode cX13_enough 42 = .ok (.invokestatic 142, 3) := dk_184 0 142 (dk_at dksX13_enough_1 18 rfl rfl)
theorem dX13_enough_45 : decode cX13_enough 45 = .ok (.iload_n 1, 1) := dk_27 (dk_at dksX13_enough_1 21 rfl rfl)
theorem dX13_enough_46 : decode cX13_enough 46 = .ok (.invokestatic 142, 3) := dk_184 0 142 (dk_at dksX13_enough_2 0 rfl rfl)
theorem dX13_enough_49 : decode cX13_enough 49 = .ok (.if_icmp .lt 27, 3) := dk_161 0 27 (dk_at dksX13_enough_2 3 rfl rfl)
theorem dX13_enough_52 : decode cX13_enough 52 = .ok (.iload_n 2, 1) := dk_28 (dk_at dksX13_enough_2 6 rfl rfl)
theorem dX13_enough_53 : decode cX13_enough 53 = .ok (.invokestatic 142, 3) := dk_184 0 142 (dk_at dksX13_enough_2 7 rfl rfl)
theorem dX13_enough_56 : decode cX13_enough 56 = .ok (.iload_n 1, 1) := dk_27 (dk_at dksX13_enough_2 10 rfl rfl)
theorem dX13_enough_57 : decode cX13_enough 57 = .ok (.invokestatic 142, 3) := dk_184 0 142 (dk_at dksX13_enough_2 11 rfl rfl)
theorem dX13_enough_60 : decode cX13_enough 60 = .ok (.if_icmp .ne 20, 3) := dk_160 0 20 (dk_at dksX13_enough_2 14 rfl rfl)
theorem dX13_enough_63 : decode cX13_enough 63 = .ok (.aload_n 0, 1) := dk_42 (dk_at dksX13_enough_2 17 rfl rfl)
theorem dX13_enough_64 : decode cX13_enough 64 = .ok (.iload_n 2, 1) := dk_28 (dk_at dksX13_enough_2 18 rfl rfl)
theorem dX13_enough_65 : decode cX13_enough 65 = .ok (.invokevirtual 338, 3) := dk_182 1 82 (dk_at dksX13_enough_2 19 rfl rfl)
theorem dX13_enough_68 : decode cX13_enough 68 = .ok (.aload_n 0, 1) := dk_42 (dk_at dksX13_enough_2 22 rfl rfl)
theorem dX13_enough_69 : decode cX13_enough 69 = .ok (.iload_n 1, 1) := dk_27 (dk_at dksX13_enough_2 23 rfl rfl)
theorem dX13_enough_70 : decode cX13_enough 70 = .ok (.invokevirtual 338, 3) := dk_182 1 82 (dk_at dksX13_enough_3 0 rfl rfl)
theorem dX13_enough_73 : decode cX13_enough 73 = .ok (.if_icmp .ge 7, 3) := dk_162 0 7 (dk_at dksX13_enough_3 3 rfl rfl)
theorem dX13_enough_76 : decode cX13_enough 76 = .ok (.iconst 1, 1) := dk_4 (dk_at dksX13_enough_3 6 rfl rfl)
theorem dX13_enough_77 : decode cX13_enough 77 = .ok (.goto 4, 3) := dk_167 0 4 (dk_at dksX13_enough_3 7 rfl rfl)
theorem dX13_enough_80 : decode cX13_enough 80 = .ok (.iconst 0, 1) := dk_3 (dk_at dksX13_enough_3 10 rfl rfl)
theorem dX13_enough_81 : decode cX13_enough 81 = .ok (.istore 4, 2) := dk_54 4 (dk_at dksX13_enough_3 11 rfl rfl)
theorem dX13_enough_83 : decode cX13_enough 83 = .ok (.iload_n 3, 1) := dk_29 (dk_at dksX13_enough_3 13 rfl rfl)
theorem dX13_enough_84 : decode cX13_enough 84 = .ok (.ifCond .eq 20, 3) := dk_153 0 20 (dk_at dksX13_enough_3 14 rfl rfl)
theorem dX13_enough_87 : decode cX13_enough 87 = .ok (.iload 4, 2) := dk_21 4 (dk_at dksX13_enough_3 17 rfl rfl)
theorem dX13_enough_89 : decode cX13_enough 89 = .ok (.ifCond .eq 15, 3) := dk_153 0 15 (dk_at dksX13_enough_3 19 rfl rfl)
theorem dX13_enough_92 : decode cX13_enough 92 = .ok (.aload_n 0, 1) := dk_42 (dk_at dksX13_enough_3 22 rfl rfl)
theorem dX13_enough_93 : decode cX13_enough 93 = .ok (.iload_n 2, 1) := dk_28 (dk_at dksX13_enough_3 23 rfl rfl)
theorem dX13_enough_94 : decode cX13_enough 94 = .ok (.invokevirtual 210, 3) := dk_182 0 210 (dk_at dksX13_enough_4 0 rfl rfl)
theorem dX13_enough_97 : decode cX13_enough 97 = .ok (.ifCond .eq 7, 3) := dk_153 0 7 (dk_at dksX13_enough_4 3 rfl rfl)
theorem dX13_enough_100 : decode cX13_enough 100 = .ok (.iload_n 2, 1) := dk_28 (dk_at dksX13_enough_4 6 rfl rfl)
theorem dX13_enough_101 : decode cX13_enough 101 = .ok (.goto 4, 3) := dk_167 0 4 (dk_at dksX13_enough_4 7 rfl rfl)
theorem dX13_enough_104 : decode cX13_enough 104 = .ok (.iload_n 1, 1) := dk_27 (dk_at dksX13_enough_4 10 rfl rfl)
theorem dX13_enough_105 : decode cX13_enough 105 = .ok (.istore_n 1, 1) := dk_60 (dk_at dksX13_enough_4 11 rfl rfl)
theorem dX13_enough_106 : decode cX13_enough 106 = .ok (.iinc 2 1, 3) := dk_132 2 1 (dk_at dksX13_enough_4 12 rfl rfl)
theorem dX13_enough_109 : decode cX13_enough 109 = .ok (.goto (-99), 3) := dk_167 255 157 (dk_at dksX13_enough_4 15 rfl rfl)
theorem dX13_enough_112 : decode cX13_enough 112 = .ok (.iload_n 1, 1) := dk_27 (dk_at dksX13_enough_4 18 rfl rfl)
theorem dX13_enough_113 : decode cX13_enough 113 = .ok (.ireturn, 1) := dk_172 (dk_at dksX13_enough_4 19 rfl rfl)
abbrev cX13_costOf : ByteArray := prog_28_method_121_code
def yX13_costOf : MethodName := ⟨RX13, "costOf", "(I)I"⟩
def dkwX13_costOf_1 : List UInt8 := [96, 46, 167, 0, 4, 3, 96, 61, 132, 3, 1, 167, 255, 225, 28, 172]
abbrev dktX13_costOf_1 : List UInt8 := dkwX13_costOf_1 ++ []
def dkwX13_costOf_0 : List UInt8 := [3, 61, 3, 62, 29, 8, 162, 0, 32, 28, 27, 29, 184, 0, 54, 153, 0, 14, 42, 180, 0, 7, 6, 29]
abbrev dktX13_costOf_0 : List UInt8 := dkwX13_costOf_0 ++ dktX13_costOf_1
theorem dksX13_costOf_0 : cX13_costOf.data.toList.drop 0 = dktX13_costOf_0 := by decide +kernel
theorem dksX13_costOf_1 : cX13_costOf.data.toList.drop 24 = dktX13_costOf_1 := dk_seg dksX13_costOf_0 24 rfl rfl
theorem dX13_costOf_0 : decode cX13_costOf 0 = .ok (.iconst 0, 1) := dk_3 (dk_at dksX13_costOf_0 0 rfl rfl)
theorem dX13_costOf_1 : decode cX13_costOf 1 = .ok (.istore_n 2, 1) := dk_61 (dk_at dksX13_costOf_0 1 rfl rfl)
theorem dX13_costOf_2 : decode cX13_costOf 2 = .ok (.iconst 0, 1) := dk_3 (dk_at dksX13_costOf_0 2 rfl rfl)
theorem dX13_costOf_3 : decode cX13_costOf 3 = .ok (.istore_n 3, 1) := dk_62 (dk_at dksX13_costOf_0 3 rfl rfl)
theorem dX13_costOf_4 : decode cX13_costOf 4 = .ok (.iload_n 3, 1) := dk_29 (dk_at dksX13_costOf_0 4 rfl rfl)
theorem dX13_costOf_5 : decode cX13_costOf 5 = .ok (.iconst 5, 1) := dk_8 (dk_at dksX13_costOf_0 5 rfl rfl)
theorem dX13_costOf_6 : decode cX13_costOf 6 = .ok (.if_icmp .ge 32, 3) := dk_162 0 32 (dk_at dksX13_costOf_0 6 rfl rfl)
theorem dX13_costOf_9 : decode cX13_costOf 9 = .ok (.iload_n 2, 1) := dk_28 (dk_at dksX13_costOf_0 9 rfl rfl)
theorem dX13_costOf_10 : decode cX13_costOf 10 = .ok (.iload_n 1, 1) := dk_27 (dk_at dksX13_costOf_0 10 rfl rfl)
theorem dX13_costOf_11 : decode cX13_costOf 11 = .ok (.iload_n 3, 1) := dk_29 (dk_at dksX13_costOf_0 11 rfl rfl)
theorem dX13_costOf_12 : decode cX13_costOf 12 = .ok (.invokestatic 54, 3) := dk_184 0 54 (dk_at dksX13_costOf_0 12 rfl rfl)
theorem dX13_costOf_15 : decode cX13_costOf 15 = .ok (.ifCond .eq 14, 3) := dk_153 0 14 (dk_at dksX13_costOf_0 15 rfl rfl)
theorem dX13_costOf_18 : decode cX13_costOf 18 = .ok (.aload_n 0, 1) := dk_42 (dk_at dksX13_costOf_0 18 rfl rfl)
theorem dX13_costOf_19 : decode cX13_costOf 19 = .ok (.getfield 7, 3) := dk_180 0 7 (dk_at dksX13_costOf_0 19 rfl rfl)
theorem dX13_costOf_22 : decode cX13_costOf 22 = .ok (.iconst 3, 1) := dk_6 (dk_at dksX13_costOf_0 22 rfl rfl)
theorem dX13_costOf_23 : decode cX13_costOf 23 = .ok (.iload_n 3, 1) := dk_29 (dk_at dksX13_costOf_0 23 rfl rfl)
theorem dX13_costOf_24 : decode cX13_costOf 24 = .ok (.iadd, 1) := dk_96 (dk_at dksX13_costOf_1 0 rfl rfl)
theorem dX13_costOf_25 : decode cX13_costOf 25 = .ok (.iaload, 1) := dk_46 (dk_at dksX13_costOf_1 1 rfl rfl)
theorem dX13_costOf_26 : decode cX13_costOf 26 = .ok (.goto 4, 3) := dk_167 0 4 (dk_at dksX13_costOf_1 2 rfl rfl)
theorem dX13_costOf_29 : decode cX13_costOf 29 = .ok (.iconst 0, 1) := dk_3 (dk_at dksX13_costOf_1 5 rfl rfl)
theorem dX13_costOf_30 : decode cX13_costOf 30 = .ok (.iadd, 1) := dk_96 (dk_at dksX13_costOf_1 6 rfl rfl)
theorem dX13_costOf_31 : decode cX13_costOf 31 = .ok (.istore_n 2, 1) := dk_61 (dk_at dksX13_costOf_1 7 rfl rfl)
theorem dX13_costOf_32 : decode cX13_costOf 32 = .ok (.iinc 3 1, 3) := dk_132 3 1 (dk_at dksX13_costOf_1 8 rfl rfl)
theorem dX13_costOf_35 : decode cX13_costOf 35 = .ok (.goto (-31), 3) := dk_167 255 225 (dk_at dksX13_costOf_1 11 rfl rfl)
theorem dX13_costOf_38 : decode cX13_costOf 38 = .ok (.iload_n 2, 1) := dk_28 (dk_at dksX13_costOf_1 14 rfl rfl)
theorem dX13_costOf_39 : decode cX13_costOf 39 = .ok (.ireturn, 1) := dk_172 (dk_at dksX13_costOf_1 15 rfl rfl)
abbrev cX13_printed : ByteArray := prog_28_method_125_code
def yX13_printed : MethodName := ⟨RX13, "printed", "(II)I"⟩
def dkwX13_printed_7 : List UInt8 := [180, 0, 40, 28, 46, 167, 0, 5, 16, 157, 172]
abbrev dktX13_printed_7 : List UInt8 := dkwX13_printed_7 ++ []
def dkwX13_printed_6 : List UInt8 := [162, 0, 14, 42, 16, 32, 182, 1, 88, 42, 27, 182, 1, 91, 28, 42, 180, 1, 85, 162, 0, 12, 42]
abbrev dktX13_printed_6 : List UInt8 := dkwX13_printed_6 ++ dktX13_printed_7
def dkwX13_printed_5 : List UInt8 := [162, 0, 9, 42, 16, 32, 182, 1, 88, 132, 3, 1, 167, 255, 161, 27, 42, 180, 0, 7, 3, 46]
abbrev dktX13_printed_5 : List UInt8 := dkwX13_printed_5 ++ dktX13_printed_6
def dkwX13_printed_4 : List UInt8 := [182, 1, 88, 167, 0, 28, 42, 27, 29, 96, 182, 1, 91, 29, 42, 180, 0, 7, 4, 46, 4, 100]
abbrev dktX13_printed_4 : List UInt8 := dkwX13_printed_4 ++ dktX13_printed_5
def dkwX13_printed_3 : List UInt8 := [21, 4, 96, 46, 4, 160, 0, 15, 16, 48, 42, 21, 4, 182, 0, 99, 96, 167, 0, 5, 16, 46]
abbrev dktX13_printed_3 : List UInt8 := dkwX13_printed_3 ++ dktX13_printed_4
def dkwX13_printed_2 : List UInt8 := [46, 162, 0, 50, 42, 180, 0, 7, 4, 46, 27, 104, 29, 96, 54, 4, 42, 42, 180, 0, 7, 16, 58]
abbrev dktX13_printed_2 : List UInt8 := dkwX13_printed_2 ++ dktX13_printed_3
def dkwX13_printed_1 : List UInt8 := [172, 42, 3, 181, 1, 85, 3, 62, 29, 42, 180, 0, 7, 4, 46, 162, 0, 91, 27, 42, 180, 0, 7, 3]
abbrev dktX13_printed_1 : List UInt8 := dkwX13_printed_1 ++ dktX13_printed_2
def dkwX13_printed_0 : List UInt8 := [42, 3, 181, 0, 43, 27, 3, 42, 180, 0, 7, 3, 46, 184, 0, 65, 153, 0, 7, 28, 156, 0, 5, 2]
abbrev dktX13_printed_0 : List UInt8 := dkwX13_printed_0 ++ dktX13_printed_1
theorem dksX13_printed_0 : cX13_printed.data.toList.drop 0 = dktX13_printed_0 := by decide +kernel
theorem dksX13_printed_1 : cX13_printed.data.toList.drop 24 = dktX13_printed_1 := dk_seg dksX13_printed_0 24 rfl rfl
theorem dksX13_printed_2 : cX13_printed.data.toList.drop 48 = dktX13_printed_2 := dk_seg dksX13_printed_1 24 rfl rfl
theorem dksX13_printed_3 : cX13_printed.data.toList.drop 71 = dktX13_printed_3 := dk_seg dksX13_printed_2 23 rfl rfl
theorem dksX13_printed_4 : cX13_printed.data.toList.drop 93 = dktX13_printed_4 := dk_seg dksX13_printed_3 22 rfl rfl
theorem dksX13_printed_5 : cX13_printed.data.toList.drop 115 = dktX13_printed_5 := dk_seg dksX13_printed_4 22 rfl rfl
theorem dksX13_printed_6 : cX13_printed.data.toList.drop 137 = dktX13_printed_6 := dk_seg dksX13_printed_5 22 rfl rfl
theorem dksX13_printed_7 : cX13_printed.data.toList.drop 160 = dktX13_printed_7 := dk_seg dksX13_printed_6 23 rfl rfl
theorem dX13_printed_0 : decode cX13_printed 0 = .ok (.aload_n 0, 1) := dk_42 (dk_at dksX13_printed_0 0 rfl rfl)
theorem dX13_printed_1 : decode cX13_printed 1 = .ok (.iconst 0, 1) := dk_3 (dk_at dksX13_printed_0 1 rfl rfl)
theorem dX13_printed_2 : decode cX13_printed 2 = .ok (.putfield 43, 3) := dk_181 0 43 (dk_at dksX13_printed_0 2 rfl rfl)
theorem dX13_printed_5 : decode cX13_printed 5 = .ok (.iload_n 1, 1) := dk_27 (dk_at dksX13_printed_0 5 rfl rfl)
theorem dX13_printed_6 : decode cX13_printed 6 = .ok (.iconst 0, 1) := dk_3 (dk_at dksX13_printed_0 6 rfl rfl)
theorem dX13_printed_7 : decode cX13_printed 7 = .ok (.aload_n 0, 1) := dk_42 (dk_at dksX13_printed_0 7 rfl rfl)
theorem dX13_printed_8 : decode cX13_printed 8 = .ok (.getfield 7, 3) := dk_180 0 7 (dk_at dksX13_printed_0 8 rfl rfl)
theorem dX13_printed_11 : decode cX13_printed 11 = .ok (.iconst 0, 1) := dk_3 (dk_at dksX13_printed_0 11 rfl rfl)
theorem dX13_printed_12 : decode cX13_printed 12 = .ok (.iaload, 1) := dk_46 (dk_at dksX13_printed_0 12 rfl rfl)
theorem dX13_printed_13 : decode cX13_printed 13 = .ok (.invokestatic 65, 3) := dk_184 0 65 (dk_at dksX13_printed_0 13 rfl rfl)
theorem dX13_printed_16 : decode cX13_printed 16 = .ok (.ifCond .eq 7, 3) := dk_153 0 7 (dk_at dksX13_printed_0 16 rfl rfl)
theorem dX13_printed_19 : decode cX13_printed 19 = .ok (.iload_n 2, 1) := dk_28 (dk_at dksX13_printed_0 19 rfl rfl)
theorem dX13_printed_20 : decode cX13_printed 20 = .ok (.ifCond .ge 5, 3) := dk_156 0 5 (dk_at dksX13_printed_0 20 rfl rfl)
theorem dX13_printed_23 : decode cX13_printed 23 = .ok (.iconst (-1), 1) := dk_2 (dk_at dksX13_printed_0 23 rfl rfl)
theorem dX13_printed_24 : decode cX13_printed 24 = .ok (.ireturn, 1) := dk_172 (dk_at dksX13_printed_1 0 rfl rfl)
theorem dX13_printed_25 : decode cX13_printed 25 = .ok (.aload_n 0, 1) := dk_42 (dk_at dksX13_printed_1 1 rfl rfl)
theorem dX13_printed_26 : decode cX13_printed 26 = .ok (.iconst 0, 1) := dk_3 (dk_at dksX13_printed_1 2 rfl rfl)
theorem dX13_printed_27 : decode cX13_printed 27 = .ok (.putfield 341, 3) := dk_181 1 85 (dk_at dksX13_printed_1 3 rfl rfl)
theorem dX13_printed_30 : decode cX13_printed 30 = .ok (.iconst 0, 1) := dk_3 (dk_at dksX13_printed_1 6 rfl rfl)
theorem dX13_printed_31 : decode cX13_printed 31 = .ok (.istore_n 3, 1) := dk_62 (dk_at dksX13_printed_1 7 rfl rfl)
theorem dX13_printed_32 : decode cX13_printed 32 = .ok (.iload_n 3, 1) := dk_29 (dk_at dksX13_printed_1 8 rfl rfl)
theorem dX13_printed_33 : decode cX13_printed 33 = .ok (.aload_n 0, 1) := dk_42 (dk_at dksX13_printed_1 9 rfl rfl)
theorem dX13_printed_34 : decode cX13_printed 34 = .ok (.getfield 7, 3) := dk_180 0 7 (dk_at dksX13_printed_1 10 rfl rfl)
theorem dX13_printed_37 : decode cX13_printed 37 = .ok (.iconst 1, 1) := dk_4 (dk_at dksX13_printed_1 13 rfl rfl)
theorem dX13_printed_38 : decode cX13_printed 38 = .ok (.iaload, 1) := dk_46 (dk_at dksX13_printed_1 14 rfl rfl)
theorem dX13_printed_39 : decode cX13_printed 39 = .ok (.if_icmp .ge 91, 3) := dk_162 0 91 (dk_at dksX13_printed_1 15 rfl rfl)
theorem dX13_printed_42 : decode cX13_printed 42 = .ok (.iload_n 1, 1) := dk_27 (dk_at dksX13_printed_1 18 rfl rfl)
theorem dX13_printed_43 : decode cX13_printed 43 = .ok (.aload_n 0, 1) := dk_42 (dk_at dksX13_printed_1 19 rfl rfl)
theorem dX13_printed_44 : decode cX13_printed 44 = .ok (.getfield 7, 3) := dk_180 0 7 (dk_at dksX13_printed_1 20 rfl rfl)
theorem dX13_printed_47 : decode cX13_printed 47 = .ok (.iconst 0, 1) := dk_3 (dk_at dksX13_printed_1 23 rfl rfl)
theorem dX13_printed_48 : decode cX13_printed 48 = .ok (.iaload, 1) := dk_46 (dk_at dksX13_printed_2 0 rfl rfl)
theorem dX13_printed_49 : decode cX13_printed 49 = .ok (.if_icmp .ge 50, 3) := dk_162 0 50 (dk_at dksX13_printed_2 1 rfl rfl)
theorem dX13_printed_52 : decode cX13_printed 52 = .ok (.aload_n 0, 1) := dk_42 (dk_at dksX13_printed_2 4 rfl rfl)
theorem dX13_printed_53 : decode cX13_printed 53 = .ok (.getfield 7, 3) := dk_180 0 7 (dk_at dksX13_printed_2 5 rfl rfl)
theorem dX13_printed_56 : decode cX13_printed 56 = .ok (.iconst 1, 1) := dk_4 (dk_at dksX13_printed_2 8 rfl rfl)
theorem dX13_printed_57 : decode cX13_printed 57 = .ok (.iaload, 1) := dk_46 (dk_at dksX13_printed_2 9 rfl rfl)
theorem dX13_printed_58 : decode cX13_printed 58 = .ok (.iload_n 1, 1) := dk_27 (dk_at dksX13_printed_2 10 rfl rfl)
theorem dX13_printed_59 : decode cX13_printed 59 = .ok (.imul, 1) := dk_104 (dk_at dksX13_printed_2 11 rfl rfl)
theorem dX13_printed_60 : decode cX13_printed 60 = .ok (.iload_n 3, 1) := dk_29 (dk_at dksX13_printed_2 12 rfl rfl)
theorem dX13_printed_61 : decode cX13_printed 61 = .ok (.iadd, 1) := dk_96 (dk_at dksX13_printed_2 13 rfl rfl)
theorem dX13_printed_62 : decode cX13_printed 62 = .ok (.istore 4, 2) := dk_54 4 (dk_at dksX13_printed_2 14 rfl rfl)
theorem dX13_printed_64 : decode cX13_printed 64 = .ok (.aload_n 0, 1) := dk_42 (dk_at dksX13_printed_2 16 rfl rfl)
theorem dX13_printed_65 : decode cX13_printed 65 = .ok (.aload_n 0, 1) := dk_42 (dk_at dksX13_printed_2 17 rfl rfl)
theorem dX13_printed_66 : decode cX13_printed 66 = .ok (.getfield 7, 3) := dk_180 0 7 (dk_at dksX13_printed_2 18 rfl rfl)
theorem dX13_printed_69 : decode cX13_printed 69 = .ok (.bipush 58, 2) := dk_16 58 (dk_at dksX13_printed_2 21 rfl rfl)
theorem dX13_printed_71 : decode cX13_printed 71 = .ok (.iload 4, 2) := dk_21 4 (dk_at dksX13_printed_3 0 rfl rfl)
theorem dX13_printed_73 : decode cX13_printed 73 = .ok (.iadd, 1) := dk_96 (dk_at dksX13_printed_3 2 rfl rfl)
theorem dX13_printed_74 : decode cX13_printed 74 = .ok (.iaload, 1) := dk_46 (dk_at dksX13_printed_3 3 rfl rfl)
theorem dX13_printed_75 : decode cX13_printed 75 = .ok (.iconst 1, 1) := dk_4 (dk_at dksX13_printed_3 4 rfl rfl)
theorem dX13_printed_76 : decode cX13_printed 76 = .ok (.if_icmp .ne 15, 3) := dk_160 0 15 (dk_at dksX13_printed_3 5 rfl rfl)
theorem dX13_printed_79 : decode cX13_printed 79 = .ok (.bipush 48, 2) := dk_16 48 (dk_at dksX13_printed_3 8 rfl rfl)
theorem dX13_printed_81 : decode cX13_printed 81 = .ok (.aload_n 0, 1) := dk_42 (dk_at dksX13_printed_3 10 rfl rfl)
theorem dX13_printed_82 : decode cX13_printed 82 = .ok (.iload 4, 2) := dk_21 4 (dk_at dksX13_printed_3 11 rfl rfl)
theorem dX13_printed_84 : decode cX13_printed 84 = .ok (.invokevirtual 99, 3) := dk_182 0 99 (dk_at dksX13_printed_3 13 rfl rfl)
theorem dX13_printed_87 : decode cX13_printed 87 = .ok (.iadd, 1) := dk_96 (dk_at dksX13_printed_3 16 rfl rfl)
theorem dX13_printed_88 : decode cX13_printed 88 = .ok (.goto 5, 3) := dk_167 0 5 (dk_at dksX13_printed_3 17 rfl rfl)
theorem dX13_printed_91 : decode cX13_printed 91 = .ok (.bipush 46, 2) := dk_16 46 (dk_at dksX13_printed_3 20 rfl rfl)
theorem dX13_printed_93 : decode cX13_printed 93 = .ok (.invokevirtual 344, 3) := dk_182 1 88 (dk_at dksX13_printed_4 0 rfl rfl)
theorem dX13_printed_96 : decode cX13_printed 96 = .ok (.goto 28, 3) := dk_167 0 28 (dk_at dksX13_printed_4 3 rfl rfl)
theorem dX13_printed_99 : decode cX13_printed 99 = .ok (.aload_n 0, 1) := dk_42 (dk_at dksX13_printed_4 6 rfl rfl)
theorem dX13_printed_100 : decode cX13_printed 100 = .ok (.iload_n 1, 1) := dk_27 (dk_at dksX13_printed_4 7 rfl rfl)
theorem dX13_printed_101 : decode cX13_printed 101 = .ok (.iload_n 3, 1) := dk_29 (dk_at dksX13_printed_4 8 rfl rfl)
theorem dX13_printed_102 : decode cX13_printed 102 = .ok (.iadd, 1) := dk_96 (dk_at dksX13_printed_4 9 rfl rfl)
theorem dX13_printed_103 : decode cX13_printed 103 = .ok (.invokevirtual 347, 3) := dk_182 1 91 (dk_at dksX13_printed_4 10 rfl rfl)
theorem dX13_printed_106 : decode cX13_printed 106 = .ok (.iload_n 3, 1) := dk_29 (dk_at dksX13_printed_4 13 rfl rfl)
theorem dX13_printed_107 : decode cX13_printed 107 = .ok (.aload_n 0, 1) := dk_42 (dk_at dksX13_printed_4 14 rfl rfl)
theorem dX13_printed_108 : decode cX13_printed 108 = .ok (.getfield 7, 3) := dk_180 0 7 (dk_at dksX13_printed_4 15 rfl rfl)
theorem dX13_printed_111 : decode cX13_printed 111 = .ok (.iconst 1, 1) := dk_4 (dk_at dksX13_printed_4 18 rfl rfl)
theorem dX13_printed_112 : decode cX13_printed 112 = .ok (.iaload, 1) := dk_46 (dk_at dksX13_printed_4 19 rfl rfl)
theorem dX13_printed_113 : decode cX13_printed 113 = .ok (.iconst 1, 1) := dk_4 (dk_at dksX13_printed_4 20 rfl rfl)
theorem dX13_printed_114 : decode cX13_printed 114 = .ok (.isub, 1) := dk_100 (dk_at dksX13_printed_4 21 rfl rfl)
theorem dX13_printed_115 : decode cX13_printed 115 = .ok (.if_icmp .ge 9, 3) := dk_162 0 9 (dk_at dksX13_printed_5 0 rfl rfl)
theorem dX13_printed_118 : decode cX13_printed 118 = .ok (.aload_n 0, 1) := dk_42 (dk_at dksX13_printed_5 3 rfl rfl)
theorem dX13_printed_119 : decode cX13_printed 119 = .ok (.bipush 32, 2) := dk_16 32 (dk_at dksX13_printed_5 4 rfl rfl)
theorem dX13_printed_121 : decode cX13_printed 121 = .ok (.invokevirtual 344, 3) := dk_182 1 88 (dk_at dksX13_printed_5 6 rfl rfl)
theorem dX13_printed_124 : decode cX13_printed 124 = .ok (.iinc 3 1, 3) := dk_132 3 1 (dk_at dksX13_printed_5 9 rfl rfl)
theorem dX13_printed_127 : decode cX13_printed 127 = .ok (.goto (-95), 3) := dk_167 255 161 (dk_at dksX13_printed_5 12 rfl rfl)
theorem dX13_printed_130 : decode cX13_printed 130 = .ok (.iload_n 1, 1) := dk_27 (dk_at dksX13_printed_5 15 rfl rfl)
theorem dX13_printed_131 : decode cX13_printed 131 = .ok (.aload_n 0, 1) := dk_42 (dk_at dksX13_printed_5 16 rfl rfl)
theorem dX13_printed_132 : decode cX13_printed 132 = .ok (.getfield 7, 3) := dk_180 0 7 (dk_at dksX13_printed_5 17 rfl rfl)
theorem dX13_printed_135 : decode cX13_printed 135 = .ok (.iconst 0, 1) := dk_3 (dk_at dksX13_printed_5 20 rfl rfl)
theorem dX13_printed_136 : decode cX13_printed 136 = .ok (.iaload, 1) := dk_46 (dk_at dksX13_printed_5 21 rfl rfl)
theorem dX13_printed_137 : decode cX13_printed 137 = .ok (.if_icmp .ge 14, 3) := dk_162 0 14 (dk_at dksX13_printed_6 0 rfl rfl)
theorem dX13_printed_140 : decode cX13_printed 140 = .ok (.aload_n 0, 1) := dk_42 (dk_at dksX13_printed_6 3 rfl rfl)
theorem dX13_printed_141 : decode cX13_printed 141 = .ok (.bipush 32, 2) := dk_16 32 (dk_at dksX13_printed_6 4 rfl rfl)
theorem dX13_printed_143 : decode cX13_printed 143 = .ok (.invokevirtual 344, 3) := dk_182 1 88 (dk_at dksX13_printed_6 6 rfl rfl)
theorem dX13_printed_146 : decode cX13_printed 146 = .ok (.aload_n 0, 1) := dk_42 (dk_at dksX13_printed_6 9 rfl rfl)
theorem dX13_printed_147 : decode cX13_printed 147 = .ok (.iload_n 1, 1) := dk_27 (dk_at dksX13_printed_6 10 rfl rfl)
theorem dX13_printed_148 : decode cX13_printed 148 = .ok (.invokevirtual 347, 3) := dk_182 1 91 (dk_at dksX13_printed_6 11 rfl rfl)
theorem dX13_printed_151 : decode cX13_printed 151 = .ok (.iload_n 2, 1) := dk_28 (dk_at dksX13_printed_6 14 rfl rfl)
theorem dX13_printed_152 : decode cX13_printed 152 = .ok (.aload_n 0, 1) := dk_42 (dk_at dksX13_printed_6 15 rfl rfl)
theorem dX13_printed_153 : decode cX13_printed 153 = .ok (.getfield 341, 3) := dk_180 1 85 (dk_at dksX13_printed_6 16 rfl rfl)
theorem dX13_printed_156 : decode cX13_printed 156 = .ok (.if_icmp .ge 12, 3) := dk_162 0 12 (dk_at dksX13_printed_6 19 rfl rfl)
theorem dX13_printed_159 : decode cX13_printed 159 = .ok (.aload_n 0, 1) := dk_42 (dk_at dksX13_printed_6 22 rfl rfl)
theorem dX13_printed_160 : decode cX13_printed 160 = .ok (.getfield 40, 3) := dk_180 0 40 (dk_at dksX13_printed_7 0 rfl rfl)
theorem dX13_printed_163 : decode cX13_printed 163 = .ok (.iload_n 2, 1) := dk_28 (dk_at dksX13_printed_7 3 rfl rfl)
theorem dX13_printed_164 : decode cX13_printed 164 = .ok (.iaload, 1) := dk_46 (dk_at dksX13_printed_7 4 rfl rfl)
theorem dX13_printed_165 : decode cX13_printed 165 = .ok (.goto 5, 3) := dk_167 0 5 (dk_at dksX13_printed_7 5 rfl rfl)
theorem dX13_printed_168 : decode cX13_printed 168 = .ok (.bipush (-99), 2) := dk_16 157 (dk_at dksX13_printed_7 8 rfl rfl)
theorem dX13_printed_170 : decode cX13_printed 170 = .ok (.ireturn, 1) := dk_172 (dk_at dksX13_printed_7 10 rfl rfl)
abbrev cX13_print : ByteArray := prog_28_method_123_code
def yX13_print : MethodName := ⟨RX13, "print", "(I)V"⟩
def dkwX13_print_0 : List UInt8 := [42, 180, 0, 40, 42, 180, 1, 85, 27, 79, 42, 89, 180, 1, 85, 4, 96, 181, 1, 85, 177]
abbrev dktX13_print_0 : List UInt8 := dkwX13_print_0 ++ []
theorem dksX13_print_0 : cX13_print.data.toList.drop 0 = dktX13_print_0 := by decide +kernel
theorem dX13_print_0 : decode cX13_print 0 = .ok (.aload_n 0, 1) := dk_42 (dk_at dksX13_print_0 0 rfl rfl)
theorem dX13_print_1 : decode cX13_print 1 = .ok (.getfield 40, 3) := dk_180 0 40 (dk_at dksX13_print_0 1 rfl rfl)
theorem dX13_print_4 : decode cX13_print 4 = .ok (.aload_n 0, 1) := dk_42 (dk_at dksX13_print_0 4 rfl rfl)
theorem dX13_print_5 : decode cX13_print 5 = .ok (.getfield 341, 3) := dk_180 1 85 (dk_at dksX13_print_0 5 rfl rfl)
theorem dX13_print_8 : decode cX13_print 8 = .ok (.iload_n 1, 1) := dk_27 (dk_at dksX13_print_0 8 rfl rfl)
theorem dX13_print_9 : decode cX13_print 9 = .ok (.iastore, 1) := dk_79 (dk_at dksX13_print_0 9 rfl rfl)
theorem dX13_print_10 : decode cX13_print 10 = .ok (.aload_n 0, 1) := dk_42 (dk_at dksX13_print_0 10 rfl rfl)
theorem dX13_print_11 : decode cX13_print 11 = .ok (.dup, 1) := dk_89 (dk_at dksX13_print_0 11 rfl rfl)
theorem dX13_print_12 : decode cX13_print 12 = .ok (.getfield 341, 3) := dk_180 1 85 (dk_at dksX13_print_0 12 rfl rfl)
theorem dX13_print_15 : decode cX13_print 15 = .ok (.iconst 1, 1) := dk_4 (dk_at dksX13_print_0 15 rfl rfl)
theorem dX13_print_16 : decode cX13_print 16 = .ok (.iadd, 1) := dk_96 (dk_at dksX13_print_0 16 rfl rfl)
theorem dX13_print_17 : decode cX13_print 17 = .ok (.putfield 341, 3) := dk_181 1 85 (dk_at dksX13_print_0 17 rfl rfl)
theorem dX13_print_20 : decode cX13_print 20 = .ok (.return_, 1) := dk_177 (dk_at dksX13_print_0 20 rfl rfl)
abbrev cX13_printSum : ByteArray := prog_28_method_124_code
def yX13_printSum : MethodName := ⟨RX13, "printSum", "(I)V"⟩
def dkwX13_printSum_2 : List UInt8 := [27, 182, 0, 158, 16, 10, 112, 96, 182, 1, 88, 177]
abbrev dktX13_printSum_2 : List UInt8 := dkwX13_printSum_2 ++ []
def dkwX13_printSum_1 : List UInt8 := [16, 9, 164, 0, 18, 42, 16, 48, 42, 27, 182, 0, 158, 16, 10, 108, 96, 182, 1, 88, 42, 16, 48, 42]
abbrev dktX13_printSum_1 : List UInt8 := dkwX13_printSum_1 ++ dktX13_printSum_2
def dkwX13_printSum_0 : List UInt8 := [42, 180, 0, 7, 16, 83, 27, 96, 46, 154, 0, 10, 42, 16, 45, 182, 1, 88, 177, 42, 27, 182, 0, 158]
abbrev dktX13_printSum_0 : List UInt8 := dkwX13_printSum_0 ++ dktX13_printSum_1
theorem dksX13_printSum_0 : cX13_printSum.data.toList.drop 0 = dktX13_printSum_0 := by decide +kernel
theorem dksX13_printSum_1 : cX13_printSum.data.toList.drop 24 = dktX13_printSum_1 := dk_seg dksX13_printSum_0 24 rfl rfl
theorem dksX13_printSum_2 : cX13_printSum.data.toList.drop 48 = dktX13_printSum_2 := dk_seg dksX13_printSum_1 24 rfl rfl
theorem dX13_printSum_0 : decode cX13_printSum 0 = .ok (.aload_n 0, 1) := dk_42 (dk_at dksX13_printSum_0 0 rfl rfl)
theorem dX13_printSum_1 : decode cX13_printSum 1 = .ok (.getfield 7, 3) := dk_180 0 7 (dk_at dksX13_printSum_0 1 rfl rfl)
theorem dX13_printSum_4 : decode cX13_printSum 4 = .ok (.bipush 83, 2) := dk_16 83 (dk_at dksX13_printSum_0 4 rfl rfl)
theorem dX13_printSum_6 : decode cX13_printSum 6 = .ok (.iload_n 1, 1) := dk_27 (dk_at dksX13_printSum_0 6 rfl rfl)
theorem dX13_printSum_7 : decode cX13_printSum 7 = .ok (.iadd, 1) := dk_96 (dk_at dksX13_printSum_0 7 rfl rfl)
theorem dX13_printSum_8 : decode cX13_printSum 8 = .ok (.iaload, 1) := dk_46 (dk_at dksX13_printSum_0 8 rfl rfl)
theorem dX13_printSum_9 : decode cX13_printSum 9 = .ok (.ifCond .ne 10, 3) := dk_154 0 10 (dk_at dksX13_printSum_0 9 rfl rfl)
theorem dX13_printSum_12 : decode cX13_printSum 12 = .ok (.aload_n 0, 1) := dk_42 (dk_at dksX13_printSum_0 12 rfl rfl)
theorem dX13_printSum_13 : decode cX13_printSum 13 = .ok (.bipush 45, 2) := dk_16 45 (dk_at dksX13_printSum_0 13 rfl rfl)
theorem dX13_printSum_15 : decode cX13_printSum 15 = .ok (.invokevirtual 344, 3) := dk_182 1 88 (dk_at dksX13_printSum_0 15 rfl rfl)
theorem dX13_printSum_18 : decode cX13_printSum 18 = .ok (.return_, 1) := dk_177 (dk_at dksX13_printSum_0 18 rfl rfl)
theorem dX13_printSum_19 : decode cX13_printSum 19 = .ok (.aload_n 0, 1) := dk_42 (dk_at dksX13_printSum_0 19 rfl rfl)
theorem dX13_printSum_20 : decode cX13_printSum 20 = .ok (.iload_n 1, 1) := dk_27 (dk_at dksX13_printSum_0 20 rfl rfl)
theorem dX13_printSum_21 : decode cX13_printSum 21 = .ok (.invokevirtual 158, 3) := dk_182 0 158 (dk_at dksX13_printSum_0 21 rfl rfl)
theorem dX13_printSum_24 : decode cX13_printSum 24 = .ok (.bipush 9, 2) := dk_16 9 (dk_at dksX13_printSum_1 0 rfl rfl)
theorem dX13_printSum_26 : decode cX13_printSum 26 = .ok (.if_icmp .le 18, 3) := dk_164 0 18 (dk_at dksX13_printSum_1 2 rfl rfl)
theorem dX13_printSum_29 : decode cX13_printSum 29 = .ok (.aload_n 0, 1) := dk_42 (dk_at dksX13_printSum_1 5 rfl rfl)
theorem dX13_printSum_30 : decode cX13_printSum 30 = .ok (.bipush 48, 2) := dk_16 48 (dk_at dksX13_printSum_1 6 rfl rfl)
theorem dX13_printSum_32 : decode cX13_printSum 32 = .ok (.aload_n 0, 1) := dk_42 (dk_at dksX13_printSum_1 8 rfl rfl)
theorem dX13_printSum_33 : decode cX13_printSum 33 = .ok (.iload_n 1, 1) := dk_27 (dk_at dksX13_printSum_1 9 rfl rfl)
theorem dX13_printSum_34 : decode cX13_printSum 34 = .ok (.invokevirtual 158, 3) := dk_182 0 158 (dk_at dksX13_printSum_1 10 rfl rfl)
theorem dX13_printSum_37 : decode cX13_printSum 37 = .ok (.bipush 10, 2) := dk_16 10 (dk_at dksX13_printSum_1 13 rfl rfl)
theorem dX13_printSum_39 : decode cX13_printSum 39 = .ok (.idiv, 1) := dk_108 (dk_at dksX13_printSum_1 15 rfl rfl)
theorem dX13_printSum_40 : decode cX13_printSum 40 = .ok (.iadd, 1) := dk_96 (dk_at dksX13_printSum_1 16 rfl rfl)
theorem dX13_printSum_41 : decode cX13_printSum 41 = .ok (.invokevirtual 344, 3) := dk_182 1 88 (dk_at dksX13_printSum_1 17 rfl rfl)
theorem dX13_printSum_44 : decode cX13_printSum 44 = .ok (.aload_n 0, 1) := dk_42 (dk_at dksX13_printSum_1 20 rfl rfl)
theorem dX13_printSum_45 : decode cX13_printSum 45 = .ok (.bipush 48, 2) := dk_16 48 (dk_at dksX13_printSum_1 21 rfl rfl)
theorem dX13_printSum_47 : decode cX13_printSum 47 = .ok (.aload_n 0, 1) := dk_42 (dk_at dksX13_printSum_1 23 rfl rfl)
theorem dX13_printSum_48 : decode cX13_printSum 48 = .ok (.iload_n 1, 1) := dk_27 (dk_at dksX13_printSum_2 0 rfl rfl)
theorem dX13_printSum_49 : decode cX13_printSum 49 = .ok (.invokevirtual 158, 3) := dk_182 0 158 (dk_at dksX13_printSum_2 1 rfl rfl)
theorem dX13_printSum_52 : decode cX13_printSum 52 = .ok (.bipush 10, 2) := dk_16 10 (dk_at dksX13_printSum_2 4 rfl rfl)
theorem dX13_printSum_54 : decode cX13_printSum 54 = .ok (.irem, 1) := dk_112 (dk_at dksX13_printSum_2 6 rfl rfl)
theorem dX13_printSum_55 : decode cX13_printSum 55 = .ok (.iadd, 1) := dk_96 (dk_at dksX13_printSum_2 7 rfl rfl)
theorem dX13_printSum_56 : decode cX13_printSum 56 = .ok (.invokevirtual 344, 3) := dk_182 1 88 (dk_at dksX13_printSum_2 8 rfl rfl)
theorem dX13_printSum_59 : decode cX13_printSum 59 = .ok (.return_, 1) := dk_177 (dk_at dksX13_printSum_2 11 rfl rfl)
theorem q158 : (Jvm.Cond.initialized "EdgeSumsModel") ∈ lw_all := lw_g (lw_at lw_m1 34 rfl) rfl
theorem q1109 : (Jvm.Cond.selects "EdgeSumsModel" ({ cls := "java/lang/Object", name := "getClass", desc := "()Ljava/lang/Class;" } : Jvm.MethodName) ({ cls := "java/lang/Object", name := "getClass", desc := "()Ljava/lang/Class;" } : Jvm.MethodName)) ∈ lw_all := lw_g (lw_at lw_m5 25 rfl) rfl
theorem q2610 : (Jvm.Cond.instantiable "EdgeSumsModel" (24 : Nat)) ∈ lw_all := lw_g (lw_at lw_m11 86 rfl) rfl
theorem q2612 : (Jvm.Cond.instanceMethod ({ cls := "EdgeSumsModel", name := "<init>", desc := "()V" } : Jvm.MethodName)) ∈ lw_all := lw_g (lw_at lw_m11 88 rfl) rfl
theorem q2613 : (Jvm.Cond.code ({ cls := "EdgeSumsModel", name := "<init>", desc := "()V" } : Jvm.MethodName) prog_28_method_1_code (2 : Nat) (Option.none : Option Jvm.ClassFile.FieldType)) ∈ lw_all := lw_g (lw_at lw_m11 89 rfl) rfl
theorem q2614 : (Jvm.Cond.methodLink "EdgeSumsModel" (1 : Nat) ({ cls := "java/lang/Object", name := "<init>", desc := "()V" } : Jvm.MethodName)) ∈ lw_all := lw_g (lw_at lw_m11 90 rfl) rfl
theorem q2615 : (Jvm.Cond.methodLink "EdgeSumsModel" (47 : Nat) ({ cls := "EdgeSumsModel", name := "lay", desc := "(II)V" } : Jvm.MethodName)) ∈ lw_all := lw_g (lw_at lw_m11 91 rfl) rfl
theorem q2616 : (Jvm.Cond.privateMethod ({ cls := "EdgeSumsModel", name := "lay", desc := "(II)V" } : Jvm.MethodName)) ∈ lw_tbl := lw_at lw_m11 92 rfl
theorem q2617 : (Jvm.Cond.instanceMethod ({ cls := "EdgeSumsModel", name := "lay", desc := "(II)V" } : Jvm.MethodName)) ∈ lw_all := lw_g (lw_at lw_m11 93 rfl) rfl
theorem q2618 : (Jvm.Cond.code ({ cls := "EdgeSumsModel", name := "lay", desc := "(II)V" } : Jvm.MethodName) prog_28_method_23_code (4 : Nat) (Option.none : Option Jvm.ClassFile.FieldType)) ∈ lw_all := lw_g (lw_at lw_m11 94 rfl) rfl
theorem q2619 : (Jvm.Cond.methodLink "EdgeSumsModel" (86 : Nat) ({ cls := "EdgeSumsModel", name := "hideAll", desc := "()V" } : Jvm.MethodName)) ∈ lw_all := lw_g (lw_at lw_m11 95 rfl) rfl
theorem q2620 : (Jvm.Cond.privateMethod ({ cls := "EdgeSumsModel", name := "hideAll", desc := "()V" } : Jvm.MethodName)) ∈ lw_tbl := lw_at lw_m11 96 rfl
theorem q2621 : (Jvm.Cond.instanceMethod ({ cls := "EdgeSumsModel", name := "hideAll", desc := "()V" } : Jvm.MethodName)) ∈ lw_all := lw_g (lw_at lw_m11 97 rfl) rfl
theorem q2622 : (Jvm.Cond.code ({ cls := "EdgeSumsModel", name := "hideAll", desc := "()V" } : Jvm.MethodName) prog_28_method_24_code (2 : Nat) (Option.none : Option Jvm.ClassFile.FieldType)) ∈ lw_all := lw_g (lw_at lw_m11 98 rfl) rfl
theorem q2623 : (Jvm.Cond.methodLink "EdgeSumsModel" (51 : Nat) ({ cls := "EdgeSumsModel", name := "reset", desc := "()V" } : Jvm.MethodName)) ∈ lw_all := lw_g (lw_at lw_m11 99 rfl) rfl
theorem q2624 : (Jvm.Cond.privateMethod ({ cls := "EdgeSumsModel", name := "reset", desc := "()V" } : Jvm.MethodName)) ∈ lw_tbl := lw_at lw_m11 100 rfl
theorem q2625 : (Jvm.Cond.instanceMethod ({ cls := "EdgeSumsModel", name := "reset", desc := "()V" } : Jvm.MethodName)) ∈ lw_all := lw_g (lw_at lw_m11 101 rfl) rfl
theorem q2626 : (Jvm.Cond.code ({ cls := "EdgeSumsModel", name := "reset", desc := "()V" } : Jvm.MethodName) prog_28_method_48_code (2 : Nat) (Option.none : Option Jvm.ClassFile.FieldType)) ∈ lw_all := lw_g (lw_at lw_m11 102 rfl) rfl
theorem q2627 : (Jvm.Cond.methodLink "EdgeSumsModel" (139 : Nat) ({ cls := "EdgeSumsModel", name := "layFirst", desc := "()V" } : Jvm.MethodName)) ∈ lw_all := lw_g (lw_at lw_m11 103 rfl) rfl
theorem q2628 : (Jvm.Cond.privateMethod ({ cls := "EdgeSumsModel", name := "layFirst", desc := "()V" } : Jvm.MethodName)) ∈ lw_tbl := lw_at lw_m11 104 rfl
theorem q2629 : (Jvm.Cond.instanceMethod ({ cls := "EdgeSumsModel", name := "layFirst", desc := "()V" } : Jvm.MethodName)) ∈ lw_all := lw_g (lw_at lw_m11 105 rfl) rfl
theorem q2630 : (Jvm.Cond.code ({ cls := "EdgeSumsModel", name := "layFirst", desc := "()V" } : Jvm.MethodName) prog_28_method_46_code (2 : Nat) (Option.none : Option Jvm.ClassFile.FieldType)) ∈ lw_all := lw_g (lw_at lw_m11 106 rfl) rfl
theorem q2631 : (Jvm.Cond.methodLink "EdgeSumsModel" (61 : Nat) ({ cls := "EdgeSumsModel", name := "cells", desc := "()I" } : Jvm.MethodName)) ∈ lw_all := lw_g (lw_at lw_m11 107 rfl) rfl
theorem q2632 : (Jvm.Cond.privateMethod ({ cls := "EdgeSumsModel", name := "cells", desc := "()I" } : Jvm.MethodName)) ∈ lw_tbl := lw_at lw_m11 108 rfl
theorem q2633 : (Jvm.Cond.instanceMethod ({ cls := "EdgeSumsModel", name := "cells", desc := "()I" } : Jvm.MethodName)) ∈ lw_all := lw_g (lw_at lw_m11 109 rfl) rfl
theorem q2634 : (Jvm.Cond.code ({ cls := "EdgeSumsModel", name := "cells", desc := "()I" } : Jvm.MethodName) prog_28_method_11_code (1 : Nat) (Option.some Jvm.ClassFile.FieldType.int)) ∈ lw_all := lw_g (lw_at lw_m11 110 rfl) rfl
theorem q2635 : (Jvm.Cond.methodLink "EdgeSumsModel" (99 : Nat) ({ cls := "EdgeSumsModel", name := "numberOf", desc := "(I)I" } : Jvm.MethodName)) ∈ lw_all := lw_g (lw_at lw_m11 111 rfl) rfl
theorem q2636 : (Jvm.Cond.privateMethod ({ cls := "EdgeSumsModel", name := "numberOf", desc := "(I)I" } : Jvm.MethodName)) ∈ lw_tbl := lw_at lw_m11 112 rfl
theorem q2637 : (Jvm.Cond.instanceMethod ({ cls := "EdgeSumsModel", name := "numberOf", desc := "(I)I" } : Jvm.MethodName)) ∈ lw_all := lw_g (lw_at lw_m11 113 rfl) rfl
theorem q2638 : (Jvm.Cond.code ({ cls := "EdgeSumsModel", name := "numberOf", desc := "(I)I" } : Jvm.MethodName) prog_28_method_16_code (2 : Nat) (Option.some Jvm.ClassFile.FieldType.int)) ∈ lw_all := lw_g (lw_at lw_m11 114 rfl) rfl
theorem q2639 : (Jvm.Cond.methodLink "EdgeSumsModel" (121 : Nat) ({ cls := "EdgeSumsModel", name := "mostIn", desc := "(I)I" } : Jvm.MethodName)) ∈ lw_all := lw_g (lw_at lw_m11 115 rfl) rfl
theorem q2640 : (Jvm.Cond.privateMethod ({ cls := "EdgeSumsModel", name := "mostIn", desc := "(I)I" } : Jvm.MethodName)) ∈ lw_tbl := lw_at lw_m11 116 rfl
theorem q2641 : (Jvm.Cond.instanceMethod ({ cls := "EdgeSumsModel", name := "mostIn", desc := "(I)I" } : Jvm.MethodName)) ∈ lw_all := lw_g (lw_at lw_m11 117 rfl) rfl
theorem q2642 : (Jvm.Cond.code ({ cls := "EdgeSumsModel", name := "mostIn", desc := "(I)I" } : Jvm.MethodName) prog_28_method_19_code (2 : Nat) (Option.some Jvm.ClassFile.FieldType.int)) ∈ lw_all := lw_g (lw_at lw_m11 118 rfl) rfl
theorem q2643 : (Jvm.Cond.methodLink "EdgeSumsModel" (72 : Nat) ({ cls := "EdgeSumsModel", name := "blockOf", desc := "(I)I" } : Jvm.MethodName)) ∈ lw_all := lw_g (lw_at lw_m11 119 rfl) rfl
theorem q2644 : (Jvm.Cond.privateMethod ({ cls := "EdgeSumsModel", name := "blockOf", desc := "(I)I" } : Jvm.MethodName)) ∈ lw_tbl := lw_at lw_m11 120 rfl
theorem q2645 : (Jvm.Cond.instanceMethod ({ cls := "EdgeSumsModel", name := "blockOf", desc := "(I)I" } : Jvm.MethodName)) ∈ lw_all := lw_g (lw_at lw_m11 121 rfl) rfl
theorem q2646 : (Jvm.Cond.code ({ cls := "EdgeSumsModel", name := "blockOf", desc := "(I)I" } : Jvm.MethodName) prog_28_method_15_code (2 : Nat) (Option.some Jvm.ClassFile.FieldType.int)) ∈ lw_all := lw_g (lw_at lw_m11 122 rfl) rfl
theorem q2647 : (Jvm.Cond.methodLink "EdgeSumsModel" (76 : Nat) ({ cls := "EdgeSumsModel", name := "blockSize", desc := "(I)I" } : Jvm.MethodName)) ∈ lw_all := lw_g (lw_at lw_m11 123 rfl) rfl
theorem q2648 : (Jvm.Cond.privateMethod ({ cls := "EdgeSumsModel", name := "blockSize", desc := "(I)I" } : Jvm.MethodName)) ∈ lw_tbl := lw_at lw_m11 124 rfl
theorem q2649 : (Jvm.Cond.instanceMethod ({ cls := "EdgeSumsModel", name := "blockSize", desc := "(I)I" } : Jvm.MethodName)) ∈ lw_all := lw_g (lw_at lw_m11 125 rfl) rfl
theorem q2650 : (Jvm.Cond.code ({ cls := "EdgeSumsModel", name := "blockSize", desc := "(I)I" } : Jvm.MethodName) prog_28_method_18_code (4 : Nat) (Option.some Jvm.ClassFile.FieldType.int)) ∈ lw_all := lw_g (lw_at lw_m11 126 rfl) rfl
theorem q2651 : (Jvm.Cond.fieldLink "EdgeSumsModel" (43 : Nat) "EdgeSumsModel" "thrown" "I") ∈ lw_all := lw_g (lw_at lw_m11 127 rfl) rfl
theorem q2652 : (Jvm.Cond.fieldLink "EdgeSumsModel" (7 : Nat) "EdgeSumsModel" "s" "[I") ∈ lw_all := lw_g (lw_at lw_m11 128 rfl) rfl
theorem q2653 : (Jvm.Cond.fieldLink "EdgeSumsModel" (13 : Nat) "EdgeSumsModel" "aside" "[I") ∈ lw_all := lw_g (lw_at lw_m11 129 rfl) rfl
theorem q2654 : (Jvm.Cond.fieldLink "EdgeSumsModel" (16 : Nat) "EdgeSumsModel" "saved" "[I") ∈ lw_all := lw_g (lw_at lw_m11 130 rfl) rfl
theorem q2655 : (Jvm.Cond.fieldLink "EdgeSumsModel" (58 : Nat) "EdgeSumsModel" "savedMany" "I") ∈ lw_all := lw_g (lw_at lw_m11 131 rfl) rfl
theorem q2656 : (Jvm.Cond.fieldLink "EdgeSumsModel" (19 : Nat) "EdgeSumsModel" "text" "[I") ∈ lw_all := lw_g (lw_at lw_m11 132 rfl) rfl
theorem q2657 : (Jvm.Cond.fieldLink "EdgeSumsModel" (249 : Nat) "EdgeSumsModel" "length" "I") ∈ lw_all := lw_g (lw_at lw_m11 133 rfl) rfl
theorem q2658 : (Jvm.Cond.fieldLink "EdgeSumsModel" (22 : Nat) "EdgeSumsModel" "w" "[I") ∈ lw_all := lw_g (lw_at lw_m11 134 rfl) rfl
theorem q2659 : (Jvm.Cond.fieldLink "EdgeSumsModel" (186 : Nat) "EdgeSumsModel" "stepRule" "I") ∈ lw_all := lw_g (lw_at lw_m11 135 rfl) rfl
theorem q2660 : (Jvm.Cond.fieldLink "EdgeSumsModel" (189 : Nat) "EdgeSumsModel" "stepCell" "I") ∈ lw_all := lw_g (lw_at lw_m11 136 rfl) rfl
theorem q2661 : (Jvm.Cond.fieldLink "EdgeSumsModel" (192 : Nat) "EdgeSumsModel" "stepNumber" "I") ∈ lw_all := lw_g (lw_at lw_m11 137 rfl) rfl
theorem q2662 : (Jvm.Cond.fieldLink "EdgeSumsModel" (195 : Nat) "EdgeSumsModel" "stepCause" "I") ∈ lw_all := lw_g (lw_at lw_m11 138 rfl) rfl
theorem q2663 : (Jvm.Cond.fieldLink "EdgeSumsModel" (25 : Nat) "EdgeSumsModel" "steps" "[I") ∈ lw_all := lw_g (lw_at lw_m11 139 rfl) rfl
theorem q2664 : (Jvm.Cond.fieldLink "EdgeSumsModel" (198 : Nat) "EdgeSumsModel" "stepMany" "I") ∈ lw_all := lw_g (lw_at lw_m11 140 rfl) rfl
theorem q2665 : (Jvm.Cond.fieldLink "EdgeSumsModel" (28 : Nat) "EdgeSumsModel" "label" "[I") ∈ lw_all := lw_g (lw_at lw_m11 141 rfl) rfl
theorem q2666 : (Jvm.Cond.fieldLink "EdgeSumsModel" (31 : Nat) "EdgeSumsModel" "mark" "[I") ∈ lw_all := lw_g (lw_at lw_m11 142 rfl) rfl
theorem q2667 : (Jvm.Cond.fieldLink "EdgeSumsModel" (34 : Nat) "EdgeSumsModel" "order" "[I") ∈ lw_all := lw_g (lw_at lw_m11 143 rfl) rfl
theorem q2668 : (Jvm.Cond.fieldLink "EdgeSumsModel" (37 : Nat) "EdgeSumsModel" "other" "[I") ∈ lw_all := lw_g (lw_at lw_m11 144 rfl) rfl
theorem q2669 : (Jvm.Cond.fieldLink "EdgeSumsModel" (40 : Nat) "EdgeSumsModel" "line" "[I") ∈ lw_all := lw_g (lw_at lw_m11 145 rfl) rfl
theorem q2670 : (Jvm.Cond.fieldLink "EdgeSumsModel" (341 : Nat) "EdgeSumsModel" "lineMany" "I") ∈ lw_all := lw_g (lw_at lw_m11 146 rfl) rfl
theorem q2671 : (Jvm.Cond.fieldLink "EdgeSumsModel" (261 : Nat) "EdgeSumsModel" "token" "I") ∈ lw_all := lw_g (lw_at lw_m11 147 rfl) rfl
theorem q2672 : (Jvm.Cond.fieldLink "EdgeSumsModel" (255 : Nat) "EdgeSumsModel" "from" "I") ∈ lw_all := lw_g (lw_at lw_m11 148 rfl) rfl
theorem q2673 : (Jvm.Cond.fieldLink "EdgeSumsModel" (252 : Nat) "EdgeSumsModel" "till" "I") ∈ lw_all := lw_g (lw_at lw_m11 149 rfl) rfl
theorem q2674 : (Jvm.Cond.fieldLink "EdgeSumsModel" (264 : Nat) "EdgeSumsModel" "wrong" "I") ∈ lw_all := lw_g (lw_at lw_m11 150 rfl) rfl
theorem q2675 : (Jvm.Cond.lays "EdgeSumsModel" "EdgeSumsModel" "thrown" "I") ∈ lw_all := lw_g (lw_at lw_m11 151 rfl) rfl
theorem q2676 : (Jvm.Cond.soleField "EdgeSumsModel" "thrown") ∈ lw_all := lw_g (lw_at lw_m11 152 rfl) rfl
theorem q2677 : (Jvm.Cond.laysFinal "EdgeSumsModel" "EdgeSumsModel" "s" "[I") ∈ lw_all := lw_g (lw_at lw_m11 153 rfl) rfl
theorem q2678 : (Jvm.Cond.soleField "EdgeSumsModel" "s") ∈ lw_all := lw_g (lw_at lw_m11 154 rfl) rfl
theorem q2679 : (Jvm.Cond.laysFinal "EdgeSumsModel" "EdgeSumsModel" "aside" "[I") ∈ lw_all := lw_g (lw_at lw_m11 155 rfl) rfl
theorem q2680 : (Jvm.Cond.soleField "EdgeSumsModel" "aside") ∈ lw_all := lw_g (lw_at lw_m11 156 rfl) rfl
theorem q2681 : (Jvm.Cond.laysFinal "EdgeSumsModel" "EdgeSumsModel" "saved" "[I") ∈ lw_all := lw_g (lw_at lw_m11 157 rfl) rfl
theorem q2682 : (Jvm.Cond.soleField "EdgeSumsModel" "saved") ∈ lw_all := lw_g (lw_at lw_m11 158 rfl) rfl
theorem q2683 : (Jvm.Cond.lays "EdgeSumsModel" "EdgeSumsModel" "savedMany" "I") ∈ lw_all := lw_g (lw_at lw_m11 159 rfl) rfl
theorem q2684 : (Jvm.Cond.soleField "EdgeSumsModel" "savedMany") ∈ lw_all := lw_g (lw_at lw_m11 160 rfl) rfl
theorem q2685 : (Jvm.Cond.laysFinal "EdgeSumsModel" "EdgeSumsModel" "text" "[I") ∈ lw_all := lw_g (lw_at lw_m11 161 rfl) rfl
theorem q2686 : (Jvm.Cond.soleField "EdgeSumsModel" "text") ∈ lw_all := lw_g (lw_at lw_m11 162 rfl) rfl
theorem q2687 : (Jvm.Cond.lays "EdgeSumsModel" "EdgeSumsModel" "length" "I") ∈ lw_all := lw_g (lw_at lw_m11 163 rfl) rfl
theorem q2688 : (Jvm.Cond.soleField "EdgeSumsModel" "length") ∈ lw_all := lw_g (lw_at lw_m11 164 rfl) rfl
theorem q2689 : (Jvm.Cond.laysFinal "EdgeSumsModel" "EdgeSumsModel" "w" "[I") ∈ lw_all := lw_g (lw_at lw_m11 165 rfl) rfl
theorem q2690 : (Jvm.Cond.soleField "EdgeSumsModel" "w") ∈ lw_all := lw_g (lw_at lw_m11 166 rfl) rfl
theorem q2691 : (Jvm.Cond.lays "EdgeSumsModel" "EdgeSumsModel" "stepRule" "I") ∈ lw_all := lw_g (lw_at lw_m11 167 rfl) rfl
theorem q2692 : (Jvm.Cond.soleField "EdgeSumsModel" "stepRule") ∈ lw_all := lw_g (lw_at lw_m11 168 rfl) rfl
theorem q2693 : (Jvm.Cond.lays "EdgeSumsModel" "EdgeSumsModel" "stepCell" "I") ∈ lw_all := lw_g (lw_at lw_m11 169 rfl) rfl
theorem q2694 : (Jvm.Cond.soleField "EdgeSumsModel" "stepCell") ∈ lw_all := lw_g (lw_at lw_m11 170 rfl) rfl
theorem q2695 : (Jvm.Cond.lays "EdgeSumsModel" "EdgeSumsModel" "stepNumber" "I") ∈ lw_all := lw_g (lw_at lw_m11 171 rfl) rfl
theorem q2696 : (Jvm.Cond.soleField "EdgeSumsModel" "stepNumber") ∈ lw_all := lw_g (lw_at lw_m11 172 rfl) rfl
theorem q2697 : (Jvm.Cond.lays "EdgeSumsModel" "EdgeSumsModel" "stepCause" "I") ∈ lw_all := lw_g (lw_at lw_m11 173 rfl) rfl
theorem q2698 : (Jvm.Cond.soleField "EdgeSumsModel" "stepCause") ∈ lw_all := lw_g (lw_at lw_m11 174 rfl) rfl
theorem q2699 : (Jvm.Cond.laysFinal "EdgeSumsModel" "EdgeSumsModel" "steps" "[I") ∈ lw_all := lw_g (lw_at lw_m11 175 rfl) rfl
theorem q2700 : (Jvm.Cond.soleField "EdgeSumsModel" "steps") ∈ lw_all := lw_g (lw_at lw_m11 176 rfl) rfl
theorem q2701 : (Jvm.Cond.lays "EdgeSumsModel" "EdgeSumsModel" "stepMany" "I") ∈ lw_all := lw_g (lw_at lw_m11 177 rfl) rfl
theorem q2702 : (Jvm.Cond.soleField "EdgeSumsModel" "stepMany") ∈ lw_all := lw_g (lw_at lw_m11 178 rfl) rfl
theorem q2703 : (Jvm.Cond.laysFinal "EdgeSumsModel" "EdgeSumsModel" "label" "[I") ∈ lw_all := lw_g (lw_at lw_m11 179 rfl) rfl
theorem q2704 : (Jvm.Cond.soleField "EdgeSumsModel" "label") ∈ lw_all := lw_g (lw_at lw_m11 180 rfl) rfl
theorem q2705 : (Jvm.Cond.laysFinal "EdgeSumsModel" "EdgeSumsModel" "mark" "[I") ∈ lw_all := lw_g (lw_at lw_m11 181 rfl) rfl
theorem q2706 : (Jvm.Cond.soleField "EdgeSumsModel" "mark") ∈ lw_all := lw_g (lw_at lw_m11 182 rfl) rfl
theorem q2707 : (Jvm.Cond.laysFinal "EdgeSumsModel" "EdgeSumsModel" "order" "[I") ∈ lw_all := lw_g (lw_at lw_m11 183 rfl) rfl
theorem q2708 : (Jvm.Cond.soleField "EdgeSumsModel" "order") ∈ lw_all := lw_g (lw_at lw_m11 184 rfl) rfl
theorem q2709 : (Jvm.Cond.laysFinal "EdgeSumsModel" "EdgeSumsModel" "other" "[I") ∈ lw_all := lw_g (lw_at lw_m11 185 rfl) rfl
theorem q2710 : (Jvm.Cond.soleField "EdgeSumsModel" "other") ∈ lw_all := lw_g (lw_at lw_m11 186 rfl) rfl
theorem q2711 : (Jvm.Cond.laysFinal "EdgeSumsModel" "EdgeSumsModel" "line" "[I") ∈ lw_all := lw_g (lw_at lw_m11 187 rfl) rfl
theorem q2712 : (Jvm.Cond.soleField "EdgeSumsModel" "line") ∈ lw_all := lw_g (lw_at lw_m11 188 rfl) rfl
theorem q2713 : (Jvm.Cond.lays "EdgeSumsModel" "EdgeSumsModel" "lineMany" "I") ∈ lw_all := lw_g (lw_at lw_m11 189 rfl) rfl
theorem q2714 : (Jvm.Cond.soleField "EdgeSumsModel" "lineMany") ∈ lw_all := lw_g (lw_at lw_m11 190 rfl) rfl
theorem q2715 : (Jvm.Cond.lays "EdgeSumsModel" "EdgeSumsModel" "token" "I") ∈ lw_all := lw_g (lw_at lw_m11 191 rfl) rfl
theorem q2716 : (Jvm.Cond.soleField "EdgeSumsModel" "token") ∈ lw_all := lw_g (lw_at lw_m11 192 rfl) rfl
theorem q2717 : (Jvm.Cond.lays "EdgeSumsModel" "EdgeSumsModel" "from" "I") ∈ lw_all := lw_g (lw_at lw_m11 193 rfl) rfl
theorem q2718 : (Jvm.Cond.soleField "EdgeSumsModel" "from") ∈ lw_all := lw_g (lw_at lw_m11 194 rfl) rfl
theorem q2719 : (Jvm.Cond.lays "EdgeSumsModel" "EdgeSumsModel" "till" "I") ∈ lw_all := lw_g (lw_at lw_m11 195 rfl) rfl
theorem q2720 : (Jvm.Cond.soleField "EdgeSumsModel" "till") ∈ lw_all := lw_g (lw_at lw_m11 196 rfl) rfl
theorem q2721 : (Jvm.Cond.lays "EdgeSumsModel" "EdgeSumsModel" "wrong" "I") ∈ lw_all := lw_g (lw_at lw_m11 197 rfl) rfl
theorem q2722 : (Jvm.Cond.soleField "EdgeSumsModel" "wrong") ∈ lw_all := lw_g (lw_at lw_m11 198 rfl) rfl
theorem q2723 : (Jvm.Cond.superclass "EdgeSumsModel" "java/lang/Object") ∈ lw_all := lw_g (lw_at lw_m11 199 rfl) rfl
theorem q2725 : (Jvm.Cond.instanceMethod ({ cls := "EdgeSumsModel", name := "setPage", desc := "(II)I" } : Jvm.MethodName)) ∈ lw_all := lw_g (lw_at lw_m11 201 rfl) rfl
theorem q2726 : (Jvm.Cond.selects "EdgeSumsModel" ({ cls := "EdgeSumsModel", name := "setPage", desc := "(II)I" } : Jvm.MethodName) ({ cls := "EdgeSumsModel", name := "setPage", desc := "(II)I" } : Jvm.MethodName)) ∈ lw_all := lw_g (lw_at lw_m11 202 rfl) rfl
theorem q2727 : (Jvm.Cond.code ({ cls := "EdgeSumsModel", name := "setPage", desc := "(II)I" } : Jvm.MethodName) prog_28_method_33_code (3 : Nat) (Option.some Jvm.ClassFile.FieldType.int)) ∈ lw_all := lw_g (lw_at lw_m11 203 rfl) rfl
theorem q2728 : (Jvm.Cond.methodLink "EdgeSumsModel" (65 : Nat) ({ cls := "EdgeSumsModel", name := "in", desc := "(III)Z" } : Jvm.MethodName)) ∈ lw_all := lw_g (lw_at lw_m11 204 rfl) rfl
theorem q2729 : (Jvm.Cond.static ({ cls := "EdgeSumsModel", name := "in", desc := "(III)Z" } : Jvm.MethodName)) ∈ lw_all := lw_g (lw_at lw_m11 205 rfl) rfl
theorem q2730 : (Jvm.Cond.code ({ cls := "EdgeSumsModel", name := "in", desc := "(III)Z" } : Jvm.MethodName) prog_28_method_3_code (3 : Nat) (Option.some Jvm.ClassFile.FieldType.boolean)) ∈ lw_all := lw_g (lw_at lw_m11 206 rfl) rfl
theorem q2731 : (Jvm.Cond.methodLink "EdgeSumsModel" (102 : Nat) ({ cls := "EdgeSumsModel", name := "act", desc := "()V" } : Jvm.MethodName)) ∈ lw_all := lw_g (lw_at lw_m11 207 rfl) rfl
theorem q2732 : (Jvm.Cond.privateMethod ({ cls := "EdgeSumsModel", name := "act", desc := "()V" } : Jvm.MethodName)) ∈ lw_tbl := lw_at lw_m11 208 rfl
theorem q2733 : (Jvm.Cond.instanceMethod ({ cls := "EdgeSumsModel", name := "act", desc := "()V" } : Jvm.MethodName)) ∈ lw_all := lw_g (lw_at lw_m11 209 rfl) rfl
theorem q2734 : (Jvm.Cond.code ({ cls := "EdgeSumsModel", name := "act", desc := "()V" } : Jvm.MethodName) prog_28_method_10_code (2 : Nat) (Option.none : Option Jvm.ClassFile.FieldType)) ∈ lw_all := lw_g (lw_at lw_m11 210 rfl) rfl
theorem q2735 : (Jvm.Cond.methodLink "EdgeSumsModel" (105 : Nat) ({ cls := "EdgeSumsModel", name := "blocks", desc := "()I" } : Jvm.MethodName)) ∈ lw_all := lw_g (lw_at lw_m11 211 rfl) rfl
theorem q2736 : (Jvm.Cond.privateMethod ({ cls := "EdgeSumsModel", name := "blocks", desc := "()I" } : Jvm.MethodName)) ∈ lw_tbl := lw_at lw_m11 212 rfl
theorem q2737 : (Jvm.Cond.instanceMethod ({ cls := "EdgeSumsModel", name := "blocks", desc := "()I" } : Jvm.MethodName)) ∈ lw_all := lw_g (lw_at lw_m11 213 rfl) rfl
theorem q2738 : (Jvm.Cond.code ({ cls := "EdgeSumsModel", name := "blocks", desc := "()I" } : Jvm.MethodName) prog_28_method_21_code (3 : Nat) (Option.some Jvm.ClassFile.FieldType.int)) ∈ lw_all := lw_g (lw_at lw_m11 214 rfl) rfl
theorem q2739 : (Jvm.Cond.methodLink "EdgeSumsModel" (79 : Nat) ({ cls := "EdgeSumsModel", name := "more", desc := "(II)I" } : Jvm.MethodName)) ∈ lw_all := lw_g (lw_at lw_m11 215 rfl) rfl
theorem q2740 : (Jvm.Cond.static ({ cls := "EdgeSumsModel", name := "more", desc := "(II)I" } : Jvm.MethodName)) ∈ lw_all := lw_g (lw_at lw_m11 216 rfl) rfl
theorem q2741 : (Jvm.Cond.code ({ cls := "EdgeSumsModel", name := "more", desc := "(II)I" } : Jvm.MethodName) prog_28_method_5_code (2 : Nat) (Option.some Jvm.ClassFile.FieldType.int)) ∈ lw_all := lw_g (lw_at lw_m11 217 rfl) rfl
theorem q2743 : (Jvm.Cond.instanceMethod ({ cls := "EdgeSumsModel", name := "moveCell", desc := "(II)I" } : Jvm.MethodName)) ∈ lw_all := lw_g (lw_at lw_m11 219 rfl) rfl
theorem q2744 : (Jvm.Cond.selects "EdgeSumsModel" ({ cls := "EdgeSumsModel", name := "moveCell", desc := "(II)I" } : Jvm.MethodName) ({ cls := "EdgeSumsModel", name := "moveCell", desc := "(II)I" } : Jvm.MethodName)) ∈ lw_all := lw_g (lw_at lw_m11 220 rfl) rfl
theorem q2745 : (Jvm.Cond.code ({ cls := "EdgeSumsModel", name := "moveCell", desc := "(II)I" } : Jvm.MethodName) prog_28_method_34_code (6 : Nat) (Option.some Jvm.ClassFile.FieldType.int)) ∈ lw_all := lw_g (lw_at lw_m11 221 rfl) rfl
theorem q2746 : (Jvm.Cond.methodLink "EdgeSumsModel" (108 : Nat) ({ cls := "EdgeSumsModel", name := "isCell", desc := "(I)Z" } : Jvm.MethodName)) ∈ lw_all := lw_g (lw_at lw_m11 222 rfl) rfl
theorem q2747 : (Jvm.Cond.privateMethod ({ cls := "EdgeSumsModel", name := "isCell", desc := "(I)Z" } : Jvm.MethodName)) ∈ lw_tbl := lw_at lw_m11 223 rfl
theorem q2748 : (Jvm.Cond.instanceMethod ({ cls := "EdgeSumsModel", name := "isCell", desc := "(I)Z" } : Jvm.MethodName)) ∈ lw_all := lw_g (lw_at lw_m11 224 rfl) rfl
theorem q2749 : (Jvm.Cond.code ({ cls := "EdgeSumsModel", name := "isCell", desc := "(I)Z" } : Jvm.MethodName) prog_28_method_13_code (2 : Nat) (Option.some Jvm.ClassFile.FieldType.boolean)) ∈ lw_all := lw_g (lw_at lw_m11 225 rfl) rfl
theorem q2750 : (Jvm.Cond.methodLink "EdgeSumsModel" (83 : Nat) ({ cls := "EdgeSumsModel", name := "areNeighbors", desc := "(II)Z" } : Jvm.MethodName)) ∈ lw_all := lw_g (lw_at lw_m11 226 rfl) rfl
theorem q2751 : (Jvm.Cond.privateMethod ({ cls := "EdgeSumsModel", name := "areNeighbors", desc := "(II)Z" } : Jvm.MethodName)) ∈ lw_tbl := lw_at lw_m11 227 rfl
theorem q2752 : (Jvm.Cond.instanceMethod ({ cls := "EdgeSumsModel", name := "areNeighbors", desc := "(II)Z" } : Jvm.MethodName)) ∈ lw_all := lw_g (lw_at lw_m11 228 rfl) rfl
theorem q2753 : (Jvm.Cond.code ({ cls := "EdgeSumsModel", name := "areNeighbors", desc := "(II)Z" } : Jvm.MethodName) prog_28_method_17_code (6 : Nat) (Option.some Jvm.ClassFile.FieldType.boolean)) ∈ lw_all := lw_g (lw_at lw_m11 229 rfl) rfl
theorem q2754 : (Jvm.Cond.methodLink "EdgeSumsModel" (112 : Nat) ({ cls := "EdgeSumsModel", name := "isConnected", desc := "(II)Z" } : Jvm.MethodName)) ∈ lw_all := lw_g (lw_at lw_m11 230 rfl) rfl
theorem q2755 : (Jvm.Cond.privateMethod ({ cls := "EdgeSumsModel", name := "isConnected", desc := "(II)Z" } : Jvm.MethodName)) ∈ lw_tbl := lw_at lw_m11 231 rfl
theorem q2756 : (Jvm.Cond.instanceMethod ({ cls := "EdgeSumsModel", name := "isConnected", desc := "(II)Z" } : Jvm.MethodName)) ∈ lw_all := lw_g (lw_at lw_m11 232 rfl) rfl
theorem q2757 : (Jvm.Cond.code ({ cls := "EdgeSumsModel", name := "isConnected", desc := "(II)Z" } : Jvm.MethodName) prog_28_method_22_code (7 : Nat) (Option.some Jvm.ClassFile.FieldType.boolean)) ∈ lw_all := lw_g (lw_at lw_m11 233 rfl) rfl
theorem q2758 : (Jvm.Cond.methodLink "EdgeSumsModel" (115 : Nat) ({ cls := "EdgeSumsModel", name := "emptyBlock", desc := "(I)V" } : Jvm.MethodName)) ∈ lw_all := lw_g (lw_at lw_m11 234 rfl) rfl
theorem q2759 : (Jvm.Cond.privateMethod ({ cls := "EdgeSumsModel", name := "emptyBlock", desc := "(I)V" } : Jvm.MethodName)) ∈ lw_tbl := lw_at lw_m11 235 rfl
theorem q2760 : (Jvm.Cond.instanceMethod ({ cls := "EdgeSumsModel", name := "emptyBlock", desc := "(I)V" } : Jvm.MethodName)) ∈ lw_all := lw_g (lw_at lw_m11 236 rfl) rfl
theorem q2761 : (Jvm.Cond.code ({ cls := "EdgeSumsModel", name := "emptyBlock", desc := "(I)V" } : Jvm.MethodName) prog_28_method_26_code (3 : Nat) (Option.none : Option Jvm.ClassFile.FieldType)) ∈ lw_all := lw_g (lw_at lw_m11 237 rfl) rfl
theorem q2762 : (Jvm.Cond.methodLink "EdgeSumsModel" (89 : Nat) ({ cls := "EdgeSumsModel", name := "empty", desc := "(I)V" } : Jvm.MethodName)) ∈ lw_all := lw_g (lw_at lw_m11 238 rfl) rfl
theorem q2763 : (Jvm.Cond.privateMethod ({ cls := "EdgeSumsModel", name := "empty", desc := "(I)V" } : Jvm.MethodName)) ∈ lw_tbl := lw_at lw_m11 239 rfl
theorem q2764 : (Jvm.Cond.instanceMethod ({ cls := "EdgeSumsModel", name := "empty", desc := "(I)V" } : Jvm.MethodName)) ∈ lw_all := lw_g (lw_at lw_m12 0 rfl) rfl
theorem q2765 : (Jvm.Cond.code ({ cls := "EdgeSumsModel", name := "empty", desc := "(I)V" } : Jvm.MethodName) prog_28_method_25_code (2 : Nat) (Option.none : Option Jvm.ClassFile.FieldType)) ∈ lw_all := lw_g (lw_at lw_m12 1 rfl) rfl
theorem q2766 : (Jvm.Cond.methodLink "EdgeSumsModel" (118 : Nat) ({ cls := "EdgeSumsModel", name := "renumber", desc := "()I" } : Jvm.MethodName)) ∈ lw_all := lw_g (lw_at lw_m12 2 rfl) rfl
theorem q2767 : (Jvm.Cond.privateMethod ({ cls := "EdgeSumsModel", name := "renumber", desc := "()I" } : Jvm.MethodName)) ∈ lw_tbl := lw_at lw_m12 3 rfl
theorem q2768 : (Jvm.Cond.instanceMethod ({ cls := "EdgeSumsModel", name := "renumber", desc := "()I" } : Jvm.MethodName)) ∈ lw_all := lw_g (lw_at lw_m12 4 rfl) rfl
theorem q2769 : (Jvm.Cond.code ({ cls := "EdgeSumsModel", name := "renumber", desc := "()I" } : Jvm.MethodName) prog_28_method_20_code (4 : Nat) (Option.some Jvm.ClassFile.FieldType.int)) ∈ lw_all := lw_g (lw_at lw_m12 5 rfl) rfl
theorem q2771 : (Jvm.Cond.instanceMethod ({ cls := "EdgeSumsModel", name := "splitCell", desc := "(I)I" } : Jvm.MethodName)) ∈ lw_all := lw_g (lw_at lw_m12 7 rfl) rfl
theorem q2772 : (Jvm.Cond.selects "EdgeSumsModel" ({ cls := "EdgeSumsModel", name := "splitCell", desc := "(I)I" } : Jvm.MethodName) ({ cls := "EdgeSumsModel", name := "splitCell", desc := "(I)I" } : Jvm.MethodName)) ∈ lw_all := lw_g (lw_at lw_m12 8 rfl) rfl
theorem q2773 : (Jvm.Cond.code ({ cls := "EdgeSumsModel", name := "splitCell", desc := "(I)I" } : Jvm.MethodName) prog_28_method_35_code (3 : Nat) (Option.some Jvm.ClassFile.FieldType.int)) ∈ lw_all := lw_g (lw_at lw_m12 9 rfl) rfl
theorem q2775 : (Jvm.Cond.instanceMethod ({ cls := "EdgeSumsModel", name := "mirror", desc := "()I" } : Jvm.MethodName)) ∈ lw_all := lw_g (lw_at lw_m12 11 rfl) rfl
theorem q2776 : (Jvm.Cond.selects "EdgeSumsModel" ({ cls := "EdgeSumsModel", name := "mirror", desc := "()I" } : Jvm.MethodName) ({ cls := "EdgeSumsModel", name := "mirror", desc := "()I" } : Jvm.MethodName)) ∈ lw_all := lw_g (lw_at lw_m12 12 rfl) rfl
theorem q2777 : (Jvm.Cond.code ({ cls := "EdgeSumsModel", name := "mirror", desc := "()I" } : Jvm.MethodName) prog_28_method_38_code (3 : Nat) (Option.some Jvm.ClassFile.FieldType.int)) ∈ lw_all := lw_g (lw_at lw_m12 13 rfl) rfl
theorem q2778 : (Jvm.Cond.methodLink "EdgeSumsModel" (124 : Nat) ({ cls := "EdgeSumsModel", name := "bring", desc := "(II)V" } : Jvm.MethodName)) ∈ lw_all := lw_g (lw_at lw_m12 14 rfl) rfl
theorem q2779 : (Jvm.Cond.privateMethod ({ cls := "EdgeSumsModel", name := "bring", desc := "(II)V" } : Jvm.MethodName)) ∈ lw_tbl := lw_at lw_m12 15 rfl
theorem q2780 : (Jvm.Cond.instanceMethod ({ cls := "EdgeSumsModel", name := "bring", desc := "(II)V" } : Jvm.MethodName)) ∈ lw_all := lw_g (lw_at lw_m12 16 rfl) rfl
theorem q2781 : (Jvm.Cond.code ({ cls := "EdgeSumsModel", name := "bring", desc := "(II)V" } : Jvm.MethodName) prog_28_method_36_code (3 : Nat) (Option.none : Option Jvm.ClassFile.FieldType)) ∈ lw_all := lw_g (lw_at lw_m12 17 rfl) rfl
theorem q2782 : (Jvm.Cond.methodLink "EdgeSumsModel" (69 : Nat) ({ cls := "EdgeSumsModel", name := "lines", desc := "()I" } : Jvm.MethodName)) ∈ lw_all := lw_g (lw_at lw_m12 18 rfl) rfl
theorem q2783 : (Jvm.Cond.privateMethod ({ cls := "EdgeSumsModel", name := "lines", desc := "()I" } : Jvm.MethodName)) ∈ lw_tbl := lw_at lw_m12 19 rfl
theorem q2784 : (Jvm.Cond.instanceMethod ({ cls := "EdgeSumsModel", name := "lines", desc := "()I" } : Jvm.MethodName)) ∈ lw_all := lw_g (lw_at lw_m12 20 rfl) rfl
theorem q2785 : (Jvm.Cond.code ({ cls := "EdgeSumsModel", name := "lines", desc := "()I" } : Jvm.MethodName) prog_28_method_12_code (1 : Nat) (Option.some Jvm.ClassFile.FieldType.int)) ∈ lw_all := lw_g (lw_at lw_m12 21 rfl) rfl
theorem q2786 : (Jvm.Cond.methodLink "EdgeSumsModel" (127 : Nat) ({ cls := "EdgeSumsModel", name := "takeOther", desc := "(II)V" } : Jvm.MethodName)) ∈ lw_all := lw_g (lw_at lw_m12 22 rfl) rfl
theorem q2787 : (Jvm.Cond.privateMethod ({ cls := "EdgeSumsModel", name := "takeOther", desc := "(II)V" } : Jvm.MethodName)) ∈ lw_tbl := lw_at lw_m12 23 rfl
theorem q2788 : (Jvm.Cond.instanceMethod ({ cls := "EdgeSumsModel", name := "takeOther", desc := "(II)V" } : Jvm.MethodName)) ∈ lw_all := lw_g (lw_at lw_m12 24 rfl) rfl
theorem q2789 : (Jvm.Cond.code ({ cls := "EdgeSumsModel", name := "takeOther", desc := "(II)V" } : Jvm.MethodName) prog_28_method_37_code (4 : Nat) (Option.none : Option Jvm.ClassFile.FieldType)) ∈ lw_all := lw_g (lw_at lw_m12 25 rfl) rfl
theorem q2791 : (Jvm.Cond.instanceMethod ({ cls := "EdgeSumsModel", name := "turn", desc := "()I" } : Jvm.MethodName)) ∈ lw_all := lw_g (lw_at lw_m12 27 rfl) rfl
theorem q2792 : (Jvm.Cond.selects "EdgeSumsModel" ({ cls := "EdgeSumsModel", name := "turn", desc := "()I" } : Jvm.MethodName) ({ cls := "EdgeSumsModel", name := "turn", desc := "()I" } : Jvm.MethodName)) ∈ lw_all := lw_g (lw_at lw_m12 28 rfl) rfl
theorem q2793 : (Jvm.Cond.code ({ cls := "EdgeSumsModel", name := "turn", desc := "()I" } : Jvm.MethodName) prog_28_method_39_code (5 : Nat) (Option.some Jvm.ClassFile.FieldType.int)) ∈ lw_all := lw_g (lw_at lw_m12 29 rfl) rfl
theorem q2794 : (Jvm.Cond.methodLink "EdgeSumsModel" (130 : Nat) ({ cls := "EdgeSumsModel", name := "renumberTurned", desc := "()V" } : Jvm.MethodName)) ∈ lw_all := lw_g (lw_at lw_m12 30 rfl) rfl
theorem q2795 : (Jvm.Cond.privateMethod ({ cls := "EdgeSumsModel", name := "renumberTurned", desc := "()V" } : Jvm.MethodName)) ∈ lw_tbl := lw_at lw_m12 31 rfl
theorem q2796 : (Jvm.Cond.instanceMethod ({ cls := "EdgeSumsModel", name := "renumberTurned", desc := "()V" } : Jvm.MethodName)) ∈ lw_all := lw_g (lw_at lw_m12 32 rfl) rfl
theorem q2797 : (Jvm.Cond.code ({ cls := "EdgeSumsModel", name := "renumberTurned", desc := "()V" } : Jvm.MethodName) prog_28_method_40_code (2 : Nat) (Option.none : Option Jvm.ClassFile.FieldType)) ∈ lw_all := lw_g (lw_at lw_m12 33 rfl) rfl
theorem q2799 : (Jvm.Cond.instanceMethod ({ cls := "EdgeSumsModel", name := "write", desc := "(II)I" } : Jvm.MethodName)) ∈ lw_all := lw_g (lw_at lw_m12 35 rfl) rfl
theorem q2800 : (Jvm.Cond.selects "EdgeSumsModel" ({ cls := "EdgeSumsModel", name := "write", desc := "(II)I" } : Jvm.MethodName) ({ cls := "EdgeSumsModel", name := "write", desc := "(II)I" } : Jvm.MethodName)) ∈ lw_all := lw_g (lw_at lw_m12 36 rfl) rfl
theorem q2801 : (Jvm.Cond.code ({ cls := "EdgeSumsModel", name := "write", desc := "(II)I" } : Jvm.MethodName) prog_28_method_42_code (4 : Nat) (Option.some Jvm.ClassFile.FieldType.int)) ∈ lw_all := lw_g (lw_at lw_m12 37 rfl) rfl
theorem q2802 : (Jvm.Cond.methodLink "EdgeSumsModel" (133 : Nat) ({ cls := "EdgeSumsModel", name := "isTaken", desc := "(II)Z" } : Jvm.MethodName)) ∈ lw_all := lw_g (lw_at lw_m12 38 rfl) rfl
theorem q2803 : (Jvm.Cond.privateMethod ({ cls := "EdgeSumsModel", name := "isTaken", desc := "(II)Z" } : Jvm.MethodName)) ∈ lw_tbl := lw_at lw_m12 39 rfl
theorem q2804 : (Jvm.Cond.instanceMethod ({ cls := "EdgeSumsModel", name := "isTaken", desc := "(II)Z" } : Jvm.MethodName)) ∈ lw_all := lw_g (lw_at lw_m12 40 rfl) rfl
theorem q2805 : (Jvm.Cond.code ({ cls := "EdgeSumsModel", name := "isTaken", desc := "(II)Z" } : Jvm.MethodName) prog_28_method_41_code (5 : Nat) (Option.some Jvm.ClassFile.FieldType.boolean)) ∈ lw_all := lw_g (lw_at lw_m12 41 rfl) rfl
theorem q2807 : (Jvm.Cond.instanceMethod ({ cls := "EdgeSumsModel", name := "fill", desc := "()I" } : Jvm.MethodName)) ∈ lw_all := lw_g (lw_at lw_m12 43 rfl) rfl
theorem q2808 : (Jvm.Cond.selects "EdgeSumsModel" ({ cls := "EdgeSumsModel", name := "fill", desc := "()I" } : Jvm.MethodName) ({ cls := "EdgeSumsModel", name := "fill", desc := "()I" } : Jvm.MethodName)) ∈ lw_all := lw_g (lw_at lw_m12 44 rfl) rfl
theorem q2809 : (Jvm.Cond.code ({ cls := "EdgeSumsModel", name := "fill", desc := "()I" } : Jvm.MethodName) prog_28_method_44_code (4 : Nat) (Option.some Jvm.ClassFile.FieldType.int)) ∈ lw_all := lw_g (lw_at lw_m12 45 rfl) rfl
theorem q2810 : (Jvm.Cond.methodLink "EdgeSumsModel" (136 : Nat) ({ cls := "EdgeSumsModel", name := "emptyMany", desc := "()I" } : Jvm.MethodName)) ∈ lw_all := lw_g (lw_at lw_m12 46 rfl) rfl
theorem q2811 : (Jvm.Cond.privateMethod ({ cls := "EdgeSumsModel", name := "emptyMany", desc := "()I" } : Jvm.MethodName)) ∈ lw_tbl := lw_at lw_m12 47 rfl
theorem q2812 : (Jvm.Cond.instanceMethod ({ cls := "EdgeSumsModel", name := "emptyMany", desc := "()I" } : Jvm.MethodName)) ∈ lw_all := lw_g (lw_at lw_m12 48 rfl) rfl
theorem q2813 : (Jvm.Cond.code ({ cls := "EdgeSumsModel", name := "emptyMany", desc := "()I" } : Jvm.MethodName) prog_28_method_43_code (3 : Nat) (Option.some Jvm.ClassFile.FieldType.int)) ∈ lw_all := lw_g (lw_at lw_m12 49 rfl) rfl
theorem q2815 : (Jvm.Cond.instanceMethod ({ cls := "EdgeSumsModel", name := "exchange", desc := "(II)I" } : Jvm.MethodName)) ∈ lw_all := lw_g (lw_at lw_m12 51 rfl) rfl
theorem q2816 : (Jvm.Cond.selects "EdgeSumsModel" ({ cls := "EdgeSumsModel", name := "exchange", desc := "(II)I" } : Jvm.MethodName) ({ cls := "EdgeSumsModel", name := "exchange", desc := "(II)I" } : Jvm.MethodName)) ∈ lw_all := lw_g (lw_at lw_m12 52 rfl) rfl
theorem q2817 : (Jvm.Cond.code ({ cls := "EdgeSumsModel", name := "exchange", desc := "(II)I" } : Jvm.MethodName) prog_28_method_45_code (4 : Nat) (Option.some Jvm.ClassFile.FieldType.int)) ∈ lw_all := lw_g (lw_at lw_m12 53 rfl) rfl
theorem q2819 : (Jvm.Cond.instanceMethod ({ cls := "EdgeSumsModel", name := "give", desc := "(II)I" } : Jvm.MethodName)) ∈ lw_all := lw_g (lw_at lw_m12 55 rfl) rfl
theorem q2820 : (Jvm.Cond.selects "EdgeSumsModel" ({ cls := "EdgeSumsModel", name := "give", desc := "(II)I" } : Jvm.MethodName) ({ cls := "EdgeSumsModel", name := "give", desc := "(II)I" } : Jvm.MethodName)) ∈ lw_all := lw_g (lw_at lw_m12 56 rfl) rfl
theorem q2821 : (Jvm.Cond.code ({ cls := "EdgeSumsModel", name := "give", desc := "(II)I" } : Jvm.MethodName) prog_28_method_67_code (3 : Nat) (Option.some Jvm.ClassFile.FieldType.int)) ∈ lw_all := lw_g (lw_at lw_m12 57 rfl) rfl
theorem q2822 : (Jvm.Cond.methodLink "EdgeSumsModel" (213 : Nat) ({ cls := "EdgeSumsModel", name := "givenMany", desc := "()I" } : Jvm.MethodName)) ∈ lw_all := lw_g (lw_at lw_m12 58 rfl) rfl
theorem q2823 : (Jvm.Cond.privateMethod ({ cls := "EdgeSumsModel", name := "givenMany", desc := "()I" } : Jvm.MethodName)) ∈ lw_tbl := lw_at lw_m12 59 rfl
theorem q2824 : (Jvm.Cond.instanceMethod ({ cls := "EdgeSumsModel", name := "givenMany", desc := "()I" } : Jvm.MethodName)) ∈ lw_all := lw_g (lw_at lw_m12 60 rfl) rfl
theorem q2825 : (Jvm.Cond.code ({ cls := "EdgeSumsModel", name := "givenMany", desc := "()I" } : Jvm.MethodName) prog_28_method_31_code (3 : Nat) (Option.some Jvm.ClassFile.FieldType.int)) ∈ lw_all := lw_g (lw_at lw_m12 61 rfl) rfl
theorem q2827 : (Jvm.Cond.instanceMethod ({ cls := "EdgeSumsModel", name := "showSum", desc := "(II)I" } : Jvm.MethodName)) ∈ lw_all := lw_g (lw_at lw_m12 63 rfl) rfl
theorem q2828 : (Jvm.Cond.selects "EdgeSumsModel" ({ cls := "EdgeSumsModel", name := "showSum", desc := "(II)I" } : Jvm.MethodName) ({ cls := "EdgeSumsModel", name := "showSum", desc := "(II)I" } : Jvm.MethodName)) ∈ lw_all := lw_g (lw_at lw_m12 64 rfl) rfl
theorem q2829 : (Jvm.Cond.code ({ cls := "EdgeSumsModel", name := "showSum", desc := "(II)I" } : Jvm.MethodName) prog_28_method_68_code (3 : Nat) (Option.some Jvm.ClassFile.FieldType.int)) ∈ lw_all := lw_g (lw_at lw_m12 65 rfl) rfl
theorem q2830 : (Jvm.Cond.methodLink "EdgeSumsModel" (216 : Nat) ({ cls := "EdgeSumsModel", name := "isLine", desc := "(I)Z" } : Jvm.MethodName)) ∈ lw_all := lw_g (lw_at lw_m12 66 rfl) rfl
theorem q2831 : (Jvm.Cond.privateMethod ({ cls := "EdgeSumsModel", name := "isLine", desc := "(I)Z" } : Jvm.MethodName)) ∈ lw_tbl := lw_at lw_m12 67 rfl
theorem q2832 : (Jvm.Cond.instanceMethod ({ cls := "EdgeSumsModel", name := "isLine", desc := "(I)Z" } : Jvm.MethodName)) ∈ lw_all := lw_g (lw_at lw_m12 68 rfl) rfl
theorem q2833 : (Jvm.Cond.code ({ cls := "EdgeSumsModel", name := "isLine", desc := "(I)Z" } : Jvm.MethodName) prog_28_method_14_code (2 : Nat) (Option.some Jvm.ClassFile.FieldType.boolean)) ∈ lw_all := lw_g (lw_at lw_m12 69 rfl) rfl
theorem q2834 : (Jvm.Cond.methodLink "EdgeSumsModel" (219 : Nat) ({ cls := "EdgeSumsModel", name := "canShow", desc := "(I)Z" } : Jvm.MethodName)) ∈ lw_all := lw_g (lw_at lw_m12 70 rfl) rfl
theorem q2835 : (Jvm.Cond.privateMethod ({ cls := "EdgeSumsModel", name := "canShow", desc := "(I)Z" } : Jvm.MethodName)) ∈ lw_tbl := lw_at lw_m12 71 rfl
theorem q2836 : (Jvm.Cond.instanceMethod ({ cls := "EdgeSumsModel", name := "canShow", desc := "(I)Z" } : Jvm.MethodName)) ∈ lw_all := lw_g (lw_at lw_m12 72 rfl) rfl
theorem q2837 : (Jvm.Cond.code ({ cls := "EdgeSumsModel", name := "canShow", desc := "(I)Z" } : Jvm.MethodName) prog_28_method_30_code (4 : Nat) (Option.some Jvm.ClassFile.FieldType.boolean)) ∈ lw_all := lw_g (lw_at lw_m12 73 rfl) rfl
theorem q2838 : (Jvm.Cond.methodLink "EdgeSumsModel" (93 : Nat) ({ cls := "EdgeSumsModel", name := "cellsOf", desc := "(I)I" } : Jvm.MethodName)) ∈ lw_all := lw_g (lw_at lw_m12 74 rfl) rfl
theorem q2839 : (Jvm.Cond.privateMethod ({ cls := "EdgeSumsModel", name := "cellsOf", desc := "(I)I" } : Jvm.MethodName)) ∈ lw_tbl := lw_at lw_m12 75 rfl
theorem q2840 : (Jvm.Cond.instanceMethod ({ cls := "EdgeSumsModel", name := "cellsOf", desc := "(I)I" } : Jvm.MethodName)) ∈ lw_all := lw_g (lw_at lw_m12 76 rfl) rfl
theorem q2841 : (Jvm.Cond.code ({ cls := "EdgeSumsModel", name := "cellsOf", desc := "(I)I" } : Jvm.MethodName) prog_28_method_28_code (2 : Nat) (Option.some Jvm.ClassFile.FieldType.int)) ∈ lw_all := lw_g (lw_at lw_m12 77 rfl) rfl
theorem q2842 : (Jvm.Cond.methodLink "EdgeSumsModel" (96 : Nat) ({ cls := "EdgeSumsModel", name := "cellOf", desc := "(II)I" } : Jvm.MethodName)) ∈ lw_all := lw_g (lw_at lw_m12 78 rfl) rfl
theorem q2843 : (Jvm.Cond.privateMethod ({ cls := "EdgeSumsModel", name := "cellOf", desc := "(II)I" } : Jvm.MethodName)) ∈ lw_tbl := lw_at lw_m12 79 rfl
theorem q2844 : (Jvm.Cond.instanceMethod ({ cls := "EdgeSumsModel", name := "cellOf", desc := "(II)I" } : Jvm.MethodName)) ∈ lw_all := lw_g (lw_at lw_m12 80 rfl) rfl
theorem q2845 : (Jvm.Cond.code ({ cls := "EdgeSumsModel", name := "cellOf", desc := "(II)I" } : Jvm.MethodName) prog_28_method_27_code (3 : Nat) (Option.some Jvm.ClassFile.FieldType.int)) ∈ lw_all := lw_g (lw_at lw_m12 81 rfl) rfl
theorem q2846 : (Jvm.Cond.methodLink "EdgeSumsModel" (222 : Nat) ({ cls := "EdgeSumsModel", name := "shownMany", desc := "()I" } : Jvm.MethodName)) ∈ lw_all := lw_g (lw_at lw_m12 82 rfl) rfl
theorem q2847 : (Jvm.Cond.privateMethod ({ cls := "EdgeSumsModel", name := "shownMany", desc := "()I" } : Jvm.MethodName)) ∈ lw_tbl := lw_at lw_m12 83 rfl
theorem q2848 : (Jvm.Cond.instanceMethod ({ cls := "EdgeSumsModel", name := "shownMany", desc := "()I" } : Jvm.MethodName)) ∈ lw_all := lw_g (lw_at lw_m12 84 rfl) rfl
theorem q2849 : (Jvm.Cond.code ({ cls := "EdgeSumsModel", name := "shownMany", desc := "()I" } : Jvm.MethodName) prog_28_method_32_code (3 : Nat) (Option.some Jvm.ClassFile.FieldType.int)) ∈ lw_all := lw_g (lw_at lw_m12 85 rfl) rfl
theorem q2851 : (Jvm.Cond.instanceMethod ({ cls := "EdgeSumsModel", name := "reduce", desc := "(II)I" } : Jvm.MethodName)) ∈ lw_all := lw_g (lw_at lw_m12 87 rfl) rfl
theorem q2852 : (Jvm.Cond.selects "EdgeSumsModel" ({ cls := "EdgeSumsModel", name := "reduce", desc := "(II)I" } : Jvm.MethodName) ({ cls := "EdgeSumsModel", name := "reduce", desc := "(II)I" } : Jvm.MethodName)) ∈ lw_all := lw_g (lw_at lw_m12 88 rfl) rfl
theorem q2853 : (Jvm.Cond.code ({ cls := "EdgeSumsModel", name := "reduce", desc := "(II)I" } : Jvm.MethodName) prog_28_method_71_code (7 : Nat) (Option.some Jvm.ClassFile.FieldType.int)) ∈ lw_all := lw_g (lw_at lw_m12 89 rfl) rfl
theorem q2854 : (Jvm.Cond.methodLink "EdgeSumsModel" (228 : Nat) ({ cls := "EdgeSumsModel", name := "isSolvable", desc := "()Z" } : Jvm.MethodName)) ∈ lw_all := lw_g (lw_at lw_m12 90 rfl) rfl
theorem q2855 : (Jvm.Cond.privateMethod ({ cls := "EdgeSumsModel", name := "isSolvable", desc := "()Z" } : Jvm.MethodName)) ∈ lw_tbl := lw_at lw_m12 91 rfl
theorem q2856 : (Jvm.Cond.instanceMethod ({ cls := "EdgeSumsModel", name := "isSolvable", desc := "()Z" } : Jvm.MethodName)) ∈ lw_all := lw_g (lw_at lw_m12 92 rfl) rfl
theorem q2857 : (Jvm.Cond.code ({ cls := "EdgeSumsModel", name := "isSolvable", desc := "()Z" } : Jvm.MethodName) prog_28_method_65_code (1 : Nat) (Option.some Jvm.ClassFile.FieldType.boolean)) ∈ lw_all := lw_g (lw_at lw_m12 93 rfl) rfl
theorem q2858 : (Jvm.Cond.methodLink "EdgeSumsModel" (210 : Nat) ({ cls := "EdgeSumsModel", name := "isSolvableBy", desc := "(I)Z" } : Jvm.MethodName)) ∈ lw_all := lw_g (lw_at lw_m12 94 rfl) rfl
theorem q2859 : (Jvm.Cond.privateMethod ({ cls := "EdgeSumsModel", name := "isSolvableBy", desc := "(I)Z" } : Jvm.MethodName)) ∈ lw_tbl := lw_at lw_m12 95 rfl
theorem q2860 : (Jvm.Cond.instanceMethod ({ cls := "EdgeSumsModel", name := "isSolvableBy", desc := "(I)Z" } : Jvm.MethodName)) ∈ lw_all := lw_g (lw_at lw_m12 96 rfl) rfl
theorem q2861 : (Jvm.Cond.code ({ cls := "EdgeSumsModel", name := "isSolvableBy", desc := "(I)Z" } : Jvm.MethodName) prog_28_method_64_code (2 : Nat) (Option.some Jvm.ClassFile.FieldType.boolean)) ∈ lw_all := lw_g (lw_at lw_m12 97 rfl) rfl
theorem q2862 : (Jvm.Cond.methodLink "EdgeSumsModel" (204 : Nat) ({ cls := "EdgeSumsModel", name := "goToEnd", desc := "(I)V" } : Jvm.MethodName)) ∈ lw_all := lw_g (lw_at lw_m12 98 rfl) rfl
theorem q2863 : (Jvm.Cond.privateMethod ({ cls := "EdgeSumsModel", name := "goToEnd", desc := "(I)V" } : Jvm.MethodName)) ∈ lw_tbl := lw_at lw_m12 99 rfl
theorem q2864 : (Jvm.Cond.instanceMethod ({ cls := "EdgeSumsModel", name := "goToEnd", desc := "(I)V" } : Jvm.MethodName)) ∈ lw_all := lw_g (lw_at lw_m12 100 rfl) rfl
theorem q2865 : (Jvm.Cond.code ({ cls := "EdgeSumsModel", name := "goToEnd", desc := "(I)V" } : Jvm.MethodName) prog_28_method_62_code (3 : Nat) (Option.none : Option Jvm.ClassFile.FieldType)) ∈ lw_all := lw_g (lw_at lw_m12 101 rfl) rfl
theorem q2866 : (Jvm.Cond.methodLink "EdgeSumsModel" (201 : Nat) ({ cls := "EdgeSumsModel", name := "findStep", desc := "(I)Z" } : Jvm.MethodName)) ∈ lw_all := lw_g (lw_at lw_m12 102 rfl) rfl
theorem q2867 : (Jvm.Cond.privateMethod ({ cls := "EdgeSumsModel", name := "findStep", desc := "(I)Z" } : Jvm.MethodName)) ∈ lw_tbl := lw_at lw_m12 103 rfl
theorem q2868 : (Jvm.Cond.instanceMethod ({ cls := "EdgeSumsModel", name := "findStep", desc := "(I)Z" } : Jvm.MethodName)) ∈ lw_all := lw_g (lw_at lw_m12 104 rfl) rfl
theorem q2869 : (Jvm.Cond.code ({ cls := "EdgeSumsModel", name := "findStep", desc := "(I)Z" } : Jvm.MethodName) prog_28_method_61_code (6 : Nat) (Option.some Jvm.ClassFile.FieldType.boolean)) ∈ lw_all := lw_g (lw_at lw_m12 105 rfl) rfl
theorem q2870 : (Jvm.Cond.methodLink "EdgeSumsModel" (145 : Nat) ({ cls := "EdgeSumsModel", name := "isBroken", desc := "()Z" } : Jvm.MethodName)) ∈ lw_all := lw_g (lw_at lw_m12 106 rfl) rfl
theorem q2871 : (Jvm.Cond.privateMethod ({ cls := "EdgeSumsModel", name := "isBroken", desc := "()Z" } : Jvm.MethodName)) ∈ lw_tbl := lw_at lw_m12 107 rfl
theorem q2872 : (Jvm.Cond.instanceMethod ({ cls := "EdgeSumsModel", name := "isBroken", desc := "()Z" } : Jvm.MethodName)) ∈ lw_all := lw_g (lw_at lw_m12 108 rfl) rfl
theorem q2873 : (Jvm.Cond.code ({ cls := "EdgeSumsModel", name := "isBroken", desc := "()Z" } : Jvm.MethodName) prog_28_method_51_code (3 : Nat) (Option.some Jvm.ClassFile.FieldType.boolean)) ∈ lw_all := lw_g (lw_at lw_m12 109 rfl) rfl
theorem q2874 : (Jvm.Cond.methodLink "EdgeSumsModel" (54 : Nat) ({ cls := "EdgeSumsModel", name := "has", desc := "(II)Z" } : Jvm.MethodName)) ∈ lw_all := lw_g (lw_at lw_m12 110 rfl) rfl
theorem q2875 : (Jvm.Cond.static ({ cls := "EdgeSumsModel", name := "has", desc := "(II)Z" } : Jvm.MethodName)) ∈ lw_all := lw_g (lw_at lw_m12 111 rfl) rfl
theorem q2876 : (Jvm.Cond.code ({ cls := "EdgeSumsModel", name := "has", desc := "(II)Z" } : Jvm.MethodName) prog_28_method_6_code (2 : Nat) (Option.some Jvm.ClassFile.FieldType.boolean)) ∈ lw_all := lw_g (lw_at lw_m12 112 rfl) rfl
theorem q2877 : (Jvm.Cond.methodLink "EdgeSumsModel" (183 : Nat) ({ cls := "EdgeSumsModel", name := "causeOf", desc := "(III)I" } : Jvm.MethodName)) ∈ lw_all := lw_g (lw_at lw_m12 113 rfl) rfl
theorem q2878 : (Jvm.Cond.privateMethod ({ cls := "EdgeSumsModel", name := "causeOf", desc := "(III)I" } : Jvm.MethodName)) ∈ lw_tbl := lw_at lw_m12 114 rfl
theorem q2879 : (Jvm.Cond.instanceMethod ({ cls := "EdgeSumsModel", name := "causeOf", desc := "(III)I" } : Jvm.MethodName)) ∈ lw_all := lw_g (lw_at lw_m12 115 rfl) rfl
theorem q2880 : (Jvm.Cond.code ({ cls := "EdgeSumsModel", name := "causeOf", desc := "(III)I" } : Jvm.MethodName) prog_28_method_60_code (4 : Nat) (Option.some Jvm.ClassFile.FieldType.int)) ∈ lw_all := lw_g (lw_at lw_m12 116 rfl) rfl
theorem q2881 : (Jvm.Cond.methodLink "EdgeSumsModel" (170 : Nat) ({ cls := "EdgeSumsModel", name := "soleCause", desc := "(II)I" } : Jvm.MethodName)) ∈ lw_all := lw_g (lw_at lw_m12 117 rfl) rfl
theorem q2882 : (Jvm.Cond.privateMethod ({ cls := "EdgeSumsModel", name := "soleCause", desc := "(II)I" } : Jvm.MethodName)) ∈ lw_tbl := lw_at lw_m12 118 rfl
theorem q2883 : (Jvm.Cond.instanceMethod ({ cls := "EdgeSumsModel", name := "soleCause", desc := "(II)I" } : Jvm.MethodName)) ∈ lw_all := lw_g (lw_at lw_m12 119 rfl) rfl
theorem q2884 : (Jvm.Cond.code ({ cls := "EdgeSumsModel", name := "soleCause", desc := "(II)I" } : Jvm.MethodName) prog_28_method_53_code (4 : Nat) (Option.some Jvm.ClassFile.FieldType.int)) ∈ lw_all := lw_g (lw_at lw_m12 120 rfl) rfl
theorem q2885 : (Jvm.Cond.methodLink "EdgeSumsModel" (173 : Nat) ({ cls := "EdgeSumsModel", name := "onlyCause", desc := "(II)I" } : Jvm.MethodName)) ∈ lw_all := lw_g (lw_at lw_m12 121 rfl) rfl
theorem q2886 : (Jvm.Cond.privateMethod ({ cls := "EdgeSumsModel", name := "onlyCause", desc := "(II)I" } : Jvm.MethodName)) ∈ lw_tbl := lw_at lw_m12 122 rfl
theorem q2887 : (Jvm.Cond.instanceMethod ({ cls := "EdgeSumsModel", name := "onlyCause", desc := "(II)I" } : Jvm.MethodName)) ∈ lw_all := lw_g (lw_at lw_m12 123 rfl) rfl
theorem q2888 : (Jvm.Cond.code ({ cls := "EdgeSumsModel", name := "onlyCause", desc := "(II)I" } : Jvm.MethodName) prog_28_method_54_code (5 : Nat) (Option.some Jvm.ClassFile.FieldType.int)) ∈ lw_all := lw_g (lw_at lw_m12 124 rfl) rfl
theorem q2889 : (Jvm.Cond.methodLink "EdgeSumsModel" (152 : Nat) ({ cls := "EdgeSumsModel", name := "lowest", desc := "(I)I" } : Jvm.MethodName)) ∈ lw_all := lw_g (lw_at lw_m12 125 rfl) rfl
theorem q2890 : (Jvm.Cond.static ({ cls := "EdgeSumsModel", name := "lowest", desc := "(I)I" } : Jvm.MethodName)) ∈ lw_all := lw_g (lw_at lw_m12 126 rfl) rfl
theorem q2891 : (Jvm.Cond.code ({ cls := "EdgeSumsModel", name := "lowest", desc := "(I)I" } : Jvm.MethodName) prog_28_method_8_code (2 : Nat) (Option.some Jvm.ClassFile.FieldType.int)) ∈ lw_all := lw_g (lw_at lw_m12 127 rfl) rfl
theorem q2892 : (Jvm.Cond.methodLink "EdgeSumsModel" (176 : Nat) ({ cls := "EdgeSumsModel", name := "lineCause", desc := "(III)I" } : Jvm.MethodName)) ∈ lw_all := lw_g (lw_at lw_m12 128 rfl) rfl
theorem q2893 : (Jvm.Cond.privateMethod ({ cls := "EdgeSumsModel", name := "lineCause", desc := "(III)I" } : Jvm.MethodName)) ∈ lw_tbl := lw_at lw_m12 129 rfl
theorem q2894 : (Jvm.Cond.instanceMethod ({ cls := "EdgeSumsModel", name := "lineCause", desc := "(III)I" } : Jvm.MethodName)) ∈ lw_all := lw_g (lw_at lw_m12 130 rfl) rfl
theorem q2895 : (Jvm.Cond.code ({ cls := "EdgeSumsModel", name := "lineCause", desc := "(III)I" } : Jvm.MethodName) prog_28_method_58_code (8 : Nat) (Option.some Jvm.ClassFile.FieldType.int)) ∈ lw_all := lw_g (lw_at lw_m12 131 rfl) rfl
theorem q2896 : (Jvm.Cond.methodLink "EdgeSumsModel" (164 : Nat) ({ cls := "EdgeSumsModel", name := "isBeyond", desc := "(III)Z" } : Jvm.MethodName)) ∈ lw_all := lw_g (lw_at lw_m12 132 rfl) rfl
theorem q2897 : (Jvm.Cond.privateMethod ({ cls := "EdgeSumsModel", name := "isBeyond", desc := "(III)Z" } : Jvm.MethodName)) ∈ lw_tbl := lw_at lw_m12 133 rfl
theorem q2898 : (Jvm.Cond.instanceMethod ({ cls := "EdgeSumsModel", name := "isBeyond", desc := "(III)Z" } : Jvm.MethodName)) ∈ lw_all := lw_g (lw_at lw_m12 134 rfl) rfl
theorem q2899 : (Jvm.Cond.code ({ cls := "EdgeSumsModel", name := "isBeyond", desc := "(III)Z" } : Jvm.MethodName) prog_28_method_55_code (8 : Nat) (Option.some Jvm.ClassFile.FieldType.boolean)) ∈ lw_all := lw_g (lw_at lw_m12 135 rfl) rfl
theorem q2900 : (Jvm.Cond.methodLink "EdgeSumsModel" (155 : Nat) ({ cls := "EdgeSumsModel", name := "highest", desc := "(I)I" } : Jvm.MethodName)) ∈ lw_all := lw_g (lw_at lw_m12 136 rfl) rfl
theorem q2901 : (Jvm.Cond.static ({ cls := "EdgeSumsModel", name := "highest", desc := "(I)I" } : Jvm.MethodName)) ∈ lw_all := lw_g (lw_at lw_m12 137 rfl) rfl
theorem q2902 : (Jvm.Cond.code ({ cls := "EdgeSumsModel", name := "highest", desc := "(I)I" } : Jvm.MethodName) prog_28_method_9_code (2 : Nat) (Option.some Jvm.ClassFile.FieldType.int)) ∈ lw_all := lw_g (lw_at lw_m12 138 rfl) rfl
theorem q2903 : (Jvm.Cond.methodLink "EdgeSumsModel" (158 : Nat) ({ cls := "EdgeSumsModel", name := "sumOf", desc := "(I)I" } : Jvm.MethodName)) ∈ lw_all := lw_g (lw_at lw_m12 139 rfl) rfl
theorem q2904 : (Jvm.Cond.privateMethod ({ cls := "EdgeSumsModel", name := "sumOf", desc := "(I)I" } : Jvm.MethodName)) ∈ lw_tbl := lw_at lw_m12 140 rfl
theorem q2905 : (Jvm.Cond.instanceMethod ({ cls := "EdgeSumsModel", name := "sumOf", desc := "(I)I" } : Jvm.MethodName)) ∈ lw_all := lw_g (lw_at lw_m12 141 rfl) rfl
theorem q2906 : (Jvm.Cond.code ({ cls := "EdgeSumsModel", name := "sumOf", desc := "(I)I" } : Jvm.MethodName) prog_28_method_29_code (4 : Nat) (Option.some Jvm.ClassFile.FieldType.int)) ∈ lw_all := lw_g (lw_at lw_m12 142 rfl) rfl
theorem q2907 : (Jvm.Cond.methodLink "EdgeSumsModel" (167 : Nat) ({ cls := "EdgeSumsModel", name := "isMissed", desc := "(III)Z" } : Jvm.MethodName)) ∈ lw_all := lw_g (lw_at lw_m12 143 rfl) rfl
theorem q2908 : (Jvm.Cond.privateMethod ({ cls := "EdgeSumsModel", name := "isMissed", desc := "(III)Z" } : Jvm.MethodName)) ∈ lw_tbl := lw_at lw_m12 144 rfl
theorem q2909 : (Jvm.Cond.instanceMethod ({ cls := "EdgeSumsModel", name := "isMissed", desc := "(III)Z" } : Jvm.MethodName)) ∈ lw_all := lw_g (lw_at lw_m12 145 rfl) rfl
theorem q2910 : (Jvm.Cond.code ({ cls := "EdgeSumsModel", name := "isMissed", desc := "(III)Z" } : Jvm.MethodName) prog_28_method_57_code (5 : Nat) (Option.some Jvm.ClassFile.FieldType.boolean)) ∈ lw_all := lw_g (lw_at lw_m12 146 rfl) rfl
theorem q2911 : (Jvm.Cond.methodLink "EdgeSumsModel" (161 : Nat) ({ cls := "EdgeSumsModel", name := "sumsOf", desc := "(II)I" } : Jvm.MethodName)) ∈ lw_all := lw_g (lw_at lw_m12 147 rfl) rfl
theorem q2912 : (Jvm.Cond.privateMethod ({ cls := "EdgeSumsModel", name := "sumsOf", desc := "(II)I" } : Jvm.MethodName)) ∈ lw_tbl := lw_at lw_m12 148 rfl
theorem q2913 : (Jvm.Cond.instanceMethod ({ cls := "EdgeSumsModel", name := "sumsOf", desc := "(II)I" } : Jvm.MethodName)) ∈ lw_all := lw_g (lw_at lw_m12 149 rfl) rfl
theorem q2914 : (Jvm.Cond.code ({ cls := "EdgeSumsModel", name := "sumsOf", desc := "(II)I" } : Jvm.MethodName) prog_28_method_56_code (8 : Nat) (Option.some Jvm.ClassFile.FieldType.int)) ∈ lw_all := lw_g (lw_at lw_m12 150 rfl) rfl
theorem q2915 : (Jvm.Cond.methodLink "EdgeSumsModel" (180 : Nat) ({ cls := "EdgeSumsModel", name := "pairCause", desc := "(II)I" } : Jvm.MethodName)) ∈ lw_all := lw_g (lw_at lw_m12 151 rfl) rfl
theorem q2916 : (Jvm.Cond.privateMethod ({ cls := "EdgeSumsModel", name := "pairCause", desc := "(II)I" } : Jvm.MethodName)) ∈ lw_tbl := lw_at lw_m12 152 rfl
theorem q2917 : (Jvm.Cond.instanceMethod ({ cls := "EdgeSumsModel", name := "pairCause", desc := "(II)I" } : Jvm.MethodName)) ∈ lw_all := lw_g (lw_at lw_m12 153 rfl) rfl
theorem q2918 : (Jvm.Cond.code ({ cls := "EdgeSumsModel", name := "pairCause", desc := "(II)I" } : Jvm.MethodName) prog_28_method_59_code (6 : Nat) (Option.some Jvm.ClassFile.FieldType.int)) ∈ lw_all := lw_g (lw_at lw_m12 154 rfl) rfl
theorem q2919 : (Jvm.Cond.methodLink "EdgeSumsModel" (142 : Nat) ({ cls := "EdgeSumsModel", name := "ones", desc := "(I)I" } : Jvm.MethodName)) ∈ lw_all := lw_g (lw_at lw_m12 155 rfl) rfl
theorem q2920 : (Jvm.Cond.static ({ cls := "EdgeSumsModel", name := "ones", desc := "(I)I" } : Jvm.MethodName)) ∈ lw_all := lw_g (lw_at lw_m12 156 rfl) rfl
theorem q2921 : (Jvm.Cond.code ({ cls := "EdgeSumsModel", name := "ones", desc := "(I)I" } : Jvm.MethodName) prog_28_method_7_code (3 : Nat) (Option.some Jvm.ClassFile.FieldType.int)) ∈ lw_all := lw_g (lw_at lw_m12 157 rfl) rfl
theorem q2922 : (Jvm.Cond.methodLink "EdgeSumsModel" (207 : Nat) ({ cls := "EdgeSumsModel", name := "how", desc := "()I" } : Jvm.MethodName)) ∈ lw_all := lw_g (lw_at lw_m12 158 rfl) rfl
theorem q2923 : (Jvm.Cond.privateMethod ({ cls := "EdgeSumsModel", name := "how", desc := "()I" } : Jvm.MethodName)) ∈ lw_tbl := lw_at lw_m12 159 rfl
theorem q2924 : (Jvm.Cond.instanceMethod ({ cls := "EdgeSumsModel", name := "how", desc := "()I" } : Jvm.MethodName)) ∈ lw_all := lw_g (lw_at lw_m12 160 rfl) rfl
theorem q2925 : (Jvm.Cond.code ({ cls := "EdgeSumsModel", name := "how", desc := "()I" } : Jvm.MethodName) prog_28_method_52_code (1 : Nat) (Option.some Jvm.ClassFile.FieldType.int)) ∈ lw_all := lw_g (lw_at lw_m12 161 rfl) rfl
theorem q2926 : (Jvm.Cond.methodLink "EdgeSumsModel" (149 : Nat) ({ cls := "EdgeSumsModel", name := "singleMany", desc := "()I" } : Jvm.MethodName)) ∈ lw_all := lw_g (lw_at lw_m12 162 rfl) rfl
theorem q2927 : (Jvm.Cond.privateMethod ({ cls := "EdgeSumsModel", name := "singleMany", desc := "()I" } : Jvm.MethodName)) ∈ lw_tbl := lw_at lw_m12 163 rfl
theorem q2928 : (Jvm.Cond.instanceMethod ({ cls := "EdgeSumsModel", name := "singleMany", desc := "()I" } : Jvm.MethodName)) ∈ lw_all := lw_g (lw_at lw_m12 164 rfl) rfl
theorem q2929 : (Jvm.Cond.code ({ cls := "EdgeSumsModel", name := "singleMany", desc := "()I" } : Jvm.MethodName) prog_28_method_50_code (3 : Nat) (Option.some Jvm.ClassFile.FieldType.int)) ∈ lw_all := lw_g (lw_at lw_m12 165 rfl) rfl
theorem q2930 : (Jvm.Cond.methodLink "EdgeSumsModel" (231 : Nat) ({ cls := "EdgeSumsModel", name := "listClues", desc := "(II)I" } : Jvm.MethodName)) ∈ lw_all := lw_g (lw_at lw_m12 166 rfl) rfl
theorem q2931 : (Jvm.Cond.privateMethod ({ cls := "EdgeSumsModel", name := "listClues", desc := "(II)I" } : Jvm.MethodName)) ∈ lw_tbl := lw_at lw_m12 167 rfl
theorem q2932 : (Jvm.Cond.instanceMethod ({ cls := "EdgeSumsModel", name := "listClues", desc := "(II)I" } : Jvm.MethodName)) ∈ lw_all := lw_g (lw_at lw_m12 168 rfl) rfl
theorem q2933 : (Jvm.Cond.code ({ cls := "EdgeSumsModel", name := "listClues", desc := "(II)I" } : Jvm.MethodName) prog_28_method_69_code (8 : Nat) (Option.some Jvm.ClassFile.FieldType.int)) ∈ lw_all := lw_g (lw_at lw_m12 169 rfl) rfl
theorem q2934 : (Jvm.Cond.methodLink "EdgeSumsModel" (225 : Nat) ({ cls := "EdgeSumsModel", name := "worth", desc := "(II)I" } : Jvm.MethodName)) ∈ lw_all := lw_g (lw_at lw_m12 170 rfl) rfl
theorem q2935 : (Jvm.Cond.privateMethod ({ cls := "EdgeSumsModel", name := "worth", desc := "(II)I" } : Jvm.MethodName)) ∈ lw_tbl := lw_at lw_m12 171 rfl
theorem q2936 : (Jvm.Cond.instanceMethod ({ cls := "EdgeSumsModel", name := "worth", desc := "(II)I" } : Jvm.MethodName)) ∈ lw_all := lw_g (lw_at lw_m12 172 rfl) rfl
theorem q2937 : (Jvm.Cond.code ({ cls := "EdgeSumsModel", name := "worth", desc := "(II)I" } : Jvm.MethodName) prog_28_method_70_code (3 : Nat) (Option.some Jvm.ClassFile.FieldType.int)) ∈ lw_all := lw_g (lw_at lw_m12 173 rfl) rfl
theorem q2939 : (Jvm.Cond.instanceMethod ({ cls := "EdgeSumsModel", name := "support", desc := "()I" } : Jvm.MethodName)) ∈ lw_all := lw_g (lw_at lw_m12 175 rfl) rfl
theorem q2940 : (Jvm.Cond.selects "EdgeSumsModel" ({ cls := "EdgeSumsModel", name := "support", desc := "()I" } : Jvm.MethodName) ({ cls := "EdgeSumsModel", name := "support", desc := "()I" } : Jvm.MethodName)) ∈ lw_all := lw_g (lw_at lw_m12 176 rfl) rfl
theorem q2941 : (Jvm.Cond.code ({ cls := "EdgeSumsModel", name := "support", desc := "()I" } : Jvm.MethodName) prog_28_method_72_code (4 : Nat) (Option.some Jvm.ClassFile.FieldType.int)) ∈ lw_all := lw_g (lw_at lw_m12 177 rfl) rfl
theorem q2943 : (Jvm.Cond.instanceMethod ({ cls := "EdgeSumsModel", name := "allow", desc := "(II)I" } : Jvm.MethodName)) ∈ lw_all := lw_g (lw_at lw_m12 179 rfl) rfl
theorem q2944 : (Jvm.Cond.selects "EdgeSumsModel" ({ cls := "EdgeSumsModel", name := "allow", desc := "(II)I" } : Jvm.MethodName) ({ cls := "EdgeSumsModel", name := "allow", desc := "(II)I" } : Jvm.MethodName)) ∈ lw_all := lw_g (lw_at lw_m12 180 rfl) rfl
theorem q2945 : (Jvm.Cond.code ({ cls := "EdgeSumsModel", name := "allow", desc := "(II)I" } : Jvm.MethodName) prog_28_method_73_code (3 : Nat) (Option.some Jvm.ClassFile.FieldType.int)) ∈ lw_all := lw_g (lw_at lw_m12 181 rfl) rfl
theorem q2947 : (Jvm.Cond.instanceMethod ({ cls := "EdgeSumsModel", name := "setCost", desc := "(II)I" } : Jvm.MethodName)) ∈ lw_all := lw_g (lw_at lw_m12 183 rfl) rfl
theorem q2948 : (Jvm.Cond.selects "EdgeSumsModel" ({ cls := "EdgeSumsModel", name := "setCost", desc := "(II)I" } : Jvm.MethodName) ({ cls := "EdgeSumsModel", name := "setCost", desc := "(II)I" } : Jvm.MethodName)) ∈ lw_all := lw_g (lw_at lw_m12 184 rfl) rfl
theorem q2949 : (Jvm.Cond.code ({ cls := "EdgeSumsModel", name := "setCost", desc := "(II)I" } : Jvm.MethodName) prog_28_method_74_code (4 : Nat) (Option.some Jvm.ClassFile.FieldType.int)) ∈ lw_all := lw_g (lw_at lw_m12 185 rfl) rfl
theorem q2951 : (Jvm.Cond.instanceMethod ({ cls := "EdgeSumsModel", name := "strike", desc := "(II)I" } : Jvm.MethodName)) ∈ lw_all := lw_g (lw_at lw_m12 187 rfl) rfl
theorem q2952 : (Jvm.Cond.selects "EdgeSumsModel" ({ cls := "EdgeSumsModel", name := "strike", desc := "(II)I" } : Jvm.MethodName) ({ cls := "EdgeSumsModel", name := "strike", desc := "(II)I" } : Jvm.MethodName)) ∈ lw_all := lw_g (lw_at lw_m12 188 rfl) rfl
theorem q2953 : (Jvm.Cond.code ({ cls := "EdgeSumsModel", name := "strike", desc := "(II)I" } : Jvm.MethodName) prog_28_method_76_code (4 : Nat) (Option.some Jvm.ClassFile.FieldType.int)) ∈ lw_all := lw_g (lw_at lw_m12 189 rfl) rfl
theorem q2954 : (Jvm.Cond.methodLink "EdgeSumsModel" (234 : Nat) ({ cls := "EdgeSumsModel", name := "isNumber", desc := "(II)Z" } : Jvm.MethodName)) ∈ lw_all := lw_g (lw_at lw_m12 190 rfl) rfl
theorem q2955 : (Jvm.Cond.privateMethod ({ cls := "EdgeSumsModel", name := "isNumber", desc := "(II)Z" } : Jvm.MethodName)) ∈ lw_tbl := lw_at lw_m12 191 rfl
theorem q2956 : (Jvm.Cond.instanceMethod ({ cls := "EdgeSumsModel", name := "isNumber", desc := "(II)Z" } : Jvm.MethodName)) ∈ lw_all := lw_g (lw_at lw_m12 192 rfl) rfl
theorem q2957 : (Jvm.Cond.code ({ cls := "EdgeSumsModel", name := "isNumber", desc := "(II)Z" } : Jvm.MethodName) prog_28_method_75_code (3 : Nat) (Option.some Jvm.ClassFile.FieldType.boolean)) ∈ lw_all := lw_g (lw_at lw_m12 193 rfl) rfl
theorem q2958 : (Jvm.Cond.methodLink "EdgeSumsModel" (237 : Nat) ({ cls := "EdgeSumsModel", name := "layPlayers", desc := "()V" } : Jvm.MethodName)) ∈ lw_all := lw_g (lw_at lw_m12 194 rfl) rfl
theorem q2959 : (Jvm.Cond.privateMethod ({ cls := "EdgeSumsModel", name := "layPlayers", desc := "()V" } : Jvm.MethodName)) ∈ lw_tbl := lw_at lw_m12 195 rfl
theorem q2960 : (Jvm.Cond.instanceMethod ({ cls := "EdgeSumsModel", name := "layPlayers", desc := "()V" } : Jvm.MethodName)) ∈ lw_all := lw_g (lw_at lw_m12 196 rfl) rfl
theorem q2961 : (Jvm.Cond.code ({ cls := "EdgeSumsModel", name := "layPlayers", desc := "()V" } : Jvm.MethodName) prog_28_method_47_code (2 : Nat) (Option.none : Option Jvm.ClassFile.FieldType)) ∈ lw_all := lw_g (lw_at lw_m12 197 rfl) rfl
theorem q2962 : (Jvm.Cond.methodLink "EdgeSumsModel" (240 : Nat) ({ cls := "EdgeSumsModel", name := "strikerOf", desc := "(II)I" } : Jvm.MethodName)) ∈ lw_all := lw_g (lw_at lw_m12 198 rfl) rfl
theorem q2963 : (Jvm.Cond.privateMethod ({ cls := "EdgeSumsModel", name := "strikerOf", desc := "(II)I" } : Jvm.MethodName)) ∈ lw_tbl := lw_at lw_m12 199 rfl
theorem q2964 : (Jvm.Cond.instanceMethod ({ cls := "EdgeSumsModel", name := "strikerOf", desc := "(II)I" } : Jvm.MethodName)) ∈ lw_all := lw_g (lw_at lw_m12 200 rfl) rfl
theorem q2965 : (Jvm.Cond.code ({ cls := "EdgeSumsModel", name := "strikerOf", desc := "(II)I" } : Jvm.MethodName) prog_28_method_66_code (5 : Nat) (Option.some Jvm.ClassFile.FieldType.int)) ∈ lw_all := lw_g (lw_at lw_m12 201 rfl) rfl
theorem q2967 : (Jvm.Cond.instanceMethod ({ cls := "EdgeSumsModel", name := "advance", desc := "(I)I" } : Jvm.MethodName)) ∈ lw_all := lw_g (lw_at lw_m12 203 rfl) rfl
theorem q2968 : (Jvm.Cond.selects "EdgeSumsModel" ({ cls := "EdgeSumsModel", name := "advance", desc := "(I)I" } : Jvm.MethodName) ({ cls := "EdgeSumsModel", name := "advance", desc := "(I)I" } : Jvm.MethodName)) ∈ lw_all := lw_g (lw_at lw_m12 204 rfl) rfl
theorem q2969 : (Jvm.Cond.code ({ cls := "EdgeSumsModel", name := "advance", desc := "(I)I" } : Jvm.MethodName) prog_28_method_77_code (3 : Nat) (Option.some Jvm.ClassFile.FieldType.int)) ∈ lw_all := lw_g (lw_at lw_m12 205 rfl) rfl
theorem q2971 : (Jvm.Cond.instanceMethod ({ cls := "EdgeSumsModel", name := "restart", desc := "()I" } : Jvm.MethodName)) ∈ lw_all := lw_g (lw_at lw_m12 207 rfl) rfl
theorem q2972 : (Jvm.Cond.selects "EdgeSumsModel" ({ cls := "EdgeSumsModel", name := "restart", desc := "()I" } : Jvm.MethodName) ({ cls := "EdgeSumsModel", name := "restart", desc := "()I" } : Jvm.MethodName)) ∈ lw_all := lw_g (lw_at lw_m12 208 rfl) rfl
theorem q2973 : (Jvm.Cond.code ({ cls := "EdgeSumsModel", name := "restart", desc := "()I" } : Jvm.MethodName) prog_28_method_78_code (1 : Nat) (Option.some Jvm.ClassFile.FieldType.int)) ∈ lw_all := lw_g (lw_at lw_m12 209 rfl) rfl
theorem q2974 : (Jvm.Cond.methodLink "EdgeSumsModel" (243 : Nat) ({ cls := "EdgeSumsModel", name := "possibleMany", desc := "()I" } : Jvm.MethodName)) ∈ lw_all := lw_g (lw_at lw_m12 210 rfl) rfl
theorem q2975 : (Jvm.Cond.privateMethod ({ cls := "EdgeSumsModel", name := "possibleMany", desc := "()I" } : Jvm.MethodName)) ∈ lw_tbl := lw_at lw_m12 211 rfl
theorem q2976 : (Jvm.Cond.instanceMethod ({ cls := "EdgeSumsModel", name := "possibleMany", desc := "()I" } : Jvm.MethodName)) ∈ lw_all := lw_g (lw_at lw_m12 212 rfl) rfl
theorem q2977 : (Jvm.Cond.code ({ cls := "EdgeSumsModel", name := "possibleMany", desc := "()I" } : Jvm.MethodName) prog_28_method_49_code (3 : Nat) (Option.some Jvm.ClassFile.FieldType.int)) ∈ lw_all := lw_g (lw_at lw_m12 213 rfl) rfl
theorem q2979 : (Jvm.Cond.instanceMethod ({ cls := "EdgeSumsModel", name := "take", desc := "(I)I" } : Jvm.MethodName)) ∈ lw_all := lw_g (lw_at lw_m12 215 rfl) rfl
theorem q2980 : (Jvm.Cond.selects "EdgeSumsModel" ({ cls := "EdgeSumsModel", name := "take", desc := "(I)I" } : Jvm.MethodName) ({ cls := "EdgeSumsModel", name := "take", desc := "(I)I" } : Jvm.MethodName)) ∈ lw_all := lw_g (lw_at lw_m12 216 rfl) rfl
theorem q2981 : (Jvm.Cond.code ({ cls := "EdgeSumsModel", name := "take", desc := "(I)I" } : Jvm.MethodName) prog_28_method_80_code (4 : Nat) (Option.some Jvm.ClassFile.FieldType.int)) ∈ lw_all := lw_g (lw_at lw_m12 217 rfl) rfl
theorem q2982 : (Jvm.Cond.methodLink "EdgeSumsModel" (246 : Nat) ({ cls := "EdgeSumsModel", name := "clues", desc := "()I" } : Jvm.MethodName)) ∈ lw_all := lw_g (lw_at lw_m12 218 rfl) rfl
theorem q2983 : (Jvm.Cond.privateMethod ({ cls := "EdgeSumsModel", name := "clues", desc := "()I" } : Jvm.MethodName)) ∈ lw_tbl := lw_at lw_m12 219 rfl
theorem q2984 : (Jvm.Cond.instanceMethod ({ cls := "EdgeSumsModel", name := "clues", desc := "()I" } : Jvm.MethodName)) ∈ lw_all := lw_g (lw_at lw_m12 220 rfl) rfl
theorem q2985 : (Jvm.Cond.code ({ cls := "EdgeSumsModel", name := "clues", desc := "()I" } : Jvm.MethodName) prog_28_method_79_code (1 : Nat) (Option.some Jvm.ClassFile.FieldType.int)) ∈ lw_all := lw_g (lw_at lw_m12 221 rfl) rfl
theorem q2987 : (Jvm.Cond.instanceMethod ({ cls := "EdgeSumsModel", name := "restore", desc := "(I)I" } : Jvm.MethodName)) ∈ lw_all := lw_g (lw_at lw_m12 223 rfl) rfl
theorem q2988 : (Jvm.Cond.selects "EdgeSumsModel" ({ cls := "EdgeSumsModel", name := "restore", desc := "(I)I" } : Jvm.MethodName) ({ cls := "EdgeSumsModel", name := "restore", desc := "(I)I" } : Jvm.MethodName)) ∈ lw_all := lw_g (lw_at lw_m12 224 rfl) rfl
theorem q2989 : (Jvm.Cond.code ({ cls := "EdgeSumsModel", name := "restore", desc := "(I)I" } : Jvm.MethodName) prog_28_method_81_code (4 : Nat) (Option.some Jvm.ClassFile.FieldType.int)) ∈ lw_all := lw_g (lw_at lw_m12 225 rfl) rfl
theorem q2991 : (Jvm.Cond.instanceMethod ({ cls := "EdgeSumsModel", name := "undo", desc := "()I" } : Jvm.MethodName)) ∈ lw_all := lw_g (lw_at lw_m12 227 rfl) rfl
theorem q2992 : (Jvm.Cond.selects "EdgeSumsModel" ({ cls := "EdgeSumsModel", name := "undo", desc := "()I" } : Jvm.MethodName) ({ cls := "EdgeSumsModel", name := "undo", desc := "()I" } : Jvm.MethodName)) ∈ lw_all := lw_g (lw_at lw_m12 228 rfl) rfl
theorem q2993 : (Jvm.Cond.code ({ cls := "EdgeSumsModel", name := "undo", desc := "()I" } : Jvm.MethodName) prog_28_method_82_code (2 : Nat) (Option.some Jvm.ClassFile.FieldType.int)) ∈ lw_all := lw_g (lw_at lw_m12 229 rfl) rfl
theorem q2995 : (Jvm.Cond.instanceMethod ({ cls := "EdgeSumsModel", name := "append", desc := "(I)I" } : Jvm.MethodName)) ∈ lw_all := lw_g (lw_at lw_m12 231 rfl) rfl
theorem q2996 : (Jvm.Cond.selects "EdgeSumsModel" ({ cls := "EdgeSumsModel", name := "append", desc := "(I)I" } : Jvm.MethodName) ({ cls := "EdgeSumsModel", name := "append", desc := "(I)I" } : Jvm.MethodName)) ∈ lw_all := lw_g (lw_at lw_m12 232 rfl) rfl
theorem q2997 : (Jvm.Cond.code ({ cls := "EdgeSumsModel", name := "append", desc := "(I)I" } : Jvm.MethodName) prog_28_method_83_code (2 : Nat) (Option.some Jvm.ClassFile.FieldType.int)) ∈ lw_all := lw_g (lw_at lw_m12 233 rfl) rfl
theorem q2999 : (Jvm.Cond.instanceMethod ({ cls := "EdgeSumsModel", name := "clearText", desc := "()I" } : Jvm.MethodName)) ∈ lw_all := lw_g (lw_at lw_m12 235 rfl) rfl
theorem q3000 : (Jvm.Cond.selects "EdgeSumsModel" ({ cls := "EdgeSumsModel", name := "clearText", desc := "()I" } : Jvm.MethodName) ({ cls := "EdgeSumsModel", name := "clearText", desc := "()I" } : Jvm.MethodName)) ∈ lw_all := lw_g (lw_at lw_m12 236 rfl) rfl
theorem q3001 : (Jvm.Cond.code ({ cls := "EdgeSumsModel", name := "clearText", desc := "()I" } : Jvm.MethodName) prog_28_method_84_code (2 : Nat) (Option.some Jvm.ClassFile.FieldType.int)) ∈ lw_all := lw_g (lw_at lw_m12 237 rfl) rfl
theorem q3003 : (Jvm.Cond.instanceMethod ({ cls := "EdgeSumsModel", name := "load", desc := "()I" } : Jvm.MethodName)) ∈ lw_all := lw_g (lw_at lw_m12 239 rfl) rfl
theorem q3004 : (Jvm.Cond.selects "EdgeSumsModel" ({ cls := "EdgeSumsModel", name := "load", desc := "()I" } : Jvm.MethodName) ({ cls := "EdgeSumsModel", name := "load", desc := "()I" } : Jvm.MethodName)) ∈ lw_all := lw_g (lw_at lw_m13 0 rfl) rfl
theorem q3005 : (Jvm.Cond.code ({ cls := "EdgeSumsModel", name := "load", desc := "()I" } : Jvm.MethodName) prog_28_method_102_code (4 : Nat) (Option.some Jvm.ClassFile.FieldType.int)) ∈ lw_all := lw_g (lw_at lw_m13 1 rfl) rfl
theorem q3006 : (Jvm.Cond.methodLink "EdgeSumsModel" (283 : Nat) ({ cls := "EdgeSumsModel", name := "goOn", desc := "()V" } : Jvm.MethodName)) ∈ lw_all := lw_g (lw_at lw_m13 2 rfl) rfl
theorem q3007 : (Jvm.Cond.privateMethod ({ cls := "EdgeSumsModel", name := "goOn", desc := "()V" } : Jvm.MethodName)) ∈ lw_tbl := lw_at lw_m13 3 rfl
theorem q3008 : (Jvm.Cond.instanceMethod ({ cls := "EdgeSumsModel", name := "goOn", desc := "()V" } : Jvm.MethodName)) ∈ lw_all := lw_g (lw_at lw_m13 4 rfl) rfl
theorem q3009 : (Jvm.Cond.code ({ cls := "EdgeSumsModel", name := "goOn", desc := "()V" } : Jvm.MethodName) prog_28_method_86_code (1 : Nat) (Option.none : Option Jvm.ClassFile.FieldType)) ∈ lw_all := lw_g (lw_at lw_m13 5 rfl) rfl
theorem q3010 : (Jvm.Cond.methodLink "EdgeSumsModel" (258 : Nat) ({ cls := "EdgeSumsModel", name := "at", desc := "(I)I" } : Jvm.MethodName)) ∈ lw_all := lw_g (lw_at lw_m13 6 rfl) rfl
theorem q3011 : (Jvm.Cond.privateMethod ({ cls := "EdgeSumsModel", name := "at", desc := "(I)I" } : Jvm.MethodName)) ∈ lw_tbl := lw_at lw_m13 7 rfl
theorem q3012 : (Jvm.Cond.instanceMethod ({ cls := "EdgeSumsModel", name := "at", desc := "(I)I" } : Jvm.MethodName)) ∈ lw_all := lw_g (lw_at lw_m13 8 rfl) rfl
theorem q3013 : (Jvm.Cond.code ({ cls := "EdgeSumsModel", name := "at", desc := "(I)I" } : Jvm.MethodName) prog_28_method_85_code (2 : Nat) (Option.some Jvm.ClassFile.FieldType.int)) ∈ lw_all := lw_g (lw_at lw_m13 9 rfl) rfl
theorem q3014 : (Jvm.Cond.methodLink "EdgeSumsModel" (277 : Nat) ({ cls := "EdgeSumsModel", name := "isWell", desc := "()Z" } : Jvm.MethodName)) ∈ lw_all := lw_g (lw_at lw_m13 10 rfl) rfl
theorem q3015 : (Jvm.Cond.privateMethod ({ cls := "EdgeSumsModel", name := "isWell", desc := "()Z" } : Jvm.MethodName)) ∈ lw_tbl := lw_at lw_m13 11 rfl
theorem q3016 : (Jvm.Cond.instanceMethod ({ cls := "EdgeSumsModel", name := "isWell", desc := "()Z" } : Jvm.MethodName)) ∈ lw_all := lw_g (lw_at lw_m13 12 rfl) rfl
theorem q3017 : (Jvm.Cond.code ({ cls := "EdgeSumsModel", name := "isWell", desc := "()Z" } : Jvm.MethodName) prog_28_method_87_code (1 : Nat) (Option.some Jvm.ClassFile.FieldType.boolean)) ∈ lw_all := lw_g (lw_at lw_m13 13 rfl) rfl
theorem q3018 : (Jvm.Cond.methodLink "EdgeSumsModel" (317 : Nat) ({ cls := "EdgeSumsModel", name := "readItem", desc := "()V" } : Jvm.MethodName)) ∈ lw_all := lw_g (lw_at lw_m13 14 rfl) rfl
theorem q3019 : (Jvm.Cond.privateMethod ({ cls := "EdgeSumsModel", name := "readItem", desc := "()V" } : Jvm.MethodName)) ∈ lw_tbl := lw_at lw_m13 15 rfl
theorem q3020 : (Jvm.Cond.instanceMethod ({ cls := "EdgeSumsModel", name := "readItem", desc := "()V" } : Jvm.MethodName)) ∈ lw_all := lw_g (lw_at lw_m13 16 rfl) rfl
theorem q3021 : (Jvm.Cond.code ({ cls := "EdgeSumsModel", name := "readItem", desc := "()V" } : Jvm.MethodName) prog_28_method_101_code (2 : Nat) (Option.none : Option Jvm.ClassFile.FieldType)) ∈ lw_all := lw_g (lw_at lw_m13 17 rfl) rfl
theorem q3022 : (Jvm.Cond.methodLink "EdgeSumsModel" (292 : Nat) ({ cls := "EdgeSumsModel", name := "isWord", desc := "(I)Z" } : Jvm.MethodName)) ∈ lw_all := lw_g (lw_at lw_m13 18 rfl) rfl
theorem q3023 : (Jvm.Cond.privateMethod ({ cls := "EdgeSumsModel", name := "isWord", desc := "(I)Z" } : Jvm.MethodName)) ∈ lw_tbl := lw_at lw_m13 19 rfl
theorem q3024 : (Jvm.Cond.instanceMethod ({ cls := "EdgeSumsModel", name := "isWord", desc := "(I)Z" } : Jvm.MethodName)) ∈ lw_all := lw_g (lw_at lw_m13 20 rfl) rfl
theorem q3025 : (Jvm.Cond.code ({ cls := "EdgeSumsModel", name := "isWord", desc := "(I)Z" } : Jvm.MethodName) prog_28_method_91_code (4 : Nat) (Option.some Jvm.ClassFile.FieldType.boolean)) ∈ lw_all := lw_g (lw_at lw_m13 21 rfl) rfl
theorem q3026 : (Jvm.Cond.methodLink "EdgeSumsModel" (271 : Nat) ({ cls := "EdgeSumsModel", name := "letterOf", desc := "(II)I" } : Jvm.MethodName)) ∈ lw_all := lw_g (lw_at lw_m13 22 rfl) rfl
theorem q3027 : (Jvm.Cond.static ({ cls := "EdgeSumsModel", name := "letterOf", desc := "(II)I" } : Jvm.MethodName)) ∈ lw_all := lw_g (lw_at lw_m13 23 rfl) rfl
theorem q3028 : (Jvm.Cond.code ({ cls := "EdgeSumsModel", name := "letterOf", desc := "(II)I" } : Jvm.MethodName) prog_28_method_89_code (2 : Nat) (Option.some Jvm.ClassFile.FieldType.int)) ∈ lw_all := lw_g (lw_at lw_m13 24 rfl) rfl
theorem q3029 : (Jvm.Cond.methodLink "EdgeSumsModel" (267 : Nat) ({ cls := "EdgeSumsModel", name := "spelled", desc := "(IIIIIII)I" } : Jvm.MethodName)) ∈ lw_all := lw_g (lw_at lw_m13 25 rfl) rfl
theorem q3030 : (Jvm.Cond.static ({ cls := "EdgeSumsModel", name := "spelled", desc := "(IIIIIII)I" } : Jvm.MethodName)) ∈ lw_all := lw_g (lw_at lw_m13 26 rfl) rfl
theorem q3031 : (Jvm.Cond.code ({ cls := "EdgeSumsModel", name := "spelled", desc := "(IIIIIII)I" } : Jvm.MethodName) prog_28_method_90_code (7 : Nat) (Option.some Jvm.ClassFile.FieldType.int)) ∈ lw_all := lw_g (lw_at lw_m13 27 rfl) rfl
theorem q3032 : (Jvm.Cond.methodLink "EdgeSumsModel" (280 : Nat) ({ cls := "EdgeSumsModel", name := "fail", desc := "()V" } : Jvm.MethodName)) ∈ lw_all := lw_g (lw_at lw_m13 28 rfl) rfl
theorem q3033 : (Jvm.Cond.privateMethod ({ cls := "EdgeSumsModel", name := "fail", desc := "()V" } : Jvm.MethodName)) ∈ lw_tbl := lw_at lw_m13 29 rfl
theorem q3034 : (Jvm.Cond.instanceMethod ({ cls := "EdgeSumsModel", name := "fail", desc := "()V" } : Jvm.MethodName)) ∈ lw_all := lw_g (lw_at lw_m13 30 rfl) rfl
theorem q3035 : (Jvm.Cond.code ({ cls := "EdgeSumsModel", name := "fail", desc := "()V" } : Jvm.MethodName) prog_28_method_88_code (1 : Nat) (Option.none : Option Jvm.ClassFile.FieldType)) ∈ lw_all := lw_g (lw_at lw_m13 31 rfl) rfl
theorem q3036 : (Jvm.Cond.methodLink "EdgeSumsModel" (305 : Nat) ({ cls := "EdgeSumsModel", name := "readPage", desc := "()V" } : Jvm.MethodName)) ∈ lw_all := lw_g (lw_at lw_m13 32 rfl) rfl
theorem q3037 : (Jvm.Cond.privateMethod ({ cls := "EdgeSumsModel", name := "readPage", desc := "()V" } : Jvm.MethodName)) ∈ lw_tbl := lw_at lw_m13 33 rfl
theorem q3038 : (Jvm.Cond.instanceMethod ({ cls := "EdgeSumsModel", name := "readPage", desc := "()V" } : Jvm.MethodName)) ∈ lw_all := lw_g (lw_at lw_m13 34 rfl) rfl
theorem q3039 : (Jvm.Cond.code ({ cls := "EdgeSumsModel", name := "readPage", desc := "()V" } : Jvm.MethodName) prog_28_method_94_code (5 : Nat) (Option.none : Option Jvm.ClassFile.FieldType)) ∈ lw_all := lw_g (lw_at lw_m13 35 rfl) rfl
theorem q3040 : (Jvm.Cond.methodLink "EdgeSumsModel" (286 : Nat) ({ cls := "EdgeSumsModel", name := "isStop", desc := "()Z" } : Jvm.MethodName)) ∈ lw_all := lw_g (lw_at lw_m13 36 rfl) rfl
theorem q3041 : (Jvm.Cond.privateMethod ({ cls := "EdgeSumsModel", name := "isStop", desc := "()Z" } : Jvm.MethodName)) ∈ lw_tbl := lw_at lw_m13 37 rfl
theorem q3042 : (Jvm.Cond.instanceMethod ({ cls := "EdgeSumsModel", name := "isStop", desc := "()Z" } : Jvm.MethodName)) ∈ lw_all := lw_g (lw_at lw_m13 38 rfl) rfl
theorem q3043 : (Jvm.Cond.code ({ cls := "EdgeSumsModel", name := "isStop", desc := "()Z" } : Jvm.MethodName) prog_28_method_93_code (1 : Nat) (Option.some Jvm.ClassFile.FieldType.boolean)) ∈ lw_all := lw_g (lw_at lw_m13 39 rfl) rfl
theorem q3044 : (Jvm.Cond.methodLink "EdgeSumsModel" (308 : Nat) ({ cls := "EdgeSumsModel", name := "readAnswer", desc := "()V" } : Jvm.MethodName)) ∈ lw_all := lw_g (lw_at lw_m13 40 rfl) rfl
theorem q3045 : (Jvm.Cond.privateMethod ({ cls := "EdgeSumsModel", name := "readAnswer", desc := "()V" } : Jvm.MethodName)) ∈ lw_tbl := lw_at lw_m13 41 rfl
theorem q3046 : (Jvm.Cond.instanceMethod ({ cls := "EdgeSumsModel", name := "readAnswer", desc := "()V" } : Jvm.MethodName)) ∈ lw_all := lw_g (lw_at lw_m13 42 rfl) rfl
theorem q3047 : (Jvm.Cond.code ({ cls := "EdgeSumsModel", name := "readAnswer", desc := "()V" } : Jvm.MethodName) prog_28_method_96_code (5 : Nat) (Option.none : Option Jvm.ClassFile.FieldType)) ∈ lw_all := lw_g (lw_at lw_m13 43 rfl) rfl
theorem q3048 : (Jvm.Cond.methodLink "EdgeSumsModel" (289 : Nat) ({ cls := "EdgeSumsModel", name := "mayWrite", desc := "(II)Z" } : Jvm.MethodName)) ∈ lw_all := lw_g (lw_at lw_m13 44 rfl) rfl
theorem q3049 : (Jvm.Cond.privateMethod ({ cls := "EdgeSumsModel", name := "mayWrite", desc := "(II)Z" } : Jvm.MethodName)) ∈ lw_tbl := lw_at lw_m13 45 rfl
theorem q3050 : (Jvm.Cond.instanceMethod ({ cls := "EdgeSumsModel", name := "mayWrite", desc := "(II)Z" } : Jvm.MethodName)) ∈ lw_all := lw_g (lw_at lw_m13 46 rfl) rfl
theorem q3051 : (Jvm.Cond.code ({ cls := "EdgeSumsModel", name := "mayWrite", desc := "(II)Z" } : Jvm.MethodName) prog_28_method_95_code (3 : Nat) (Option.some Jvm.ClassFile.FieldType.boolean)) ∈ lw_all := lw_g (lw_at lw_m13 47 rfl) rfl
theorem q3052 : (Jvm.Cond.methodLink "EdgeSumsModel" (311 : Nat) ({ cls := "EdgeSumsModel", name := "readCosts", desc := "()V" } : Jvm.MethodName)) ∈ lw_all := lw_g (lw_at lw_m13 48 rfl) rfl
theorem q3053 : (Jvm.Cond.privateMethod ({ cls := "EdgeSumsModel", name := "readCosts", desc := "()V" } : Jvm.MethodName)) ∈ lw_tbl := lw_at lw_m13 49 rfl
theorem q3054 : (Jvm.Cond.instanceMethod ({ cls := "EdgeSumsModel", name := "readCosts", desc := "()V" } : Jvm.MethodName)) ∈ lw_all := lw_g (lw_at lw_m13 50 rfl) rfl
theorem q3055 : (Jvm.Cond.code ({ cls := "EdgeSumsModel", name := "readCosts", desc := "()V" } : Jvm.MethodName) prog_28_method_100_code (3 : Nat) (Option.none : Option Jvm.ClassFile.FieldType)) ∈ lw_all := lw_g (lw_at lw_m13 51 rfl) rfl
theorem q3056 : (Jvm.Cond.methodLink "EdgeSumsModel" (302 : Nat) ({ cls := "EdgeSumsModel", name := "numberHere", desc := "(II)I" } : Jvm.MethodName)) ∈ lw_all := lw_g (lw_at lw_m13 52 rfl) rfl
theorem q3057 : (Jvm.Cond.privateMethod ({ cls := "EdgeSumsModel", name := "numberHere", desc := "(II)I" } : Jvm.MethodName)) ∈ lw_tbl := lw_at lw_m13 53 rfl
theorem q3058 : (Jvm.Cond.instanceMethod ({ cls := "EdgeSumsModel", name := "numberHere", desc := "(II)I" } : Jvm.MethodName)) ∈ lw_all := lw_g (lw_at lw_m13 54 rfl) rfl
theorem q3059 : (Jvm.Cond.code ({ cls := "EdgeSumsModel", name := "numberHere", desc := "(II)I" } : Jvm.MethodName) prog_28_method_92_code (5 : Nat) (Option.some Jvm.ClassFile.FieldType.int)) ∈ lw_all := lw_g (lw_at lw_m13 55 rfl) rfl
theorem q3060 : (Jvm.Cond.methodLink "EdgeSumsModel" (274 : Nat) ({ cls := "EdgeSumsModel", name := "less", desc := "(II)I" } : Jvm.MethodName)) ∈ lw_all := lw_g (lw_at lw_m13 56 rfl) rfl
theorem q3061 : (Jvm.Cond.static ({ cls := "EdgeSumsModel", name := "less", desc := "(II)I" } : Jvm.MethodName)) ∈ lw_all := lw_g (lw_at lw_m13 57 rfl) rfl
theorem q3062 : (Jvm.Cond.code ({ cls := "EdgeSumsModel", name := "less", desc := "(II)I" } : Jvm.MethodName) prog_28_method_4_code (2 : Nat) (Option.some Jvm.ClassFile.FieldType.int)) ∈ lw_all := lw_g (lw_at lw_m13 58 rfl) rfl
theorem q3063 : (Jvm.Cond.methodLink "EdgeSumsModel" (314 : Nat) ({ cls := "EdgeSumsModel", name := "readWhich", desc := "(I)V" } : Jvm.MethodName)) ∈ lw_all := lw_g (lw_at lw_m13 59 rfl) rfl
theorem q3064 : (Jvm.Cond.privateMethod ({ cls := "EdgeSumsModel", name := "readWhich", desc := "(I)V" } : Jvm.MethodName)) ∈ lw_tbl := lw_at lw_m13 60 rfl
theorem q3065 : (Jvm.Cond.instanceMethod ({ cls := "EdgeSumsModel", name := "readWhich", desc := "(I)V" } : Jvm.MethodName)) ∈ lw_all := lw_g (lw_at lw_m13 61 rfl) rfl
theorem q3066 : (Jvm.Cond.code ({ cls := "EdgeSumsModel", name := "readWhich", desc := "(I)V" } : Jvm.MethodName) prog_28_method_99_code (6 : Nat) (Option.none : Option Jvm.ClassFile.FieldType)) ∈ lw_all := lw_g (lw_at lw_m13 62 rfl) rfl
theorem q3067 : (Jvm.Cond.methodLink "EdgeSumsModel" (295 : Nat) ({ cls := "EdgeSumsModel", name := "canBe", desc := "(II)Z" } : Jvm.MethodName)) ∈ lw_all := lw_g (lw_at lw_m13 63 rfl) rfl
theorem q3068 : (Jvm.Cond.privateMethod ({ cls := "EdgeSumsModel", name := "canBe", desc := "(II)Z" } : Jvm.MethodName)) ∈ lw_tbl := lw_at lw_m13 64 rfl
theorem q3069 : (Jvm.Cond.instanceMethod ({ cls := "EdgeSumsModel", name := "canBe", desc := "(II)Z" } : Jvm.MethodName)) ∈ lw_all := lw_g (lw_at lw_m13 65 rfl) rfl
theorem q3070 : (Jvm.Cond.code ({ cls := "EdgeSumsModel", name := "canBe", desc := "(II)Z" } : Jvm.MethodName) prog_28_method_97_code (3 : Nat) (Option.some Jvm.ClassFile.FieldType.boolean)) ∈ lw_all := lw_g (lw_at lw_m13 66 rfl) rfl
theorem q3071 : (Jvm.Cond.methodLink "EdgeSumsModel" (298 : Nat) ({ cls := "EdgeSumsModel", name := "put", desc := "(III)V" } : Jvm.MethodName)) ∈ lw_all := lw_g (lw_at lw_m13 67 rfl) rfl
theorem q3072 : (Jvm.Cond.privateMethod ({ cls := "EdgeSumsModel", name := "put", desc := "(III)V" } : Jvm.MethodName)) ∈ lw_tbl := lw_at lw_m13 68 rfl
theorem q3073 : (Jvm.Cond.instanceMethod ({ cls := "EdgeSumsModel", name := "put", desc := "(III)V" } : Jvm.MethodName)) ∈ lw_all := lw_g (lw_at lw_m13 69 rfl) rfl
theorem q3074 : (Jvm.Cond.code ({ cls := "EdgeSumsModel", name := "put", desc := "(III)V" } : Jvm.MethodName) prog_28_method_98_code (4 : Nat) (Option.none : Option Jvm.ClassFile.FieldType)) ∈ lw_all := lw_g (lw_at lw_m13 70 rfl) rfl
theorem q3076 : (Jvm.Cond.instanceMethod ({ cls := "EdgeSumsModel", name := "count", desc := "(I)I" } : Jvm.MethodName)) ∈ lw_all := lw_g (lw_at lw_m13 72 rfl) rfl
theorem q3077 : (Jvm.Cond.selects "EdgeSumsModel" ({ cls := "EdgeSumsModel", name := "count", desc := "(I)I" } : Jvm.MethodName) ({ cls := "EdgeSumsModel", name := "count", desc := "(I)I" } : Jvm.MethodName)) ∈ lw_all := lw_g (lw_at lw_m13 73 rfl) rfl
theorem q3078 : (Jvm.Cond.code ({ cls := "EdgeSumsModel", name := "count", desc := "(I)I" } : Jvm.MethodName) prog_28_method_103_code (2 : Nat) (Option.some Jvm.ClassFile.FieldType.int)) ∈ lw_all := lw_g (lw_at lw_m13 74 rfl) rfl
theorem q3080 : (Jvm.Cond.instanceMethod ({ cls := "EdgeSumsModel", name := "cell", desc := "(II)I" } : Jvm.MethodName)) ∈ lw_all := lw_g (lw_at lw_m13 76 rfl) rfl
theorem q3081 : (Jvm.Cond.selects "EdgeSumsModel" ({ cls := "EdgeSumsModel", name := "cell", desc := "(II)I" } : Jvm.MethodName) ({ cls := "EdgeSumsModel", name := "cell", desc := "(II)I" } : Jvm.MethodName)) ∈ lw_all := lw_g (lw_at lw_m13 77 rfl) rfl
theorem q3082 : (Jvm.Cond.code ({ cls := "EdgeSumsModel", name := "cell", desc := "(II)I" } : Jvm.MethodName) prog_28_method_105_code (3 : Nat) (Option.some Jvm.ClassFile.FieldType.int)) ∈ lw_all := lw_g (lw_at lw_m13 78 rfl) rfl
theorem q3083 : (Jvm.Cond.methodLink "EdgeSumsModel" (320 : Nat) ({ cls := "EdgeSumsModel", name := "strangers", desc := "(I)I" } : Jvm.MethodName)) ∈ lw_all := lw_g (lw_at lw_m13 79 rfl) rfl
theorem q3084 : (Jvm.Cond.privateMethod ({ cls := "EdgeSumsModel", name := "strangers", desc := "(I)I" } : Jvm.MethodName)) ∈ lw_tbl := lw_at lw_m13 80 rfl
theorem q3085 : (Jvm.Cond.instanceMethod ({ cls := "EdgeSumsModel", name := "strangers", desc := "(I)I" } : Jvm.MethodName)) ∈ lw_all := lw_g (lw_at lw_m13 81 rfl) rfl
theorem q3086 : (Jvm.Cond.code ({ cls := "EdgeSumsModel", name := "strangers", desc := "(I)I" } : Jvm.MethodName) prog_28_method_104_code (4 : Nat) (Option.some Jvm.ClassFile.FieldType.int)) ∈ lw_all := lw_g (lw_at lw_m13 82 rfl) rfl
theorem q3088 : (Jvm.Cond.instanceMethod ({ cls := "EdgeSumsModel", name := "line", desc := "(II)I" } : Jvm.MethodName)) ∈ lw_all := lw_g (lw_at lw_m13 84 rfl) rfl
theorem q3089 : (Jvm.Cond.selects "EdgeSumsModel" ({ cls := "EdgeSumsModel", name := "line", desc := "(II)I" } : Jvm.MethodName) ({ cls := "EdgeSumsModel", name := "line", desc := "(II)I" } : Jvm.MethodName)) ∈ lw_all := lw_g (lw_at lw_m13 85 rfl) rfl
theorem q3090 : (Jvm.Cond.code ({ cls := "EdgeSumsModel", name := "line", desc := "(II)I" } : Jvm.MethodName) prog_28_method_106_code (4 : Nat) (Option.some Jvm.ClassFile.FieldType.int)) ∈ lw_all := lw_g (lw_at lw_m13 86 rfl) rfl
theorem q3092 : (Jvm.Cond.instanceMethod ({ cls := "EdgeSumsModel", name := "block", desc := "(II)I" } : Jvm.MethodName)) ∈ lw_all := lw_g (lw_at lw_m13 88 rfl) rfl
theorem q3093 : (Jvm.Cond.selects "EdgeSumsModel" ({ cls := "EdgeSumsModel", name := "block", desc := "(II)I" } : Jvm.MethodName) ({ cls := "EdgeSumsModel", name := "block", desc := "(II)I" } : Jvm.MethodName)) ∈ lw_all := lw_g (lw_at lw_m13 89 rfl) rfl
theorem q3094 : (Jvm.Cond.code ({ cls := "EdgeSumsModel", name := "block", desc := "(II)I" } : Jvm.MethodName) prog_28_method_108_code (8 : Nat) (Option.some Jvm.ClassFile.FieldType.int)) ∈ lw_all := lw_g (lw_at lw_m13 90 rfl) rfl
theorem q3095 : (Jvm.Cond.methodLink "EdgeSumsModel" (323 : Nat) ({ cls := "EdgeSumsModel", name := "borders", desc := "(I)I" } : Jvm.MethodName)) ∈ lw_all := lw_g (lw_at lw_m13 91 rfl) rfl
theorem q3096 : (Jvm.Cond.privateMethod ({ cls := "EdgeSumsModel", name := "borders", desc := "(I)I" } : Jvm.MethodName)) ∈ lw_tbl := lw_at lw_m13 92 rfl
theorem q3097 : (Jvm.Cond.instanceMethod ({ cls := "EdgeSumsModel", name := "borders", desc := "(I)I" } : Jvm.MethodName)) ∈ lw_all := lw_g (lw_at lw_m13 93 rfl) rfl
theorem q3098 : (Jvm.Cond.code ({ cls := "EdgeSumsModel", name := "borders", desc := "(I)I" } : Jvm.MethodName) prog_28_method_107_code (5 : Nat) (Option.some Jvm.ClassFile.FieldType.int)) ∈ lw_all := lw_g (lw_at lw_m13 94 rfl) rfl
theorem q3100 : (Jvm.Cond.instanceMethod ({ cls := "EdgeSumsModel", name := "rule", desc := "(II)I" } : Jvm.MethodName)) ∈ lw_all := lw_g (lw_at lw_m13 96 rfl) rfl
theorem q3101 : (Jvm.Cond.selects "EdgeSumsModel" ({ cls := "EdgeSumsModel", name := "rule", desc := "(II)I" } : Jvm.MethodName) ({ cls := "EdgeSumsModel", name := "rule", desc := "(II)I" } : Jvm.MethodName)) ∈ lw_all := lw_g (lw_at lw_m13 97 rfl) rfl
theorem q3102 : (Jvm.Cond.code ({ cls := "EdgeSumsModel", name := "rule", desc := "(II)I" } : Jvm.MethodName) prog_28_method_110_code (5 : Nat) (Option.some Jvm.ClassFile.FieldType.int)) ∈ lw_all := lw_g (lw_at lw_m13 98 rfl) rfl
theorem q3103 : (Jvm.Cond.methodLink "EdgeSumsModel" (326 : Nat) ({ cls := "EdgeSumsModel", name := "strikesBy", desc := "(I)I" } : Jvm.MethodName)) ∈ lw_all := lw_g (lw_at lw_m13 99 rfl) rfl
theorem q3104 : (Jvm.Cond.privateMethod ({ cls := "EdgeSumsModel", name := "strikesBy", desc := "(I)I" } : Jvm.MethodName)) ∈ lw_tbl := lw_at lw_m13 100 rfl
theorem q3105 : (Jvm.Cond.instanceMethod ({ cls := "EdgeSumsModel", name := "strikesBy", desc := "(I)I" } : Jvm.MethodName)) ∈ lw_all := lw_g (lw_at lw_m13 101 rfl) rfl
theorem q3106 : (Jvm.Cond.code ({ cls := "EdgeSumsModel", name := "strikesBy", desc := "(I)I" } : Jvm.MethodName) prog_28_method_109_code (5 : Nat) (Option.some Jvm.ClassFile.FieldType.int)) ∈ lw_all := lw_g (lw_at lw_m13 102 rfl) rfl
theorem q3107 : (Jvm.Cond.methodLink "EdgeSumsModel" (329 : Nat) ({ cls := "EdgeSumsModel", name := "goThrough", desc := "()V" } : Jvm.MethodName)) ∈ lw_all := lw_g (lw_at lw_m13 103 rfl) rfl
theorem q3108 : (Jvm.Cond.privateMethod ({ cls := "EdgeSumsModel", name := "goThrough", desc := "()V" } : Jvm.MethodName)) ∈ lw_tbl := lw_at lw_m13 104 rfl
theorem q3109 : (Jvm.Cond.instanceMethod ({ cls := "EdgeSumsModel", name := "goThrough", desc := "()V" } : Jvm.MethodName)) ∈ lw_all := lw_g (lw_at lw_m13 105 rfl) rfl
theorem q3110 : (Jvm.Cond.code ({ cls := "EdgeSumsModel", name := "goThrough", desc := "()V" } : Jvm.MethodName) prog_28_method_63_code (1 : Nat) (Option.none : Option Jvm.ClassFile.FieldType)) ∈ lw_all := lw_g (lw_at lw_m13 106 rfl) rfl
theorem q3112 : (Jvm.Cond.instanceMethod ({ cls := "EdgeSumsModel", name := "possible", desc := "(II)I" } : Jvm.MethodName)) ∈ lw_all := lw_g (lw_at lw_m13 108 rfl) rfl
theorem q3113 : (Jvm.Cond.selects "EdgeSumsModel" ({ cls := "EdgeSumsModel", name := "possible", desc := "(II)I" } : Jvm.MethodName) ({ cls := "EdgeSumsModel", name := "possible", desc := "(II)I" } : Jvm.MethodName)) ∈ lw_all := lw_g (lw_at lw_m13 109 rfl) rfl
theorem q3114 : (Jvm.Cond.code ({ cls := "EdgeSumsModel", name := "possible", desc := "(II)I" } : Jvm.MethodName) prog_28_method_111_code (3 : Nat) (Option.some Jvm.ClassFile.FieldType.int)) ∈ lw_all := lw_g (lw_at lw_m13 110 rfl) rfl
theorem q3116 : (Jvm.Cond.instanceMethod ({ cls := "EdgeSumsModel", name := "why", desc := "(III)I" } : Jvm.MethodName)) ∈ lw_all := lw_g (lw_at lw_m13 112 rfl) rfl
theorem q3117 : (Jvm.Cond.selects "EdgeSumsModel" ({ cls := "EdgeSumsModel", name := "why", desc := "(III)I" } : Jvm.MethodName) ({ cls := "EdgeSumsModel", name := "why", desc := "(III)I" } : Jvm.MethodName)) ∈ lw_all := lw_g (lw_at lw_m13 113 rfl) rfl
theorem q3118 : (Jvm.Cond.code ({ cls := "EdgeSumsModel", name := "why", desc := "(III)I" } : Jvm.MethodName) prog_28_method_112_code (5 : Nat) (Option.some Jvm.ClassFile.FieldType.int)) ∈ lw_all := lw_g (lw_at lw_m13 114 rfl) rfl
theorem q3120 : (Jvm.Cond.instanceMethod ({ cls := "EdgeSumsModel", name := "next", desc := "(I)I" } : Jvm.MethodName)) ∈ lw_all := lw_g (lw_at lw_m13 116 rfl) rfl
theorem q3121 : (Jvm.Cond.selects "EdgeSumsModel" ({ cls := "EdgeSumsModel", name := "next", desc := "(I)I" } : Jvm.MethodName) ({ cls := "EdgeSumsModel", name := "next", desc := "(I)I" } : Jvm.MethodName)) ∈ lw_all := lw_g (lw_at lw_m13 117 rfl) rfl
theorem q3122 : (Jvm.Cond.code ({ cls := "EdgeSumsModel", name := "next", desc := "(I)I" } : Jvm.MethodName) prog_28_method_114_code (2 : Nat) (Option.some Jvm.ClassFile.FieldType.int)) ∈ lw_all := lw_g (lw_at lw_m13 118 rfl) rfl
theorem q3123 : (Jvm.Cond.methodLink "EdgeSumsModel" (332 : Nat) ({ cls := "EdgeSumsModel", name := "partOf", desc := "(I)I" } : Jvm.MethodName)) ∈ lw_all := lw_g (lw_at lw_m13 119 rfl) rfl
theorem q3124 : (Jvm.Cond.privateMethod ({ cls := "EdgeSumsModel", name := "partOf", desc := "(I)I" } : Jvm.MethodName)) ∈ lw_tbl := lw_at lw_m13 120 rfl
theorem q3125 : (Jvm.Cond.instanceMethod ({ cls := "EdgeSumsModel", name := "partOf", desc := "(I)I" } : Jvm.MethodName)) ∈ lw_all := lw_g (lw_at lw_m13 121 rfl) rfl
theorem q3126 : (Jvm.Cond.code ({ cls := "EdgeSumsModel", name := "partOf", desc := "(I)I" } : Jvm.MethodName) prog_28_method_113_code (2 : Nat) (Option.some Jvm.ClassFile.FieldType.int)) ∈ lw_all := lw_g (lw_at lw_m13 122 rfl) rfl
theorem q3128 : (Jvm.Cond.instanceMethod ({ cls := "EdgeSumsModel", name := "run", desc := "(I)I" } : Jvm.MethodName)) ∈ lw_all := lw_g (lw_at lw_m13 124 rfl) rfl
theorem q3129 : (Jvm.Cond.selects "EdgeSumsModel" ({ cls := "EdgeSumsModel", name := "run", desc := "(I)I" } : Jvm.MethodName) ({ cls := "EdgeSumsModel", name := "run", desc := "(I)I" } : Jvm.MethodName)) ∈ lw_all := lw_g (lw_at lw_m13 125 rfl) rfl
theorem q3130 : (Jvm.Cond.code ({ cls := "EdgeSumsModel", name := "run", desc := "(I)I" } : Jvm.MethodName) prog_28_method_116_code (5 : Nat) (Option.some Jvm.ClassFile.FieldType.int)) ∈ lw_all := lw_g (lw_at lw_m13 126 rfl) rfl
theorem q3131 : (Jvm.Cond.methodLink "EdgeSumsModel" (335 : Nat) ({ cls := "EdgeSumsModel", name := "greatestRule", desc := "()I" } : Jvm.MethodName)) ∈ lw_all := lw_g (lw_at lw_m13 127 rfl) rfl
theorem q3132 : (Jvm.Cond.privateMethod ({ cls := "EdgeSumsModel", name := "greatestRule", desc := "()I" } : Jvm.MethodName)) ∈ lw_tbl := lw_at lw_m13 128 rfl
theorem q3133 : (Jvm.Cond.instanceMethod ({ cls := "EdgeSumsModel", name := "greatestRule", desc := "()I" } : Jvm.MethodName)) ∈ lw_all := lw_g (lw_at lw_m13 129 rfl) rfl
theorem q3134 : (Jvm.Cond.code ({ cls := "EdgeSumsModel", name := "greatestRule", desc := "()I" } : Jvm.MethodName) prog_28_method_115_code (3 : Nat) (Option.some Jvm.ClassFile.FieldType.int)) ∈ lw_all := lw_g (lw_at lw_m13 130 rfl) rfl
theorem q3136 : (Jvm.Cond.instanceMethod ({ cls := "EdgeSumsModel", name := "step", desc := "(II)I" } : Jvm.MethodName)) ∈ lw_all := lw_g (lw_at lw_m13 132 rfl) rfl
theorem q3137 : (Jvm.Cond.selects "EdgeSumsModel" ({ cls := "EdgeSumsModel", name := "step", desc := "(II)I" } : Jvm.MethodName) ({ cls := "EdgeSumsModel", name := "step", desc := "(II)I" } : Jvm.MethodName)) ∈ lw_all := lw_g (lw_at lw_m13 133 rfl) rfl
theorem q3138 : (Jvm.Cond.code ({ cls := "EdgeSumsModel", name := "step", desc := "(II)I" } : Jvm.MethodName) prog_28_method_117_code (3 : Nat) (Option.some Jvm.ClassFile.FieldType.int)) ∈ lw_all := lw_g (lw_at lw_m13 134 rfl) rfl
theorem q3140 : (Jvm.Cond.instanceMethod ({ cls := "EdgeSumsModel", name := "rank", desc := "(I)I" } : Jvm.MethodName)) ∈ lw_all := lw_g (lw_at lw_m13 136 rfl) rfl
theorem q3141 : (Jvm.Cond.selects "EdgeSumsModel" ({ cls := "EdgeSumsModel", name := "rank", desc := "(I)I" } : Jvm.MethodName) ({ cls := "EdgeSumsModel", name := "rank", desc := "(I)I" } : Jvm.MethodName)) ∈ lw_all := lw_g (lw_at lw_m13 137 rfl) rfl
theorem q3142 : (Jvm.Cond.code ({ cls := "EdgeSumsModel", name := "rank", desc := "(I)I" } : Jvm.MethodName) prog_28_method_118_code (5 : Nat) (Option.some Jvm.ClassFile.FieldType.int)) ∈ lw_all := lw_g (lw_at lw_m13 138 rfl) rfl
theorem q3144 : (Jvm.Cond.instanceMethod ({ cls := "EdgeSumsModel", name := "suppose", desc := "(III)I" } : Jvm.MethodName)) ∈ lw_all := lw_g (lw_at lw_m13 140 rfl) rfl
theorem q3145 : (Jvm.Cond.selects "EdgeSumsModel" ({ cls := "EdgeSumsModel", name := "suppose", desc := "(III)I" } : Jvm.MethodName) ({ cls := "EdgeSumsModel", name := "suppose", desc := "(III)I" } : Jvm.MethodName)) ∈ lw_all := lw_g (lw_at lw_m13 141 rfl) rfl
theorem q3146 : (Jvm.Cond.code ({ cls := "EdgeSumsModel", name := "suppose", desc := "(III)I" } : Jvm.MethodName) prog_28_method_119_code (4 : Nat) (Option.some Jvm.ClassFile.FieldType.int)) ∈ lw_all := lw_g (lw_at lw_m13 142 rfl) rfl
theorem q3148 : (Jvm.Cond.instanceMethod ({ cls := "EdgeSumsModel", name := "needed", desc := "(II)I" } : Jvm.MethodName)) ∈ lw_all := lw_g (lw_at lw_m13 144 rfl) rfl
theorem q3149 : (Jvm.Cond.selects "EdgeSumsModel" ({ cls := "EdgeSumsModel", name := "needed", desc := "(II)I" } : Jvm.MethodName) ({ cls := "EdgeSumsModel", name := "needed", desc := "(II)I" } : Jvm.MethodName)) ∈ lw_all := lw_g (lw_at lw_m13 145 rfl) rfl
theorem q3150 : (Jvm.Cond.code ({ cls := "EdgeSumsModel", name := "needed", desc := "(II)I" } : Jvm.MethodName) prog_28_method_120_code (5 : Nat) (Option.some Jvm.ClassFile.FieldType.int)) ∈ lw_all := lw_g (lw_at lw_m13 146 rfl) rfl
theorem q3152 : (Jvm.Cond.instanceMethod ({ cls := "EdgeSumsModel", name := "enough", desc := "()I" } : Jvm.MethodName)) ∈ lw_all := lw_g (lw_at lw_m13 148 rfl) rfl
theorem q3153 : (Jvm.Cond.selects "EdgeSumsModel" ({ cls := "EdgeSumsModel", name := "enough", desc := "()I" } : Jvm.MethodName) ({ cls := "EdgeSumsModel", name := "enough", desc := "()I" } : Jvm.MethodName)) ∈ lw_all := lw_g (lw_at lw_m13 149 rfl) rfl
theorem q3154 : (Jvm.Cond.code ({ cls := "EdgeSumsModel", name := "enough", desc := "()I" } : Jvm.MethodName) prog_28_method_122_code (5 : Nat) (Option.some Jvm.ClassFile.FieldType.int)) ∈ lw_all := lw_g (lw_at lw_m13 150 rfl) rfl
theorem q3155 : (Jvm.Cond.methodLink "EdgeSumsModel" (338 : Nat) ({ cls := "EdgeSumsModel", name := "costOf", desc := "(I)I" } : Jvm.MethodName)) ∈ lw_all := lw_g (lw_at lw_m13 151 rfl) rfl
theorem q3156 : (Jvm.Cond.privateMethod ({ cls := "EdgeSumsModel", name := "costOf", desc := "(I)I" } : Jvm.MethodName)) ∈ lw_tbl := lw_at lw_m13 152 rfl
theorem q3157 : (Jvm.Cond.instanceMethod ({ cls := "EdgeSumsModel", name := "costOf", desc := "(I)I" } : Jvm.MethodName)) ∈ lw_all := lw_g (lw_at lw_m13 153 rfl) rfl
theorem q3158 : (Jvm.Cond.code ({ cls := "EdgeSumsModel", name := "costOf", desc := "(I)I" } : Jvm.MethodName) prog_28_method_121_code (4 : Nat) (Option.some Jvm.ClassFile.FieldType.int)) ∈ lw_all := lw_g (lw_at lw_m13 154 rfl) rfl
theorem q3160 : (Jvm.Cond.instanceMethod ({ cls := "EdgeSumsModel", name := "printed", desc := "(II)I" } : Jvm.MethodName)) ∈ lw_all := lw_g (lw_at lw_m13 156 rfl) rfl
theorem q3161 : (Jvm.Cond.selects "EdgeSumsModel" ({ cls := "EdgeSumsModel", name := "printed", desc := "(II)I" } : Jvm.MethodName) ({ cls := "EdgeSumsModel", name := "printed", desc := "(II)I" } : Jvm.MethodName)) ∈ lw_all := lw_g (lw_at lw_m13 157 rfl) rfl
theorem q3162 : (Jvm.Cond.code ({ cls := "EdgeSumsModel", name := "printed", desc := "(II)I" } : Jvm.MethodName) prog_28_method_125_code (5 : Nat) (Option.some Jvm.ClassFile.FieldType.int)) ∈ lw_all := lw_g (lw_at lw_m13 158 rfl) rfl
theorem q3163 : (Jvm.Cond.methodLink "EdgeSumsModel" (344 : Nat) ({ cls := "EdgeSumsModel", name := "print", desc := "(I)V" } : Jvm.MethodName)) ∈ lw_all := lw_g (lw_at lw_m13 159 rfl) rfl
theorem q3164 : (Jvm.Cond.privateMethod ({ cls := "EdgeSumsModel", name := "print", desc := "(I)V" } : Jvm.MethodName)) ∈ lw_tbl := lw_at lw_m13 160 rfl
theorem q3165 : (Jvm.Cond.instanceMethod ({ cls := "EdgeSumsModel", name := "print", desc := "(I)V" } : Jvm.MethodName)) ∈ lw_all := lw_g (lw_at lw_m13 161 rfl) rfl
theorem q3166 : (Jvm.Cond.code ({ cls := "EdgeSumsModel", name := "print", desc := "(I)V" } : Jvm.MethodName) prog_28_method_123_code (2 : Nat) (Option.none : Option Jvm.ClassFile.FieldType)) ∈ lw_all := lw_g (lw_at lw_m13 162 rfl) rfl
theorem q3167 : (Jvm.Cond.methodLink "EdgeSumsModel" (347 : Nat) ({ cls := "EdgeSumsModel", name := "printSum", desc := "(I)V" } : Jvm.MethodName)) ∈ lw_all := lw_g (lw_at lw_m13 163 rfl) rfl
theorem q3168 : (Jvm.Cond.privateMethod ({ cls := "EdgeSumsModel", name := "printSum", desc := "(I)V" } : Jvm.MethodName)) ∈ lw_tbl := lw_at lw_m13 164 rfl
theorem q3169 : (Jvm.Cond.instanceMethod ({ cls := "EdgeSumsModel", name := "printSum", desc := "(I)V" } : Jvm.MethodName)) ∈ lw_all := lw_g (lw_at lw_m13 165 rfl) rfl
theorem q3170 : (Jvm.Cond.code ({ cls := "EdgeSumsModel", name := "printSum", desc := "(I)V" } : Jvm.MethodName) prog_28_method_124_code (2 : Nat) (Option.none : Option Jvm.ClassFile.FieldType)) ∈ lw_all := lw_g (lw_at lw_m13 166 rfl) rfl
theorem q3207 : (Jvm.Cond.castable "EdgeSumsModel" "java/lang/Object") ∈ lw_tbl := lw_at lw_m13 203 rfl
theorem in_X13 : ∀ w ∈ wsX130, w ∈ lw_all := lw_in wsX130 [2675, 2677, 2679, 2681, 2683, 2685, 2687, 2689, 2691, 2693, 2695, 2697, 2699, 2701, 2703, 2705, 2707, 2709, 2711, 2713, 2715, 2717, 2719, 2721] (by decide +kernel) (by decide +kernel)
/-! the law's own entry -/
set_option maxRecDepth 100000
abbrev cL_law : ByteArray := code
def dkwL_law_46 : List UInt8 := [132, 3, 4, 167, 251, 91, 4, 172]
abbrev dktL_law_46 : List UInt8 := dkwL_law_46 ++ []
def dkwL_law_45 : List UInt8 := [182, 0, 165, 44, 42, 29, 4, 96, 46, 42, 29, 5, 96, 46, 182, 0, 168, 159, 0, 5, 3, 172]
abbrev dktL_law_45 : List UInt8 := dkwL_law_45 ++ dktL_law_46
def dkwL_law_44 : List UInt8 := [182, 0, 161, 44, 182, 0, 164, 159, 0, 38, 3, 172, 43, 42, 29, 4, 96, 46, 42, 29, 5, 96, 46]
abbrev dktL_law_44 : List UInt8 := dkwL_law_44 ++ dktL_law_45
def dkwL_law_43 : List UInt8 := [182, 0, 157, 44, 42, 29, 4, 96, 46, 42, 29, 5, 96, 46, 182, 0, 160, 159, 0, 51, 3, 172, 43]
abbrev dktL_law_43 : List UInt8 := dkwL_law_43 ++ dktL_law_44
def dkwL_law_42 : List UInt8 := [29, 6, 96, 46, 182, 0, 156, 159, 0, 84, 3, 172, 43, 42, 29, 4, 96, 46, 42, 29, 5, 96, 46]
abbrev dktL_law_42 : List UInt8 := dkwL_law_42 ++ dktL_law_43
def dkwL_law_41 : List UInt8 := [29, 5, 96, 46, 42, 29, 6, 96, 46, 182, 0, 153, 44, 42, 29, 4, 96, 46, 42, 29, 5, 96, 46, 42]
abbrev dktL_law_41 : List UInt8 := dkwL_law_41 ++ dktL_law_42
def dkwL_law_40 : List UInt8 := [182, 0, 149, 44, 42, 29, 4, 96, 46, 182, 0, 152, 159, 0, 127, 3, 172, 43, 42, 29, 4, 96, 46, 42]
abbrev dktL_law_40 : List UInt8 := dkwL_law_40 ++ dktL_law_41
def dkwL_law_39 : List UInt8 := [29, 4, 96, 46, 42, 29, 5, 96, 46, 182, 0, 148, 159, 0, 150, 3, 172, 43, 42, 29, 4, 96, 46]
abbrev dktL_law_39 : List UInt8 := dkwL_law_39 ++ dktL_law_40
def dkwL_law_38 : List UInt8 := [182, 0, 144, 159, 0, 183, 3, 172, 43, 42, 29, 4, 96, 46, 42, 29, 5, 96, 46, 182, 0, 145, 44, 42]
abbrev dktL_law_38 : List UInt8 := dkwL_law_38 ++ dktL_law_39
def dkwL_law_37 : List UInt8 := [182, 0, 140, 159, 0, 206, 3, 172, 43, 42, 29, 4, 96, 46, 182, 0, 141, 44, 42, 29, 4, 96, 46]
abbrev dktL_law_37 : List UInt8 := dkwL_law_37 ++ dktL_law_38
def dkwL_law_36 : List UInt8 := [182, 0, 136, 159, 0, 229, 3, 172, 43, 42, 29, 4, 96, 46, 182, 0, 137, 44, 42, 29, 4, 96, 46]
abbrev dktL_law_36 : List UInt8 := dkwL_law_36 ++ dktL_law_37
def dkwL_law_35 : List UInt8 := [6, 96, 46, 182, 0, 132, 44, 42, 29, 4, 96, 46, 42, 29, 5, 96, 46, 42, 29, 6, 96, 46]
abbrev dktL_law_35 : List UInt8 := dkwL_law_35 ++ dktL_law_36
def dkwL_law_34 : List UInt8 := [5, 96, 46, 182, 0, 131, 159, 1, 16, 3, 172, 43, 42, 29, 4, 96, 46, 42, 29, 5, 96, 46, 42, 29]
abbrev dktL_law_34 : List UInt8 := dkwL_law_34 ++ dktL_law_35
def dkwL_law_33 : List UInt8 := [3, 172, 43, 42, 29, 4, 96, 46, 42, 29, 5, 96, 46, 182, 0, 128, 44, 42, 29, 4, 96, 46, 42, 29]
abbrev dktL_law_33 : List UInt8 := dkwL_law_33 ++ dktL_law_34
def dkwL_law_32 : List UInt8 := [29, 5, 96, 46, 182, 0, 124, 44, 42, 29, 4, 96, 46, 42, 29, 5, 96, 46, 182, 0, 127, 159, 1, 49]
abbrev dktL_law_32 : List UInt8 := dkwL_law_32 ++ dktL_law_33
def dkwL_law_31 : List UInt8 := [29, 4, 96, 46, 42, 29, 5, 96, 46, 182, 0, 123, 159, 1, 82, 3, 172, 43, 42, 29, 4, 96, 46, 42]
abbrev dktL_law_31 : List UInt8 := dkwL_law_31 ++ dktL_law_32
def dkwL_law_30 : List UInt8 := [182, 0, 119, 159, 1, 115, 3, 172, 43, 42, 29, 4, 96, 46, 42, 29, 5, 96, 46, 182, 0, 120, 44, 42]
abbrev dktL_law_30 : List UInt8 := dkwL_law_30 ++ dktL_law_31
def dkwL_law_29 : List UInt8 := [29, 4, 96, 46, 42, 29, 5, 96, 46, 182, 0, 116, 44, 42, 29, 4, 96, 46, 42, 29, 5, 96, 46]
abbrev dktL_law_29 : List UInt8 := dkwL_law_29 ++ dktL_law_30
def dkwL_law_28 : List UInt8 := [182, 0, 112, 44, 42, 29, 4, 96, 46, 42, 29, 5, 96, 46, 182, 0, 115, 159, 1, 148, 3, 172, 43, 42]
abbrev dktL_law_28 : List UInt8 := dkwL_law_28 ++ dktL_law_29
def dkwL_law_27 : List UInt8 := [4, 96, 46, 182, 0, 111, 159, 1, 181, 3, 172, 43, 42, 29, 4, 96, 46, 42, 29, 5, 96, 46]
abbrev dktL_law_27 : List UInt8 := dkwL_law_27 ++ dktL_law_28
def dkwL_law_26 : List UInt8 := [182, 0, 104, 44, 182, 0, 107, 159, 1, 204, 3, 172, 43, 42, 29, 4, 96, 46, 182, 0, 108, 44, 42, 29]
abbrev dktL_law_26 : List UInt8 := dkwL_law_26 ++ dktL_law_27
def dkwL_law_25 : List UInt8 := [182, 0, 99, 159, 1, 230, 3, 172, 43, 182, 0, 100, 44, 182, 0, 103, 159, 1, 217, 3, 172, 43]
abbrev dktL_law_25 : List UInt8 := dkwL_law_25 ++ dktL_law_26
def dkwL_law_24 : List UInt8 := [182, 0, 95, 159, 1, 253, 3, 172, 43, 42, 29, 4, 96, 46, 182, 0, 96, 44, 42, 29, 4, 96, 46]
abbrev dktL_law_24 : List UInt8 := dkwL_law_24 ++ dktL_law_25
def dkwL_law_23 : List UInt8 := [182, 0, 88, 44, 42, 29, 4, 96, 46, 182, 0, 91, 159, 2, 10, 3, 172, 43, 182, 0, 92, 44]
abbrev dktL_law_23 : List UInt8 := dkwL_law_23 ++ dktL_law_24
def dkwL_law_22 : List UInt8 := [182, 0, 84, 44, 42, 29, 4, 96, 46, 182, 0, 87, 159, 2, 33, 3, 172, 43, 42, 29, 4, 96, 46]
abbrev dktL_law_22 : List UInt8 := dkwL_law_22 ++ dktL_law_23
def dkwL_law_21 : List UInt8 := [159, 2, 69, 3, 172, 43, 182, 0, 80, 44, 182, 0, 83, 159, 2, 56, 3, 172, 43, 42, 29, 4, 96, 46]
abbrev dktL_law_21 : List UInt8 := dkwL_law_21 ++ dktL_law_22
def dkwL_law_20 : List UInt8 := [159, 2, 92, 3, 172, 43, 42, 29, 4, 96, 46, 182, 0, 76, 44, 42, 29, 4, 96, 46, 182, 0, 79]
abbrev dktL_law_20 : List UInt8 := dkwL_law_20 ++ dktL_law_21
def dkwL_law_19 : List UInt8 := [42, 29, 5, 96, 46, 182, 0, 72, 44, 42, 29, 4, 96, 46, 42, 29, 5, 96, 46, 182, 0, 75]
abbrev dktL_law_19 : List UInt8 := dkwL_law_19 ++ dktL_law_20
def dkwL_law_18 : List UInt8 := [42, 29, 4, 96, 46, 42, 29, 5, 96, 46, 182, 0, 71, 159, 2, 125, 3, 172, 43, 42, 29, 4, 96, 46]
abbrev dktL_law_18 : List UInt8 := dkwL_law_18 ++ dktL_law_19
def dkwL_law_17 : List UInt8 := [46, 182, 0, 67, 159, 2, 158, 3, 172, 43, 42, 29, 4, 96, 46, 42, 29, 5, 96, 46, 182, 0, 68, 44]
abbrev dktL_law_17 : List UInt8 := dkwL_law_17 ++ dktL_law_18
def dkwL_law_16 : List UInt8 := [43, 42, 29, 4, 96, 46, 42, 29, 5, 96, 46, 182, 0, 64, 44, 42, 29, 4, 96, 46, 42, 29, 5, 96]
abbrev dktL_law_16 : List UInt8 := dkwL_law_16 ++ dktL_law_17
def dkwL_law_15 : List UInt8 := [5, 96, 46, 182, 0, 59, 159, 2, 204, 3, 172, 43, 182, 0, 60, 44, 182, 0, 63, 159, 2, 191, 3, 172]
abbrev dktL_law_15 : List UInt8 := dkwL_law_15 ++ dktL_law_16
def dkwL_law_14 : List UInt8 := [3, 172, 43, 42, 29, 4, 96, 46, 42, 29, 5, 96, 46, 182, 0, 56, 44, 42, 29, 4, 96, 46, 42, 29]
abbrev dktL_law_14 : List UInt8 := dkwL_law_14 ++ dktL_law_15
def dkwL_law_13 : List UInt8 := [29, 5, 96, 46, 182, 0, 52, 44, 42, 29, 4, 96, 46, 42, 29, 5, 96, 46, 182, 0, 55, 159, 2, 237]
abbrev dktL_law_13 : List UInt8 := dkwL_law_13 ++ dktL_law_14
def dkwL_law_12 : List UInt8 := [29, 4, 96, 46, 42, 29, 5, 96, 46, 182, 0, 51, 159, 3, 14, 3, 172, 43, 42, 29, 4, 96, 46, 42]
abbrev dktL_law_12 : List UInt8 := dkwL_law_12 ++ dktL_law_13
def dkwL_law_11 : List UInt8 := [182, 0, 47, 159, 3, 47, 3, 172, 43, 42, 29, 4, 96, 46, 42, 29, 5, 96, 46, 182, 0, 48, 44, 42]
abbrev dktL_law_11 : List UInt8 := dkwL_law_11 ++ dktL_law_12
def dkwL_law_10 : List UInt8 := [4, 96, 46, 42, 29, 5, 96, 46, 182, 0, 44, 44, 42, 29, 4, 96, 46, 42, 29, 5, 96, 46]
abbrev dktL_law_10 : List UInt8 := dkwL_law_10 ++ dktL_law_11
def dkwL_law_9 : List UInt8 := [182, 0, 39, 159, 3, 93, 3, 172, 43, 182, 0, 40, 44, 182, 0, 43, 159, 3, 80, 3, 172, 43, 42, 29]
abbrev dktL_law_9 : List UInt8 := dkwL_law_9 ++ dktL_law_10
def dkwL_law_8 : List UInt8 := [4, 96, 46, 42, 29, 5, 96, 46, 182, 0, 36, 44, 42, 29, 4, 96, 46, 42, 29, 5, 96, 46]
abbrev dktL_law_8 : List UInt8 := dkwL_law_8 ++ dktL_law_9
def dkwL_law_7 : List UInt8 := [182, 0, 31, 159, 3, 139, 3, 172, 43, 182, 0, 32, 44, 182, 0, 35, 159, 3, 126, 3, 172, 43, 42, 29]
abbrev dktL_law_7 : List UInt8 := dkwL_law_7 ++ dktL_law_8
def dkwL_law_6 : List UInt8 := [182, 0, 22, 44, 42, 29, 4, 96, 46, 182, 0, 26, 159, 3, 152, 3, 172, 43, 182, 0, 27, 44]
abbrev dktL_law_6 : List UInt8 := dkwL_law_6 ++ dktL_law_7
def dkwL_law_5 : List UInt8 := [42, 29, 4, 96, 46, 42, 29, 5, 96, 46, 182, 0, 21, 159, 3, 175, 3, 172, 43, 42, 29, 4, 96, 46]
abbrev dktL_law_5 : List UInt8 := dkwL_law_5 ++ dktL_law_6
def dkwL_law_4 : List UInt8 := [46, 182, 0, 17, 159, 3, 208, 3, 172, 43, 42, 29, 4, 96, 46, 42, 29, 5, 96, 46, 182, 0, 18, 44]
abbrev dktL_law_4 : List UInt8 := dkwL_law_4 ++ dktL_law_5
def dkwL_law_3 : List UInt8 := [43, 42, 29, 4, 96, 46, 42, 29, 5, 96, 46, 182, 0, 13, 44, 42, 29, 4, 96, 46, 42, 29, 5, 96]
abbrev dktL_law_3 : List UInt8 := dkwL_law_3 ++ dktL_law_4
def dkwL_law_2 : List UInt8 := [170, 0, 0, 0, 0, 0, 4, 148, 0, 0, 0, 0, 0, 0, 0, 37, 0, 0, 0, 168, 0, 0, 0, 201, 0, 0, 0, 234, 0, 0, 1, 1, 0, 0, 1, 14, 0, 0, 1, 27, 0, 0, 1, 60, 0, 0, 1, 73, 0, 0, 1, 106, 0, 0, 1, 139, 0, 0, 1, 172, 0, 0, 1, 205, 0, 0, 1, 218, 0, 0, 1, 251, 0, 0, 2, 28, 0, 0, 2, 61, 0, 0, 2, 84, 0, 0, 2, 97, 0, 0, 2, 120, 0, 0, 2, 143, 0, 0, 2, 156, 0, 0, 2, 179, 0, 0, 2, 192, 0, 0, 2, 205, 0, 0, 2, 228, 0, 0, 3, 5, 0, 0, 3, 38, 0, 0, 3, 71, 0, 0, 3, 104, 0, 0, 3, 137, 0, 0, 3, 180, 0, 0, 3, 203, 0, 0, 3, 226, 0, 0, 4, 3, 0, 0, 4, 26, 0, 0, 4, 69, 0, 0, 4, 102, 0, 0, 4, 115]
abbrev dktL_law_2 : List UInt8 := dkwL_law_2 ++ dktL_law_3
def dkwL_law_1 : List UInt8 := [163, 4, 163, 42, 29, 46, 16, 63, 126]
abbrev dktL_law_1 : List UInt8 := dkwL_law_1 ++ dktL_law_2
def dkwL_law_0 : List UInt8 := [187, 0, 7, 89, 183, 0, 9, 76, 187, 0, 10, 89, 183, 0, 12, 77, 3, 62, 29, 42, 190, 7, 100]
abbrev dktL_law_0 : List UInt8 := dkwL_law_0 ++ dktL_law_1
theorem dksL_law_0 : cL_law.data.toList.drop 0 = dktL_law_0 := by decide +kernel
theorem dksL_law_1 : cL_law.data.toList.drop 23 = dktL_law_1 := dk_seg dksL_law_0 23 rfl rfl
theorem dksL_law_2 : cL_law.data.toList.drop 32 = dktL_law_2 := dk_seg dksL_law_1 9 rfl rfl
theorem dksL_law_3 : cL_law.data.toList.drop 200 = dktL_law_3 := dk_seg dksL_law_2 168 rfl rfl
theorem dksL_law_4 : cL_law.data.toList.drop 224 = dktL_law_4 := dk_seg dksL_law_3 24 rfl rfl
theorem dksL_law_5 : cL_law.data.toList.drop 248 = dktL_law_5 := dk_seg dksL_law_4 24 rfl rfl
theorem dksL_law_6 : cL_law.data.toList.drop 272 = dktL_law_6 := dk_seg dksL_law_5 24 rfl rfl
theorem dksL_law_7 : cL_law.data.toList.drop 294 = dktL_law_7 := dk_seg dksL_law_6 22 rfl rfl
theorem dksL_law_8 : cL_law.data.toList.drop 318 = dktL_law_8 := dk_seg dksL_law_7 24 rfl rfl
theorem dksL_law_9 : cL_law.data.toList.drop 340 = dktL_law_9 := dk_seg dksL_law_8 22 rfl rfl
theorem dksL_law_10 : cL_law.data.toList.drop 364 = dktL_law_10 := dk_seg dksL_law_9 24 rfl rfl
theorem dksL_law_11 : cL_law.data.toList.drop 386 = dktL_law_11 := dk_seg dksL_law_10 22 rfl rfl
theorem dksL_law_12 : cL_law.data.toList.drop 410 = dktL_law_12 := dk_seg dksL_law_11 24 rfl rfl
theorem dksL_law_13 : cL_law.data.toList.drop 434 = dktL_law_13 := dk_seg dksL_law_12 24 rfl rfl
theorem dksL_law_14 : cL_law.data.toList.drop 458 = dktL_law_14 := dk_seg dksL_law_13 24 rfl rfl
theorem dksL_law_15 : cL_law.data.toList.drop 482 = dktL_law_15 := dk_seg dksL_law_14 24 rfl rfl
theorem dksL_law_16 : cL_law.data.toList.drop 506 = dktL_law_16 := dk_seg dksL_law_15 24 rfl rfl
theorem dksL_law_17 : cL_law.data.toList.drop 530 = dktL_law_17 := dk_seg dksL_law_16 24 rfl rfl
theorem dksL_law_18 : cL_law.data.toList.drop 554 = dktL_law_18 := dk_seg dksL_law_17 24 rfl rfl
theorem dksL_law_19 : cL_law.data.toList.drop 578 = dktL_law_19 := dk_seg dksL_law_18 24 rfl rfl
theorem dksL_law_20 : cL_law.data.toList.drop 600 = dktL_law_20 := dk_seg dksL_law_19 22 rfl rfl
theorem dksL_law_21 : cL_law.data.toList.drop 623 = dktL_law_21 := dk_seg dksL_law_20 23 rfl rfl
theorem dksL_law_22 : cL_law.data.toList.drop 647 = dktL_law_22 := dk_seg dksL_law_21 24 rfl rfl
theorem dksL_law_23 : cL_law.data.toList.drop 670 = dktL_law_23 := dk_seg dksL_law_22 23 rfl rfl
theorem dksL_law_24 : cL_law.data.toList.drop 692 = dktL_law_24 := dk_seg dksL_law_23 22 rfl rfl
theorem dksL_law_25 : cL_law.data.toList.drop 715 = dktL_law_25 := dk_seg dksL_law_24 23 rfl rfl
theorem dksL_law_26 : cL_law.data.toList.drop 737 = dktL_law_26 := dk_seg dksL_law_25 22 rfl rfl
theorem dksL_law_27 : cL_law.data.toList.drop 761 = dktL_law_27 := dk_seg dksL_law_26 24 rfl rfl
theorem dksL_law_28 : cL_law.data.toList.drop 783 = dktL_law_28 := dk_seg dksL_law_27 22 rfl rfl
theorem dksL_law_29 : cL_law.data.toList.drop 807 = dktL_law_29 := dk_seg dksL_law_28 24 rfl rfl
theorem dksL_law_30 : cL_law.data.toList.drop 830 = dktL_law_30 := dk_seg dksL_law_29 23 rfl rfl
theorem dksL_law_31 : cL_law.data.toList.drop 854 = dktL_law_31 := dk_seg dksL_law_30 24 rfl rfl
theorem dksL_law_32 : cL_law.data.toList.drop 878 = dktL_law_32 := dk_seg dksL_law_31 24 rfl rfl
theorem dksL_law_33 : cL_law.data.toList.drop 902 = dktL_law_33 := dk_seg dksL_law_32 24 rfl rfl
theorem dksL_law_34 : cL_law.data.toList.drop 926 = dktL_law_34 := dk_seg dksL_law_33 24 rfl rfl
theorem dksL_law_35 : cL_law.data.toList.drop 950 = dktL_law_35 := dk_seg dksL_law_34 24 rfl rfl
theorem dksL_law_36 : cL_law.data.toList.drop 972 = dktL_law_36 := dk_seg dksL_law_35 22 rfl rfl
theorem dksL_law_37 : cL_law.data.toList.drop 995 = dktL_law_37 := dk_seg dksL_law_36 23 rfl rfl
theorem dksL_law_38 : cL_law.data.toList.drop 1018 = dktL_law_38 := dk_seg dksL_law_37 23 rfl rfl
theorem dksL_law_39 : cL_law.data.toList.drop 1042 = dktL_law_39 := dk_seg dksL_law_38 24 rfl rfl
theorem dksL_law_40 : cL_law.data.toList.drop 1065 = dktL_law_40 := dk_seg dksL_law_39 23 rfl rfl
theorem dksL_law_41 : cL_law.data.toList.drop 1089 = dktL_law_41 := dk_seg dksL_law_40 24 rfl rfl
theorem dksL_law_42 : cL_law.data.toList.drop 1113 = dktL_law_42 := dk_seg dksL_law_41 24 rfl rfl
theorem dksL_law_43 : cL_law.data.toList.drop 1136 = dktL_law_43 := dk_seg dksL_law_42 23 rfl rfl
theorem dksL_law_44 : cL_law.data.toList.drop 1159 = dktL_law_44 := dk_seg dksL_law_43 23 rfl rfl
theorem dksL_law_45 : cL_law.data.toList.drop 1182 = dktL_law_45 := dk_seg dksL_law_44 23 rfl rfl
theorem dksL_law_46 : cL_law.data.toList.drop 1204 = dktL_law_46 := dk_seg dksL_law_45 22 rfl rfl
theorem dL_law_0 : decode cL_law 0 = .ok (.new 7, 3) := dk_187 0 7 (dk_at dksL_law_0 0 rfl rfl)
theorem dL_law_3 : decode cL_law 3 = .ok (.dup, 1) := dk_89 (dk_at dksL_law_0 3 rfl rfl)
theorem dL_law_4 : decode cL_law 4 = .ok (.invokespecial 9, 3) := dk_183 0 9 (dk_at dksL_law_0 4 rfl rfl)
theorem dL_law_7 : decode cL_law 7 = .ok (.astore_n 1, 1) := dk_76 (dk_at dksL_law_0 7 rfl rfl)
theorem dL_law_8 : decode cL_law 8 = .ok (.new 10, 3) := dk_187 0 10 (dk_at dksL_law_0 8 rfl rfl)
theorem dL_law_11 : decode cL_law 11 = .ok (.dup, 1) := dk_89 (dk_at dksL_law_0 11 rfl rfl)
theorem dL_law_12 : decode cL_law 12 = .ok (.invokespecial 12, 3) := dk_183 0 12 (dk_at dksL_law_0 12 rfl rfl)
theorem dL_law_15 : decode cL_law 15 = .ok (.astore_n 2, 1) := dk_77 (dk_at dksL_law_0 15 rfl rfl)
theorem dL_law_16 : decode cL_law 16 = .ok (.iconst 0, 1) := dk_3 (dk_at dksL_law_0 16 rfl rfl)
theorem dL_law_17 : decode cL_law 17 = .ok (.istore_n 3, 1) := dk_62 (dk_at dksL_law_0 17 rfl rfl)
theorem dL_law_18 : decode cL_law 18 = .ok (.iload_n 3, 1) := dk_29 (dk_at dksL_law_0 18 rfl rfl)
theorem dL_law_19 : decode cL_law 19 = .ok (.aload_n 0, 1) := dk_42 (dk_at dksL_law_0 19 rfl rfl)
theorem dL_law_20 : decode cL_law 20 = .ok (.arraylength, 1) := dk_190 (dk_at dksL_law_0 20 rfl rfl)
theorem dL_law_21 : decode cL_law 21 = .ok (.iconst 4, 1) := dk_7 (dk_at dksL_law_0 21 rfl rfl)
theorem dL_law_22 : decode cL_law 22 = .ok (.isub, 1) := dk_100 (dk_at dksL_law_0 22 rfl rfl)
theorem dL_law_23 : decode cL_law 23 = .ok (.if_icmp .gt 1187, 3) := dk_163 4 163 (dk_at dksL_law_1 0 rfl rfl)
theorem dL_law_26 : decode cL_law 26 = .ok (.aload_n 0, 1) := dk_42 (dk_at dksL_law_1 3 rfl rfl)
theorem dL_law_27 : decode cL_law 27 = .ok (.iload_n 3, 1) := dk_29 (dk_at dksL_law_1 4 rfl rfl)
theorem dL_law_28 : decode cL_law 28 = .ok (.iaload, 1) := dk_46 (dk_at dksL_law_1 5 rfl rfl)
theorem dL_law_29 : decode cL_law 29 = .ok (.bipush 63, 2) := dk_16 63 (dk_at dksL_law_1 6 rfl rfl)
theorem dL_law_31 : decode cL_law 31 = .ok (.iand, 1) := dk_126 (dk_at dksL_law_1 8 rfl rfl)
theorem dL_law_32 : decode cL_law 32 = .ok (.tableswitch 1172 0 37 #[168, 201, 234, 257, 270, 283, 316, 329, 362, 395, 428, 461, 474, 507, 540, 573, 596, 609, 632, 655, 668, 691, 704, 717, 740, 773, 806, 839, 872, 905, 948, 971, 994, 1027, 1050, 1093, 1126, 1139], 168) := by decide +kernel
theorem dL_law_200 : decode cL_law 200 = .ok (.aload_n 1, 1) := dk_43 (dk_at dksL_law_3 0 rfl rfl)
theorem dL_law_201 : decode cL_law 201 = .ok (.aload_n 0, 1) := dk_42 (dk_at dksL_law_3 1 rfl rfl)
theorem dL_law_202 : decode cL_law 202 = .ok (.iload_n 3, 1) := dk_29 (dk_at dksL_law_3 2 rfl rfl)
theorem dL_law_203 : decode cL_law 203 = .ok (.iconst 1, 1) := dk_4 (dk_at dksL_law_3 3 rfl rfl)
theorem dL_law_204 : decode cL_law 204 = .ok (.iadd, 1) := dk_96 (dk_at dksL_law_3 4 rfl rfl)
theorem dL_law_205 : decode cL_law 205 = .ok (.iaload, 1) := dk_46 (dk_at dksL_law_3 5 rfl rfl)
theorem dL_law_206 : decode cL_law 206 = .ok (.aload_n 0, 1) := dk_42 (dk_at dksL_law_3 6 rfl rfl)
theorem dL_law_207 : decode cL_law 207 = .ok (.iload_n 3, 1) := dk_29 (dk_at dksL_law_3 7 rfl rfl)
theorem dL_law_208 : decode cL_law 208 = .ok (.iconst 2, 1) := dk_5 (dk_at dksL_law_3 8 rfl rfl)
theorem dL_law_209 : decode cL_law 209 = .ok (.iadd, 1) := dk_96 (dk_at dksL_law_3 9 rfl rfl)
theorem dL_law_210 : decode cL_law 210 = .ok (.iaload, 1) := dk_46 (dk_at dksL_law_3 10 rfl rfl)
theorem dL_law_211 : decode cL_law 211 = .ok (.invokevirtual 13, 3) := dk_182 0 13 (dk_at dksL_law_3 11 rfl rfl)
theorem dL_law_214 : decode cL_law 214 = .ok (.aload_n 2, 1) := dk_44 (dk_at dksL_law_3 14 rfl rfl)
theorem dL_law_215 : decode cL_law 215 = .ok (.aload_n 0, 1) := dk_42 (dk_at dksL_law_3 15 rfl rfl)
theorem dL_law_216 : decode cL_law 216 = .ok (.iload_n 3, 1) := dk_29 (dk_at dksL_law_3 16 rfl rfl)
theorem dL_law_217 : decode cL_law 217 = .ok (.iconst 1, 1) := dk_4 (dk_at dksL_law_3 17 rfl rfl)
theorem dL_law_218 : decode cL_law 218 = .ok (.iadd, 1) := dk_96 (dk_at dksL_law_3 18 rfl rfl)
theorem dL_law_219 : decode cL_law 219 = .ok (.iaload, 1) := dk_46 (dk_at dksL_law_3 19 rfl rfl)
theorem dL_law_220 : decode cL_law 220 = .ok (.aload_n 0, 1) := dk_42 (dk_at dksL_law_3 20 rfl rfl)
theorem dL_law_221 : decode cL_law 221 = .ok (.iload_n 3, 1) := dk_29 (dk_at dksL_law_3 21 rfl rfl)
theorem dL_law_222 : decode cL_law 222 = .ok (.iconst 2, 1) := dk_5 (dk_at dksL_law_3 22 rfl rfl)
theorem dL_law_223 : decode cL_law 223 = .ok (.iadd, 1) := dk_96 (dk_at dksL_law_3 23 rfl rfl)
theorem dL_law_224 : decode cL_law 224 = .ok (.iaload, 1) := dk_46 (dk_at dksL_law_4 0 rfl rfl)
theorem dL_law_225 : decode cL_law 225 = .ok (.invokevirtual 17, 3) := dk_182 0 17 (dk_at dksL_law_4 1 rfl rfl)
theorem dL_law_228 : decode cL_law 228 = .ok (.if_icmp .eq 976, 3) := dk_159 3 208 (dk_at dksL_law_4 4 rfl rfl)
theorem dL_law_231 : decode cL_law 231 = .ok (.iconst 0, 1) := dk_3 (dk_at dksL_law_4 7 rfl rfl)
theorem dL_law_232 : decode cL_law 232 = .ok (.ireturn, 1) := dk_172 (dk_at dksL_law_4 8 rfl rfl)
theorem dL_law_233 : decode cL_law 233 = .ok (.aload_n 1, 1) := dk_43 (dk_at dksL_law_4 9 rfl rfl)
theorem dL_law_234 : decode cL_law 234 = .ok (.aload_n 0, 1) := dk_42 (dk_at dksL_law_4 10 rfl rfl)
theorem dL_law_235 : decode cL_law 235 = .ok (.iload_n 3, 1) := dk_29 (dk_at dksL_law_4 11 rfl rfl)
theorem dL_law_236 : decode cL_law 236 = .ok (.iconst 1, 1) := dk_4 (dk_at dksL_law_4 12 rfl rfl)
theorem dL_law_237 : decode cL_law 237 = .ok (.iadd, 1) := dk_96 (dk_at dksL_law_4 13 rfl rfl)
theorem dL_law_238 : decode cL_law 238 = .ok (.iaload, 1) := dk_46 (dk_at dksL_law_4 14 rfl rfl)
theorem dL_law_239 : decode cL_law 239 = .ok (.aload_n 0, 1) := dk_42 (dk_at dksL_law_4 15 rfl rfl)
theorem dL_law_240 : decode cL_law 240 = .ok (.iload_n 3, 1) := dk_29 (dk_at dksL_law_4 16 rfl rfl)
theorem dL_law_241 : decode cL_law 241 = .ok (.iconst 2, 1) := dk_5 (dk_at dksL_law_4 17 rfl rfl)
theorem dL_law_242 : decode cL_law 242 = .ok (.iadd, 1) := dk_96 (dk_at dksL_law_4 18 rfl rfl)
theorem dL_law_243 : decode cL_law 243 = .ok (.iaload, 1) := dk_46 (dk_at dksL_law_4 19 rfl rfl)
theorem dL_law_244 : decode cL_law 244 = .ok (.invokevirtual 18, 3) := dk_182 0 18 (dk_at dksL_law_4 20 rfl rfl)
theorem dL_law_247 : decode cL_law 247 = .ok (.aload_n 2, 1) := dk_44 (dk_at dksL_law_4 23 rfl rfl)
theorem dL_law_248 : decode cL_law 248 = .ok (.aload_n 0, 1) := dk_42 (dk_at dksL_law_5 0 rfl rfl)
theorem dL_law_249 : decode cL_law 249 = .ok (.iload_n 3, 1) := dk_29 (dk_at dksL_law_5 1 rfl rfl)
theorem dL_law_250 : decode cL_law 250 = .ok (.iconst 1, 1) := dk_4 (dk_at dksL_law_5 2 rfl rfl)
theorem dL_law_251 : decode cL_law 251 = .ok (.iadd, 1) := dk_96 (dk_at dksL_law_5 3 rfl rfl)
theorem dL_law_252 : decode cL_law 252 = .ok (.iaload, 1) := dk_46 (dk_at dksL_law_5 4 rfl rfl)
theorem dL_law_253 : decode cL_law 253 = .ok (.aload_n 0, 1) := dk_42 (dk_at dksL_law_5 5 rfl rfl)
theorem dL_law_254 : decode cL_law 254 = .ok (.iload_n 3, 1) := dk_29 (dk_at dksL_law_5 6 rfl rfl)
theorem dL_law_255 : decode cL_law 255 = .ok (.iconst 2, 1) := dk_5 (dk_at dksL_law_5 7 rfl rfl)
theorem dL_law_256 : decode cL_law 256 = .ok (.iadd, 1) := dk_96 (dk_at dksL_law_5 8 rfl rfl)
theorem dL_law_257 : decode cL_law 257 = .ok (.iaload, 1) := dk_46 (dk_at dksL_law_5 9 rfl rfl)
theorem dL_law_258 : decode cL_law 258 = .ok (.invokevirtual 21, 3) := dk_182 0 21 (dk_at dksL_law_5 10 rfl rfl)
theorem dL_law_261 : decode cL_law 261 = .ok (.if_icmp .eq 943, 3) := dk_159 3 175 (dk_at dksL_law_5 13 rfl rfl)
theorem dL_law_264 : decode cL_law 264 = .ok (.iconst 0, 1) := dk_3 (dk_at dksL_law_5 16 rfl rfl)
theorem dL_law_265 : decode cL_law 265 = .ok (.ireturn, 1) := dk_172 (dk_at dksL_law_5 17 rfl rfl)
theorem dL_law_266 : decode cL_law 266 = .ok (.aload_n 1, 1) := dk_43 (dk_at dksL_law_5 18 rfl rfl)
theorem dL_law_267 : decode cL_law 267 = .ok (.aload_n 0, 1) := dk_42 (dk_at dksL_law_5 19 rfl rfl)
theorem dL_law_268 : decode cL_law 268 = .ok (.iload_n 3, 1) := dk_29 (dk_at dksL_law_5 20 rfl rfl)
theorem dL_law_269 : decode cL_law 269 = .ok (.iconst 1, 1) := dk_4 (dk_at dksL_law_5 21 rfl rfl)
theorem dL_law_270 : decode cL_law 270 = .ok (.iadd, 1) := dk_96 (dk_at dksL_law_5 22 rfl rfl)
theorem dL_law_271 : decode cL_law 271 = .ok (.iaload, 1) := dk_46 (dk_at dksL_law_5 23 rfl rfl)
theorem dL_law_272 : decode cL_law 272 = .ok (.invokevirtual 22, 3) := dk_182 0 22 (dk_at dksL_law_6 0 rfl rfl)
theorem dL_law_275 : decode cL_law 275 = .ok (.aload_n 2, 1) := dk_44 (dk_at dksL_law_6 3 rfl rfl)
theorem dL_law_276 : decode cL_law 276 = .ok (.aload_n 0, 1) := dk_42 (dk_at dksL_law_6 4 rfl rfl)
theorem dL_law_277 : decode cL_law 277 = .ok (.iload_n 3, 1) := dk_29 (dk_at dksL_law_6 5 rfl rfl)
theorem dL_law_278 : decode cL_law 278 = .ok (.iconst 1, 1) := dk_4 (dk_at dksL_law_6 6 rfl rfl)
theorem dL_law_279 : decode cL_law 279 = .ok (.iadd, 1) := dk_96 (dk_at dksL_law_6 7 rfl rfl)
theorem dL_law_280 : decode cL_law 280 = .ok (.iaload, 1) := dk_46 (dk_at dksL_law_6 8 rfl rfl)
theorem dL_law_281 : decode cL_law 281 = .ok (.invokevirtual 26, 3) := dk_182 0 26 (dk_at dksL_law_6 9 rfl rfl)
theorem dL_law_284 : decode cL_law 284 = .ok (.if_icmp .eq 920, 3) := dk_159 3 152 (dk_at dksL_law_6 12 rfl rfl)
theorem dL_law_287 : decode cL_law 287 = .ok (.iconst 0, 1) := dk_3 (dk_at dksL_law_6 15 rfl rfl)
theorem dL_law_288 : decode cL_law 288 = .ok (.ireturn, 1) := dk_172 (dk_at dksL_law_6 16 rfl rfl)
theorem dL_law_289 : decode cL_law 289 = .ok (.aload_n 1, 1) := dk_43 (dk_at dksL_law_6 17 rfl rfl)
theorem dL_law_290 : decode cL_law 290 = .ok (.invokevirtual 27, 3) := dk_182 0 27 (dk_at dksL_law_6 18 rfl rfl)
theorem dL_law_293 : decode cL_law 293 = .ok (.aload_n 2, 1) := dk_44 (dk_at dksL_law_6 21 rfl rfl)
theorem dL_law_294 : decode cL_law 294 = .ok (.invokevirtual 31, 3) := dk_182 0 31 (dk_at dksL_law_7 0 rfl rfl)
theorem dL_law_297 : decode cL_law 297 = .ok (.if_icmp .eq 907, 3) := dk_159 3 139 (dk_at dksL_law_7 3 rfl rfl)
theorem dL_law_300 : decode cL_law 300 = .ok (.iconst 0, 1) := dk_3 (dk_at dksL_law_7 6 rfl rfl)
theorem dL_law_301 : decode cL_law 301 = .ok (.ireturn, 1) := dk_172 (dk_at dksL_law_7 7 rfl rfl)
theorem dL_law_302 : decode cL_law 302 = .ok (.aload_n 1, 1) := dk_43 (dk_at dksL_law_7 8 rfl rfl)
theorem dL_law_303 : decode cL_law 303 = .ok (.invokevirtual 32, 3) := dk_182 0 32 (dk_at dksL_law_7 9 rfl rfl)
theorem dL_law_306 : decode cL_law 306 = .ok (.aload_n 2, 1) := dk_44 (dk_at dksL_law_7 12 rfl rfl)
theorem dL_law_307 : decode cL_law 307 = .ok (.invokevirtual 35, 3) := dk_182 0 35 (dk_at dksL_law_7 13 rfl rfl)
theorem dL_law_310 : decode cL_law 310 = .ok (.if_icmp .eq 894, 3) := dk_159 3 126 (dk_at dksL_law_7 16 rfl rfl)
theorem dL_law_313 : decode cL_law 313 = .ok (.iconst 0, 1) := dk_3 (dk_at dksL_law_7 19 rfl rfl)
theorem dL_law_314 : decode cL_law 314 = .ok (.ireturn, 1) := dk_172 (dk_at dksL_law_7 20 rfl rfl)
theorem dL_law_315 : decode cL_law 315 = .ok (.aload_n 1, 1) := dk_43 (dk_at dksL_law_7 21 rfl rfl)
theorem dL_law_316 : decode cL_law 316 = .ok (.aload_n 0, 1) := dk_42 (dk_at dksL_law_7 22 rfl rfl)
theorem dL_law_317 : decode cL_law 317 = .ok (.iload_n 3, 1) := dk_29 (dk_at dksL_law_7 23 rfl rfl)
theorem dL_law_318 : decode cL_law 318 = .ok (.iconst 1, 1) := dk_4 (dk_at dksL_law_8 0 rfl rfl)
theorem dL_law_319 : decode cL_law 319 = .ok (.iadd, 1) := dk_96 (dk_at dksL_law_8 1 rfl rfl)
theorem dL_law_320 : decode cL_law 320 = .ok (.iaload, 1) := dk_46 (dk_at dksL_law_8 2 rfl rfl)
theorem dL_law_321 : decode cL_law 321 = .ok (.aload_n 0, 1) := dk_42 (dk_at dksL_law_8 3 rfl rfl)
theorem dL_law_322 : decode cL_law 322 = .ok (.iload_n 3, 1) := dk_29 (dk_at dksL_law_8 4 rfl rfl)
theorem dL_law_323 : decode cL_law 323 = .ok (.iconst 2, 1) := dk_5 (dk_at dksL_law_8 5 rfl rfl)
theorem dL_law_324 : decode cL_law 324 = .ok (.iadd, 1) := dk_96 (dk_at dksL_law_8 6 rfl rfl)
theorem dL_law_325 : decode cL_law 325 = .ok (.iaload, 1) := dk_46 (dk_at dksL_law_8 7 rfl rfl)
theorem dL_law_326 : decode cL_law 326 = .ok (.invokevirtual 36, 3) := dk_182 0 36 (dk_at dksL_law_8 8 rfl rfl)
theorem dL_law_329 : decode cL_law 329 = .ok (.aload_n 2, 1) := dk_44 (dk_at dksL_law_8 11 rfl rfl)
theorem dL_law_330 : decode cL_law 330 = .ok (.aload_n 0, 1) := dk_42 (dk_at dksL_law_8 12 rfl rfl)
theorem dL_law_331 : decode cL_law 331 = .ok (.iload_n 3, 1) := dk_29 (dk_at dksL_law_8 13 rfl rfl)
theorem dL_law_332 : decode cL_law 332 = .ok (.iconst 1, 1) := dk_4 (dk_at dksL_law_8 14 rfl rfl)
theorem dL_law_333 : decode cL_law 333 = .ok (.iadd, 1) := dk_96 (dk_at dksL_law_8 15 rfl rfl)
theorem dL_law_334 : decode cL_law 334 = .ok (.iaload, 1) := dk_46 (dk_at dksL_law_8 16 rfl rfl)
theorem dL_law_335 : decode cL_law 335 = .ok (.aload_n 0, 1) := dk_42 (dk_at dksL_law_8 17 rfl rfl)
theorem dL_law_336 : decode cL_law 336 = .ok (.iload_n 3, 1) := dk_29 (dk_at dksL_law_8 18 rfl rfl)
theorem dL_law_337 : decode cL_law 337 = .ok (.iconst 2, 1) := dk_5 (dk_at dksL_law_8 19 rfl rfl)
theorem dL_law_338 : decode cL_law 338 = .ok (.iadd, 1) := dk_96 (dk_at dksL_law_8 20 rfl rfl)
theorem dL_law_339 : decode cL_law 339 = .ok (.iaload, 1) := dk_46 (dk_at dksL_law_8 21 rfl rfl)
theorem dL_law_340 : decode cL_law 340 = .ok (.invokevirtual 39, 3) := dk_182 0 39 (dk_at dksL_law_9 0 rfl rfl)
theorem dL_law_343 : decode cL_law 343 = .ok (.if_icmp .eq 861, 3) := dk_159 3 93 (dk_at dksL_law_9 3 rfl rfl)
theorem dL_law_346 : decode cL_law 346 = .ok (.iconst 0, 1) := dk_3 (dk_at dksL_law_9 6 rfl rfl)
theorem dL_law_347 : decode cL_law 347 = .ok (.ireturn, 1) := dk_172 (dk_at dksL_law_9 7 rfl rfl)
theorem dL_law_348 : decode cL_law 348 = .ok (.aload_n 1, 1) := dk_43 (dk_at dksL_law_9 8 rfl rfl)
theorem dL_law_349 : decode cL_law 349 = .ok (.invokevirtual 40, 3) := dk_182 0 40 (dk_at dksL_law_9 9 rfl rfl)
theorem dL_law_352 : decode cL_law 352 = .ok (.aload_n 2, 1) := dk_44 (dk_at dksL_law_9 12 rfl rfl)
theorem dL_law_353 : decode cL_law 353 = .ok (.invokevirtual 43, 3) := dk_182 0 43 (dk_at dksL_law_9 13 rfl rfl)
theorem dL_law_356 : decode cL_law 356 = .ok (.if_icmp .eq 848, 3) := dk_159 3 80 (dk_at dksL_law_9 16 rfl rfl)
theorem dL_law_359 : decode cL_law 359 = .ok (.iconst 0, 1) := dk_3 (dk_at dksL_law_9 19 rfl rfl)
theorem dL_law_360 : decode cL_law 360 = .ok (.ireturn, 1) := dk_172 (dk_at dksL_law_9 20 rfl rfl)
theorem dL_law_361 : decode cL_law 361 = .ok (.aload_n 1, 1) := dk_43 (dk_at dksL_law_9 21 rfl rfl)
theorem dL_law_362 : decode cL_law 362 = .ok (.aload_n 0, 1) := dk_42 (dk_at dksL_law_9 22 rfl rfl)
theorem dL_law_363 : decode cL_law 363 = .ok (.iload_n 3, 1) := dk_29 (dk_at dksL_law_9 23 rfl rfl)
theorem dL_law_364 : decode cL_law 364 = .ok (.iconst 1, 1) := dk_4 (dk_at dksL_law_10 0 rfl rfl)
theorem dL_law_365 : decode cL_law 365 = .ok (.iadd, 1) := dk_96 (dk_at dksL_law_10 1 rfl rfl)
theorem dL_law_366 : decode cL_law 366 = .ok (.iaload, 1) := dk_46 (dk_at dksL_law_10 2 rfl rfl)
theorem dL_law_367 : decode cL_law 367 = .ok (.aload_n 0, 1) := dk_42 (dk_at dksL_law_10 3 rfl rfl)
theorem dL_law_368 : decode cL_law 368 = .ok (.iload_n 3, 1) := dk_29 (dk_at dksL_law_10 4 rfl rfl)
theorem dL_law_369 : decode cL_law 369 = .ok (.iconst 2, 1) := dk_5 (dk_at dksL_law_10 5 rfl rfl)
theorem dL_law_370 : decode cL_law 370 = .ok (.iadd, 1) := dk_96 (dk_at dksL_law_10 6 rfl rfl)
theorem dL_law_371 : decode cL_law 371 = .ok (.iaload, 1) := dk_46 (dk_at dksL_law_10 7 rfl rfl)
theorem dL_law_372 : decode cL_law 372 = .ok (.invokevirtual 44, 3) := dk_182 0 44 (dk_at dksL_law_10 8 rfl rfl)
theorem dL_law_375 : decode cL_law 375 = .ok (.aload_n 2, 1) := dk_44 (dk_at dksL_law_10 11 rfl rfl)
theorem dL_law_376 : decode cL_law 376 = .ok (.aload_n 0, 1) := dk_42 (dk_at dksL_law_10 12 rfl rfl)
theorem dL_law_377 : decode cL_law 377 = .ok (.iload_n 3, 1) := dk_29 (dk_at dksL_law_10 13 rfl rfl)
theorem dL_law_378 : decode cL_law 378 = .ok (.iconst 1, 1) := dk_4 (dk_at dksL_law_10 14 rfl rfl)
theorem dL_law_379 : decode cL_law 379 = .ok (.iadd, 1) := dk_96 (dk_at dksL_law_10 15 rfl rfl)
theorem dL_law_380 : decode cL_law 380 = .ok (.iaload, 1) := dk_46 (dk_at dksL_law_10 16 rfl rfl)
theorem dL_law_381 : decode cL_law 381 = .ok (.aload_n 0, 1) := dk_42 (dk_at dksL_law_10 17 rfl rfl)
theorem dL_law_382 : decode cL_law 382 = .ok (.iload_n 3, 1) := dk_29 (dk_at dksL_law_10 18 rfl rfl)
theorem dL_law_383 : decode cL_law 383 = .ok (.iconst 2, 1) := dk_5 (dk_at dksL_law_10 19 rfl rfl)
theorem dL_law_384 : decode cL_law 384 = .ok (.iadd, 1) := dk_96 (dk_at dksL_law_10 20 rfl rfl)
theorem dL_law_385 : decode cL_law 385 = .ok (.iaload, 1) := dk_46 (dk_at dksL_law_10 21 rfl rfl)
theorem dL_law_386 : decode cL_law 386 = .ok (.invokevirtual 47, 3) := dk_182 0 47 (dk_at dksL_law_11 0 rfl rfl)
theorem dL_law_389 : decode cL_law 389 = .ok (.if_icmp .eq 815, 3) := dk_159 3 47 (dk_at dksL_law_11 3 rfl rfl)
theorem dL_law_392 : decode cL_law 392 = .ok (.iconst 0, 1) := dk_3 (dk_at dksL_law_11 6 rfl rfl)
theorem dL_law_393 : decode cL_law 393 = .ok (.ireturn, 1) := dk_172 (dk_at dksL_law_11 7 rfl rfl)
theorem dL_law_394 : decode cL_law 394 = .ok (.aload_n 1, 1) := dk_43 (dk_at dksL_law_11 8 rfl rfl)
theorem dL_law_395 : decode cL_law 395 = .ok (.aload_n 0, 1) := dk_42 (dk_at dksL_law_11 9 rfl rfl)
theorem dL_law_396 : decode cL_law 396 = .ok (.iload_n 3, 1) := dk_29 (dk_at dksL_law_11 10 rfl rfl)
theorem dL_law_397 : decode cL_law 397 = .ok (.iconst 1, 1) := dk_4 (dk_at dksL_law_11 11 rfl rfl)
theorem dL_law_398 : decode cL_law 398 = .ok (.iadd, 1) := dk_96 (dk_at dksL_law_11 12 rfl rfl)
theorem dL_law_399 : decode cL_law 399 = .ok (.iaload, 1) := dk_46 (dk_at dksL_law_11 13 rfl rfl)
theorem dL_law_400 : decode cL_law 400 = .ok (.aload_n 0, 1) := dk_42 (dk_at dksL_law_11 14 rfl rfl)
theorem dL_law_401 : decode cL_law 401 = .ok (.iload_n 3, 1) := dk_29 (dk_at dksL_law_11 15 rfl rfl)
theorem dL_law_402 : decode cL_law 402 = .ok (.iconst 2, 1) := dk_5 (dk_at dksL_law_11 16 rfl rfl)
theorem dL_law_403 : decode cL_law 403 = .ok (.iadd, 1) := dk_96 (dk_at dksL_law_11 17 rfl rfl)
theorem dL_law_404 : decode cL_law 404 = .ok (.iaload, 1) := dk_46 (dk_at dksL_law_11 18 rfl rfl)
theorem dL_law_405 : decode cL_law 405 = .ok (.invokevirtual 48, 3) := dk_182 0 48 (dk_at dksL_law_11 19 rfl rfl)
theorem dL_law_408 : decode cL_law 408 = .ok (.aload_n 2, 1) := dk_44 (dk_at dksL_law_11 22 rfl rfl)
theorem dL_law_409 : decode cL_law 409 = .ok (.aload_n 0, 1) := dk_42 (dk_at dksL_law_11 23 rfl rfl)
theorem dL_law_410 : decode cL_law 410 = .ok (.iload_n 3, 1) := dk_29 (dk_at dksL_law_12 0 rfl rfl)
theorem dL_law_411 : decode cL_law 411 = .ok (.iconst 1, 1) := dk_4 (dk_at dksL_law_12 1 rfl rfl)
theorem dL_law_412 : decode cL_law 412 = .ok (.iadd, 1) := dk_96 (dk_at dksL_law_12 2 rfl rfl)
theorem dL_law_413 : decode cL_law 413 = .ok (.iaload, 1) := dk_46 (dk_at dksL_law_12 3 rfl rfl)
theorem dL_law_414 : decode cL_law 414 = .ok (.aload_n 0, 1) := dk_42 (dk_at dksL_law_12 4 rfl rfl)
theorem dL_law_415 : decode cL_law 415 = .ok (.iload_n 3, 1) := dk_29 (dk_at dksL_law_12 5 rfl rfl)
theorem dL_law_416 : decode cL_law 416 = .ok (.iconst 2, 1) := dk_5 (dk_at dksL_law_12 6 rfl rfl)
theorem dL_law_417 : decode cL_law 417 = .ok (.iadd, 1) := dk_96 (dk_at dksL_law_12 7 rfl rfl)
theorem dL_law_418 : decode cL_law 418 = .ok (.iaload, 1) := dk_46 (dk_at dksL_law_12 8 rfl rfl)
theorem dL_law_419 : decode cL_law 419 = .ok (.invokevirtual 51, 3) := dk_182 0 51 (dk_at dksL_law_12 9 rfl rfl)
theorem dL_law_422 : decode cL_law 422 = .ok (.if_icmp .eq 782, 3) := dk_159 3 14 (dk_at dksL_law_12 12 rfl rfl)
theorem dL_law_425 : decode cL_law 425 = .ok (.iconst 0, 1) := dk_3 (dk_at dksL_law_12 15 rfl rfl)
theorem dL_law_426 : decode cL_law 426 = .ok (.ireturn, 1) := dk_172 (dk_at dksL_law_12 16 rfl rfl)
theorem dL_law_427 : decode cL_law 427 = .ok (.aload_n 1, 1) := dk_43 (dk_at dksL_law_12 17 rfl rfl)
theorem dL_law_428 : decode cL_law 428 = .ok (.aload_n 0, 1) := dk_42 (dk_at dksL_law_12 18 rfl rfl)
theorem dL_law_429 : decode cL_law 429 = .ok (.iload_n 3, 1) := dk_29 (dk_at dksL_law_12 19 rfl rfl)
theorem dL_law_430 : decode cL_law 430 = .ok (.iconst 1, 1) := dk_4 (dk_at dksL_law_12 20 rfl rfl)
theorem dL_law_431 : decode cL_law 431 = .ok (.iadd, 1) := dk_96 (dk_at dksL_law_12 21 rfl rfl)
theorem dL_law_432 : decode cL_law 432 = .ok (.iaload, 1) := dk_46 (dk_at dksL_law_12 22 rfl rfl)
theorem dL_law_433 : decode cL_law 433 = .ok (.aload_n 0, 1) := dk_42 (dk_at dksL_law_12 23 rfl rfl)
theorem dL_law_434 : decode cL_law 434 = .ok (.iload_n 3, 1) := dk_29 (dk_at dksL_law_13 0 rfl rfl)
theorem dL_law_435 : decode cL_law 435 = .ok (.iconst 2, 1) := dk_5 (dk_at dksL_law_13 1 rfl rfl)
theorem dL_law_436 : decode cL_law 436 = .ok (.iadd, 1) := dk_96 (dk_at dksL_law_13 2 rfl rfl)
theorem dL_law_437 : decode cL_law 437 = .ok (.iaload, 1) := dk_46 (dk_at dksL_law_13 3 rfl rfl)
theorem dL_law_438 : decode cL_law 438 = .ok (.invokevirtual 52, 3) := dk_182 0 52 (dk_at dksL_law_13 4 rfl rfl)
theorem dL_law_441 : decode cL_law 441 = .ok (.aload_n 2, 1) := dk_44 (dk_at dksL_law_13 7 rfl rfl)
theorem dL_law_442 : decode cL_law 442 = .ok (.aload_n 0, 1) := dk_42 (dk_at dksL_law_13 8 rfl rfl)
theorem dL_law_443 : decode cL_law 443 = .ok (.iload_n 3, 1) := dk_29 (dk_at dksL_law_13 9 rfl rfl)
theorem dL_law_444 : decode cL_law 444 = .ok (.iconst 1, 1) := dk_4 (dk_at dksL_law_13 10 rfl rfl)
theorem dL_law_445 : decode cL_law 445 = .ok (.iadd, 1) := dk_96 (dk_at dksL_law_13 11 rfl rfl)
theorem dL_law_446 : decode cL_law 446 = .ok (.iaload, 1) := dk_46 (dk_at dksL_law_13 12 rfl rfl)
theorem dL_law_447 : decode cL_law 447 = .ok (.aload_n 0, 1) := dk_42 (dk_at dksL_law_13 13 rfl rfl)
theorem dL_law_448 : decode cL_law 448 = .ok (.iload_n 3, 1) := dk_29 (dk_at dksL_law_13 14 rfl rfl)
theorem dL_law_449 : decode cL_law 449 = .ok (.iconst 2, 1) := dk_5 (dk_at dksL_law_13 15 rfl rfl)
theorem dL_law_450 : decode cL_law 450 = .ok (.iadd, 1) := dk_96 (dk_at dksL_law_13 16 rfl rfl)
theorem dL_law_451 : decode cL_law 451 = .ok (.iaload, 1) := dk_46 (dk_at dksL_law_13 17 rfl rfl)
theorem dL_law_452 : decode cL_law 452 = .ok (.invokevirtual 55, 3) := dk_182 0 55 (dk_at dksL_law_13 18 rfl rfl)
theorem dL_law_455 : decode cL_law 455 = .ok (.if_icmp .eq 749, 3) := dk_159 2 237 (dk_at dksL_law_13 21 rfl rfl)
theorem dL_law_458 : decode cL_law 458 = .ok (.iconst 0, 1) := dk_3 (dk_at dksL_law_14 0 rfl rfl)
theorem dL_law_459 : decode cL_law 459 = .ok (.ireturn, 1) := dk_172 (dk_at dksL_law_14 1 rfl rfl)
theorem dL_law_460 : decode cL_law 460 = .ok (.aload_n 1, 1) := dk_43 (dk_at dksL_law_14 2 rfl rfl)
theorem dL_law_461 : decode cL_law 461 = .ok (.aload_n 0, 1) := dk_42 (dk_at dksL_law_14 3 rfl rfl)
theorem dL_law_462 : decode cL_law 462 = .ok (.iload_n 3, 1) := dk_29 (dk_at dksL_law_14 4 rfl rfl)
theorem dL_law_463 : decode cL_law 463 = .ok (.iconst 1, 1) := dk_4 (dk_at dksL_law_14 5 rfl rfl)
theorem dL_law_464 : decode cL_law 464 = .ok (.iadd, 1) := dk_96 (dk_at dksL_law_14 6 rfl rfl)
theorem dL_law_465 : decode cL_law 465 = .ok (.iaload, 1) := dk_46 (dk_at dksL_law_14 7 rfl rfl)
theorem dL_law_466 : decode cL_law 466 = .ok (.aload_n 0, 1) := dk_42 (dk_at dksL_law_14 8 rfl rfl)
theorem dL_law_467 : decode cL_law 467 = .ok (.iload_n 3, 1) := dk_29 (dk_at dksL_law_14 9 rfl rfl)
theorem dL_law_468 : decode cL_law 468 = .ok (.iconst 2, 1) := dk_5 (dk_at dksL_law_14 10 rfl rfl)
theorem dL_law_469 : decode cL_law 469 = .ok (.iadd, 1) := dk_96 (dk_at dksL_law_14 11 rfl rfl)
theorem dL_law_470 : decode cL_law 470 = .ok (.iaload, 1) := dk_46 (dk_at dksL_law_14 12 rfl rfl)
theorem dL_law_471 : decode cL_law 471 = .ok (.invokevirtual 56, 3) := dk_182 0 56 (dk_at dksL_law_14 13 rfl rfl)
theorem dL_law_474 : decode cL_law 474 = .ok (.aload_n 2, 1) := dk_44 (dk_at dksL_law_14 16 rfl rfl)
theorem dL_law_475 : decode cL_law 475 = .ok (.aload_n 0, 1) := dk_42 (dk_at dksL_law_14 17 rfl rfl)
theorem dL_law_476 : decode cL_law 476 = .ok (.iload_n 3, 1) := dk_29 (dk_at dksL_law_14 18 rfl rfl)
theorem dL_law_477 : decode cL_law 477 = .ok (.iconst 1, 1) := dk_4 (dk_at dksL_law_14 19 rfl rfl)
theorem dL_law_478 : decode cL_law 478 = .ok (.iadd, 1) := dk_96 (dk_at dksL_law_14 20 rfl rfl)
theorem dL_law_479 : decode cL_law 479 = .ok (.iaload, 1) := dk_46 (dk_at dksL_law_14 21 rfl rfl)
theorem dL_law_480 : decode cL_law 480 = .ok (.aload_n 0, 1) := dk_42 (dk_at dksL_law_14 22 rfl rfl)
theorem dL_law_481 : decode cL_law 481 = .ok (.iload_n 3, 1) := dk_29 (dk_at dksL_law_14 23 rfl rfl)
theorem dL_law_482 : decode cL_law 482 = .ok (.iconst 2, 1) := dk_5 (dk_at dksL_law_15 0 rfl rfl)
theorem dL_law_483 : decode cL_law 483 = .ok (.iadd, 1) := dk_96 (dk_at dksL_law_15 1 rfl rfl)
theorem dL_law_484 : decode cL_law 484 = .ok (.iaload, 1) := dk_46 (dk_at dksL_law_15 2 rfl rfl)
theorem dL_law_485 : decode cL_law 485 = .ok (.invokevirtual 59, 3) := dk_182 0 59 (dk_at dksL_law_15 3 rfl rfl)
theorem dL_law_488 : decode cL_law 488 = .ok (.if_icmp .eq 716, 3) := dk_159 2 204 (dk_at dksL_law_15 6 rfl rfl)
theorem dL_law_491 : decode cL_law 491 = .ok (.iconst 0, 1) := dk_3 (dk_at dksL_law_15 9 rfl rfl)
theorem dL_law_492 : decode cL_law 492 = .ok (.ireturn, 1) := dk_172 (dk_at dksL_law_15 10 rfl rfl)
theorem dL_law_493 : decode cL_law 493 = .ok (.aload_n 1, 1) := dk_43 (dk_at dksL_law_15 11 rfl rfl)
theorem dL_law_494 : decode cL_law 494 = .ok (.invokevirtual 60, 3) := dk_182 0 60 (dk_at dksL_law_15 12 rfl rfl)
theorem dL_law_497 : decode cL_law 497 = .ok (.aload_n 2, 1) := dk_44 (dk_at dksL_law_15 15 rfl rfl)
theorem dL_law_498 : decode cL_law 498 = .ok (.invokevirtual 63, 3) := dk_182 0 63 (dk_at dksL_law_15 16 rfl rfl)
theorem dL_law_501 : decode cL_law 501 = .ok (.if_icmp .eq 703, 3) := dk_159 2 191 (dk_at dksL_law_15 19 rfl rfl)
theorem dL_law_504 : decode cL_law 504 = .ok (.iconst 0, 1) := dk_3 (dk_at dksL_law_15 22 rfl rfl)
theorem dL_law_505 : decode cL_law 505 = .ok (.ireturn, 1) := dk_172 (dk_at dksL_law_15 23 rfl rfl)
theorem dL_law_506 : decode cL_law 506 = .ok (.aload_n 1, 1) := dk_43 (dk_at dksL_law_16 0 rfl rfl)
theorem dL_law_507 : decode cL_law 507 = .ok (.aload_n 0, 1) := dk_42 (dk_at dksL_law_16 1 rfl rfl)
theorem dL_law_508 : decode cL_law 508 = .ok (.iload_n 3, 1) := dk_29 (dk_at dksL_law_16 2 rfl rfl)
theorem dL_law_509 : decode cL_law 509 = .ok (.iconst 1, 1) := dk_4 (dk_at dksL_law_16 3 rfl rfl)
theorem dL_law_510 : decode cL_law 510 = .ok (.iadd, 1) := dk_96 (dk_at dksL_law_16 4 rfl rfl)
theorem dL_law_511 : decode cL_law 511 = .ok (.iaload, 1) := dk_46 (dk_at dksL_law_16 5 rfl rfl)
theorem dL_law_512 : decode cL_law 512 = .ok (.aload_n 0, 1) := dk_42 (dk_at dksL_law_16 6 rfl rfl)
theorem dL_law_513 : decode cL_law 513 = .ok (.iload_n 3, 1) := dk_29 (dk_at dksL_law_16 7 rfl rfl)
theorem dL_law_514 : decode cL_law 514 = .ok (.iconst 2, 1) := dk_5 (dk_at dksL_law_16 8 rfl rfl)
theorem dL_law_515 : decode cL_law 515 = .ok (.iadd, 1) := dk_96 (dk_at dksL_law_16 9 rfl rfl)
theorem dL_law_516 : decode cL_law 516 = .ok (.iaload, 1) := dk_46 (dk_at dksL_law_16 10 rfl rfl)
theorem dL_law_517 : decode cL_law 517 = .ok (.invokevirtual 64, 3) := dk_182 0 64 (dk_at dksL_law_16 11 rfl rfl)
theorem dL_law_520 : decode cL_law 520 = .ok (.aload_n 2, 1) := dk_44 (dk_at dksL_law_16 14 rfl rfl)
theorem dL_law_521 : decode cL_law 521 = .ok (.aload_n 0, 1) := dk_42 (dk_at dksL_law_16 15 rfl rfl)
theorem dL_law_522 : decode cL_law 522 = .ok (.iload_n 3, 1) := dk_29 (dk_at dksL_law_16 16 rfl rfl)
theorem dL_law_523 : decode cL_law 523 = .ok (.iconst 1, 1) := dk_4 (dk_at dksL_law_16 17 rfl rfl)
theorem dL_law_524 : decode cL_law 524 = .ok (.iadd, 1) := dk_96 (dk_at dksL_law_16 18 rfl rfl)
theorem dL_law_525 : decode cL_law 525 = .ok (.iaload, 1) := dk_46 (dk_at dksL_law_16 19 rfl rfl)
theorem dL_law_526 : decode cL_law 526 = .ok (.aload_n 0, 1) := dk_42 (dk_at dksL_law_16 20 rfl rfl)
theorem dL_law_527 : decode cL_law 527 = .ok (.iload_n 3, 1) := dk_29 (dk_at dksL_law_16 21 rfl rfl)
theorem dL_law_528 : decode cL_law 528 = .ok (.iconst 2, 1) := dk_5 (dk_at dksL_law_16 22 rfl rfl)
theorem dL_law_529 : decode cL_law 529 = .ok (.iadd, 1) := dk_96 (dk_at dksL_law_16 23 rfl rfl)
theorem dL_law_530 : decode cL_law 530 = .ok (.iaload, 1) := dk_46 (dk_at dksL_law_17 0 rfl rfl)
theorem dL_law_531 : decode cL_law 531 = .ok (.invokevirtual 67, 3) := dk_182 0 67 (dk_at dksL_law_17 1 rfl rfl)
theorem dL_law_534 : decode cL_law 534 = .ok (.if_icmp .eq 670, 3) := dk_159 2 158 (dk_at dksL_law_17 4 rfl rfl)
theorem dL_law_537 : decode cL_law 537 = .ok (.iconst 0, 1) := dk_3 (dk_at dksL_law_17 7 rfl rfl)
theorem dL_law_538 : decode cL_law 538 = .ok (.ireturn, 1) := dk_172 (dk_at dksL_law_17 8 rfl rfl)
theorem dL_law_539 : decode cL_law 539 = .ok (.aload_n 1, 1) := dk_43 (dk_at dksL_law_17 9 rfl rfl)
theorem dL_law_540 : decode cL_law 540 = .ok (.aload_n 0, 1) := dk_42 (dk_at dksL_law_17 10 rfl rfl)
theorem dL_law_541 : decode cL_law 541 = .ok (.iload_n 3, 1) := dk_29 (dk_at dksL_law_17 11 rfl rfl)
theorem dL_law_542 : decode cL_law 542 = .ok (.iconst 1, 1) := dk_4 (dk_at dksL_law_17 12 rfl rfl)
theorem dL_law_543 : decode cL_law 543 = .ok (.iadd, 1) := dk_96 (dk_at dksL_law_17 13 rfl rfl)
theorem dL_law_544 : decode cL_law 544 = .ok (.iaload, 1) := dk_46 (dk_at dksL_law_17 14 rfl rfl)
theorem dL_law_545 : decode cL_law 545 = .ok (.aload_n 0, 1) := dk_42 (dk_at dksL_law_17 15 rfl rfl)
theorem dL_law_546 : decode cL_law 546 = .ok (.iload_n 3, 1) := dk_29 (dk_at dksL_law_17 16 rfl rfl)
theorem dL_law_547 : decode cL_law 547 = .ok (.iconst 2, 1) := dk_5 (dk_at dksL_law_17 17 rfl rfl)
theorem dL_law_548 : decode cL_law 548 = .ok (.iadd, 1) := dk_96 (dk_at dksL_law_17 18 rfl rfl)
theorem dL_law_549 : decode cL_law 549 = .ok (.iaload, 1) := dk_46 (dk_at dksL_law_17 19 rfl rfl)
theorem dL_law_550 : decode cL_law 550 = .ok (.invokevirtual 68, 3) := dk_182 0 68 (dk_at dksL_law_17 20 rfl rfl)
theorem dL_law_553 : decode cL_law 553 = .ok (.aload_n 2, 1) := dk_44 (dk_at dksL_law_17 23 rfl rfl)
theorem dL_law_554 : decode cL_law 554 = .ok (.aload_n 0, 1) := dk_42 (dk_at dksL_law_18 0 rfl rfl)
theorem dL_law_555 : decode cL_law 555 = .ok (.iload_n 3, 1) := dk_29 (dk_at dksL_law_18 1 rfl rfl)
theorem dL_law_556 : decode cL_law 556 = .ok (.iconst 1, 1) := dk_4 (dk_at dksL_law_18 2 rfl rfl)
theorem dL_law_557 : decode cL_law 557 = .ok (.iadd, 1) := dk_96 (dk_at dksL_law_18 3 rfl rfl)
theorem dL_law_558 : decode cL_law 558 = .ok (.iaload, 1) := dk_46 (dk_at dksL_law_18 4 rfl rfl)
theorem dL_law_559 : decode cL_law 559 = .ok (.aload_n 0, 1) := dk_42 (dk_at dksL_law_18 5 rfl rfl)
theorem dL_law_560 : decode cL_law 560 = .ok (.iload_n 3, 1) := dk_29 (dk_at dksL_law_18 6 rfl rfl)
theorem dL_law_561 : decode cL_law 561 = .ok (.iconst 2, 1) := dk_5 (dk_at dksL_law_18 7 rfl rfl)
theorem dL_law_562 : decode cL_law 562 = .ok (.iadd, 1) := dk_96 (dk_at dksL_law_18 8 rfl rfl)
theorem dL_law_563 : decode cL_law 563 = .ok (.iaload, 1) := dk_46 (dk_at dksL_law_18 9 rfl rfl)
theorem dL_law_564 : decode cL_law 564 = .ok (.invokevirtual 71, 3) := dk_182 0 71 (dk_at dksL_law_18 10 rfl rfl)
theorem dL_law_567 : decode cL_law 567 = .ok (.if_icmp .eq 637, 3) := dk_159 2 125 (dk_at dksL_law_18 13 rfl rfl)
theorem dL_law_570 : decode cL_law 570 = .ok (.iconst 0, 1) := dk_3 (dk_at dksL_law_18 16 rfl rfl)
theorem dL_law_571 : decode cL_law 571 = .ok (.ireturn, 1) := dk_172 (dk_at dksL_law_18 17 rfl rfl)
theorem dL_law_572 : decode cL_law 572 = .ok (.aload_n 1, 1) := dk_43 (dk_at dksL_law_18 18 rfl rfl)
theorem dL_law_573 : decode cL_law 573 = .ok (.aload_n 0, 1) := dk_42 (dk_at dksL_law_18 19 rfl rfl)
theorem dL_law_574 : decode cL_law 574 = .ok (.iload_n 3, 1) := dk_29 (dk_at dksL_law_18 20 rfl rfl)
theorem dL_law_575 : decode cL_law 575 = .ok (.iconst 1, 1) := dk_4 (dk_at dksL_law_18 21 rfl rfl)
theorem dL_law_576 : decode cL_law 576 = .ok (.iadd, 1) := dk_96 (dk_at dksL_law_18 22 rfl rfl)
theorem dL_law_577 : decode cL_law 577 = .ok (.iaload, 1) := dk_46 (dk_at dksL_law_18 23 rfl rfl)
theorem dL_law_578 : decode cL_law 578 = .ok (.aload_n 0, 1) := dk_42 (dk_at dksL_law_19 0 rfl rfl)
theorem dL_law_579 : decode cL_law 579 = .ok (.iload_n 3, 1) := dk_29 (dk_at dksL_law_19 1 rfl rfl)
theorem dL_law_580 : decode cL_law 580 = .ok (.iconst 2, 1) := dk_5 (dk_at dksL_law_19 2 rfl rfl)
theorem dL_law_581 : decode cL_law 581 = .ok (.iadd, 1) := dk_96 (dk_at dksL_law_19 3 rfl rfl)
theorem dL_law_582 : decode cL_law 582 = .ok (.iaload, 1) := dk_46 (dk_at dksL_law_19 4 rfl rfl)
theorem dL_law_583 : decode cL_law 583 = .ok (.invokevirtual 72, 3) := dk_182 0 72 (dk_at dksL_law_19 5 rfl rfl)
theorem dL_law_586 : decode cL_law 586 = .ok (.aload_n 2, 1) := dk_44 (dk_at dksL_law_19 8 rfl rfl)
theorem dL_law_587 : decode cL_law 587 = .ok (.aload_n 0, 1) := dk_42 (dk_at dksL_law_19 9 rfl rfl)
theorem dL_law_588 : decode cL_law 588 = .ok (.iload_n 3, 1) := dk_29 (dk_at dksL_law_19 10 rfl rfl)
theorem dL_law_589 : decode cL_law 589 = .ok (.iconst 1, 1) := dk_4 (dk_at dksL_law_19 11 rfl rfl)
theorem dL_law_590 : decode cL_law 590 = .ok (.iadd, 1) := dk_96 (dk_at dksL_law_19 12 rfl rfl)
theorem dL_law_591 : decode cL_law 591 = .ok (.iaload, 1) := dk_46 (dk_at dksL_law_19 13 rfl rfl)
theorem dL_law_592 : decode cL_law 592 = .ok (.aload_n 0, 1) := dk_42 (dk_at dksL_law_19 14 rfl rfl)
theorem dL_law_593 : decode cL_law 593 = .ok (.iload_n 3, 1) := dk_29 (dk_at dksL_law_19 15 rfl rfl)
theorem dL_law_594 : decode cL_law 594 = .ok (.iconst 2, 1) := dk_5 (dk_at dksL_law_19 16 rfl rfl)
theorem dL_law_595 : decode cL_law 595 = .ok (.iadd, 1) := dk_96 (dk_at dksL_law_19 17 rfl rfl)
theorem dL_law_596 : decode cL_law 596 = .ok (.iaload, 1) := dk_46 (dk_at dksL_law_19 18 rfl rfl)
theorem dL_law_597 : decode cL_law 597 = .ok (.invokevirtual 75, 3) := dk_182 0 75 (dk_at dksL_law_19 19 rfl rfl)
theorem dL_law_600 : decode cL_law 600 = .ok (.if_icmp .eq 604, 3) := dk_159 2 92 (dk_at dksL_law_20 0 rfl rfl)
theorem dL_law_603 : decode cL_law 603 = .ok (.iconst 0, 1) := dk_3 (dk_at dksL_law_20 3 rfl rfl)
theorem dL_law_604 : decode cL_law 604 = .ok (.ireturn, 1) := dk_172 (dk_at dksL_law_20 4 rfl rfl)
theorem dL_law_605 : decode cL_law 605 = .ok (.aload_n 1, 1) := dk_43 (dk_at dksL_law_20 5 rfl rfl)
theorem dL_law_606 : decode cL_law 606 = .ok (.aload_n 0, 1) := dk_42 (dk_at dksL_law_20 6 rfl rfl)
theorem dL_law_607 : decode cL_law 607 = .ok (.iload_n 3, 1) := dk_29 (dk_at dksL_law_20 7 rfl rfl)
theorem dL_law_608 : decode cL_law 608 = .ok (.iconst 1, 1) := dk_4 (dk_at dksL_law_20 8 rfl rfl)
theorem dL_law_609 : decode cL_law 609 = .ok (.iadd, 1) := dk_96 (dk_at dksL_law_20 9 rfl rfl)
theorem dL_law_610 : decode cL_law 610 = .ok (.iaload, 1) := dk_46 (dk_at dksL_law_20 10 rfl rfl)
theorem dL_law_611 : decode cL_law 611 = .ok (.invokevirtual 76, 3) := dk_182 0 76 (dk_at dksL_law_20 11 rfl rfl)
theorem dL_law_614 : decode cL_law 614 = .ok (.aload_n 2, 1) := dk_44 (dk_at dksL_law_20 14 rfl rfl)
theorem dL_law_615 : decode cL_law 615 = .ok (.aload_n 0, 1) := dk_42 (dk_at dksL_law_20 15 rfl rfl)
theorem dL_law_616 : decode cL_law 616 = .ok (.iload_n 3, 1) := dk_29 (dk_at dksL_law_20 16 rfl rfl)
theorem dL_law_617 : decode cL_law 617 = .ok (.iconst 1, 1) := dk_4 (dk_at dksL_law_20 17 rfl rfl)
theorem dL_law_618 : decode cL_law 618 = .ok (.iadd, 1) := dk_96 (dk_at dksL_law_20 18 rfl rfl)
theorem dL_law_619 : decode cL_law 619 = .ok (.iaload, 1) := dk_46 (dk_at dksL_law_20 19 rfl rfl)
theorem dL_law_620 : decode cL_law 620 = .ok (.invokevirtual 79, 3) := dk_182 0 79 (dk_at dksL_law_20 20 rfl rfl)
theorem dL_law_623 : decode cL_law 623 = .ok (.if_icmp .eq 581, 3) := dk_159 2 69 (dk_at dksL_law_21 0 rfl rfl)
theorem dL_law_626 : decode cL_law 626 = .ok (.iconst 0, 1) := dk_3 (dk_at dksL_law_21 3 rfl rfl)
theorem dL_law_627 : decode cL_law 627 = .ok (.ireturn, 1) := dk_172 (dk_at dksL_law_21 4 rfl rfl)
theorem dL_law_628 : decode cL_law 628 = .ok (.aload_n 1, 1) := dk_43 (dk_at dksL_law_21 5 rfl rfl)
theorem dL_law_629 : decode cL_law 629 = .ok (.invokevirtual 80, 3) := dk_182 0 80 (dk_at dksL_law_21 6 rfl rfl)
theorem dL_law_632 : decode cL_law 632 = .ok (.aload_n 2, 1) := dk_44 (dk_at dksL_law_21 9 rfl rfl)
theorem dL_law_633 : decode cL_law 633 = .ok (.invokevirtual 83, 3) := dk_182 0 83 (dk_at dksL_law_21 10 rfl rfl)
theorem dL_law_636 : decode cL_law 636 = .ok (.if_icmp .eq 568, 3) := dk_159 2 56 (dk_at dksL_law_21 13 rfl rfl)
theorem dL_law_639 : decode cL_law 639 = .ok (.iconst 0, 1) := dk_3 (dk_at dksL_law_21 16 rfl rfl)
theorem dL_law_640 : decode cL_law 640 = .ok (.ireturn, 1) := dk_172 (dk_at dksL_law_21 17 rfl rfl)
theorem dL_law_641 : decode cL_law 641 = .ok (.aload_n 1, 1) := dk_43 (dk_at dksL_law_21 18 rfl rfl)
theorem dL_law_642 : decode cL_law 642 = .ok (.aload_n 0, 1) := dk_42 (dk_at dksL_law_21 19 rfl rfl)
theorem dL_law_643 : decode cL_law 643 = .ok (.iload_n 3, 1) := dk_29 (dk_at dksL_law_21 20 rfl rfl)
theorem dL_law_644 : decode cL_law 644 = .ok (.iconst 1, 1) := dk_4 (dk_at dksL_law_21 21 rfl rfl)
theorem dL_law_645 : decode cL_law 645 = .ok (.iadd, 1) := dk_96 (dk_at dksL_law_21 22 rfl rfl)
theorem dL_law_646 : decode cL_law 646 = .ok (.iaload, 1) := dk_46 (dk_at dksL_law_21 23 rfl rfl)
theorem dL_law_647 : decode cL_law 647 = .ok (.invokevirtual 84, 3) := dk_182 0 84 (dk_at dksL_law_22 0 rfl rfl)
theorem dL_law_650 : decode cL_law 650 = .ok (.aload_n 2, 1) := dk_44 (dk_at dksL_law_22 3 rfl rfl)
theorem dL_law_651 : decode cL_law 651 = .ok (.aload_n 0, 1) := dk_42 (dk_at dksL_law_22 4 rfl rfl)
theorem dL_law_652 : decode cL_law 652 = .ok (.iload_n 3, 1) := dk_29 (dk_at dksL_law_22 5 rfl rfl)
theorem dL_law_653 : decode cL_law 653 = .ok (.iconst 1, 1) := dk_4 (dk_at dksL_law_22 6 rfl rfl)
theorem dL_law_654 : decode cL_law 654 = .ok (.iadd, 1) := dk_96 (dk_at dksL_law_22 7 rfl rfl)
theorem dL_law_655 : decode cL_law 655 = .ok (.iaload, 1) := dk_46 (dk_at dksL_law_22 8 rfl rfl)
theorem dL_law_656 : decode cL_law 656 = .ok (.invokevirtual 87, 3) := dk_182 0 87 (dk_at dksL_law_22 9 rfl rfl)
theorem dL_law_659 : decode cL_law 659 = .ok (.if_icmp .eq 545, 3) := dk_159 2 33 (dk_at dksL_law_22 12 rfl rfl)
theorem dL_law_662 : decode cL_law 662 = .ok (.iconst 0, 1) := dk_3 (dk_at dksL_law_22 15 rfl rfl)
theorem dL_law_663 : decode cL_law 663 = .ok (.ireturn, 1) := dk_172 (dk_at dksL_law_22 16 rfl rfl)
theorem dL_law_664 : decode cL_law 664 = .ok (.aload_n 1, 1) := dk_43 (dk_at dksL_law_22 17 rfl rfl)
theorem dL_law_665 : decode cL_law 665 = .ok (.aload_n 0, 1) := dk_42 (dk_at dksL_law_22 18 rfl rfl)
theorem dL_law_666 : decode cL_law 666 = .ok (.iload_n 3, 1) := dk_29 (dk_at dksL_law_22 19 rfl rfl)
theorem dL_law_667 : decode cL_law 667 = .ok (.iconst 1, 1) := dk_4 (dk_at dksL_law_22 20 rfl rfl)
theorem dL_law_668 : decode cL_law 668 = .ok (.iadd, 1) := dk_96 (dk_at dksL_law_22 21 rfl rfl)
theorem dL_law_669 : decode cL_law 669 = .ok (.iaload, 1) := dk_46 (dk_at dksL_law_22 22 rfl rfl)
theorem dL_law_670 : decode cL_law 670 = .ok (.invokevirtual 88, 3) := dk_182 0 88 (dk_at dksL_law_23 0 rfl rfl)
theorem dL_law_673 : decode cL_law 673 = .ok (.aload_n 2, 1) := dk_44 (dk_at dksL_law_23 3 rfl rfl)
theorem dL_law_674 : decode cL_law 674 = .ok (.aload_n 0, 1) := dk_42 (dk_at dksL_law_23 4 rfl rfl)
theorem dL_law_675 : decode cL_law 675 = .ok (.iload_n 3, 1) := dk_29 (dk_at dksL_law_23 5 rfl rfl)
theorem dL_law_676 : decode cL_law 676 = .ok (.iconst 1, 1) := dk_4 (dk_at dksL_law_23 6 rfl rfl)
theorem dL_law_677 : decode cL_law 677 = .ok (.iadd, 1) := dk_96 (dk_at dksL_law_23 7 rfl rfl)
theorem dL_law_678 : decode cL_law 678 = .ok (.iaload, 1) := dk_46 (dk_at dksL_law_23 8 rfl rfl)
theorem dL_law_679 : decode cL_law 679 = .ok (.invokevirtual 91, 3) := dk_182 0 91 (dk_at dksL_law_23 9 rfl rfl)
theorem dL_law_682 : decode cL_law 682 = .ok (.if_icmp .eq 522, 3) := dk_159 2 10 (dk_at dksL_law_23 12 rfl rfl)
theorem dL_law_685 : decode cL_law 685 = .ok (.iconst 0, 1) := dk_3 (dk_at dksL_law_23 15 rfl rfl)
theorem dL_law_686 : decode cL_law 686 = .ok (.ireturn, 1) := dk_172 (dk_at dksL_law_23 16 rfl rfl)
theorem dL_law_687 : decode cL_law 687 = .ok (.aload_n 1, 1) := dk_43 (dk_at dksL_law_23 17 rfl rfl)
theorem dL_law_688 : decode cL_law 688 = .ok (.invokevirtual 92, 3) := dk_182 0 92 (dk_at dksL_law_23 18 rfl rfl)
theorem dL_law_691 : decode cL_law 691 = .ok (.aload_n 2, 1) := dk_44 (dk_at dksL_law_23 21 rfl rfl)
theorem dL_law_692 : decode cL_law 692 = .ok (.invokevirtual 95, 3) := dk_182 0 95 (dk_at dksL_law_24 0 rfl rfl)
theorem dL_law_695 : decode cL_law 695 = .ok (.if_icmp .eq 509, 3) := dk_159 1 253 (dk_at dksL_law_24 3 rfl rfl)
theorem dL_law_698 : decode cL_law 698 = .ok (.iconst 0, 1) := dk_3 (dk_at dksL_law_24 6 rfl rfl)
theorem dL_law_699 : decode cL_law 699 = .ok (.ireturn, 1) := dk_172 (dk_at dksL_law_24 7 rfl rfl)
theorem dL_law_700 : decode cL_law 700 = .ok (.aload_n 1, 1) := dk_43 (dk_at dksL_law_24 8 rfl rfl)
theorem dL_law_701 : decode cL_law 701 = .ok (.aload_n 0, 1) := dk_42 (dk_at dksL_law_24 9 rfl rfl)
theorem dL_law_702 : decode cL_law 702 = .ok (.iload_n 3, 1) := dk_29 (dk_at dksL_law_24 10 rfl rfl)
theorem dL_law_703 : decode cL_law 703 = .ok (.iconst 1, 1) := dk_4 (dk_at dksL_law_24 11 rfl rfl)
theorem dL_law_704 : decode cL_law 704 = .ok (.iadd, 1) := dk_96 (dk_at dksL_law_24 12 rfl rfl)
theorem dL_law_705 : decode cL_law 705 = .ok (.iaload, 1) := dk_46 (dk_at dksL_law_24 13 rfl rfl)
theorem dL_law_706 : decode cL_law 706 = .ok (.invokevirtual 96, 3) := dk_182 0 96 (dk_at dksL_law_24 14 rfl rfl)
theorem dL_law_709 : decode cL_law 709 = .ok (.aload_n 2, 1) := dk_44 (dk_at dksL_law_24 17 rfl rfl)
theorem dL_law_710 : decode cL_law 710 = .ok (.aload_n 0, 1) := dk_42 (dk_at dksL_law_24 18 rfl rfl)
theorem dL_law_711 : decode cL_law 711 = .ok (.iload_n 3, 1) := dk_29 (dk_at dksL_law_24 19 rfl rfl)
theorem dL_law_712 : decode cL_law 712 = .ok (.iconst 1, 1) := dk_4 (dk_at dksL_law_24 20 rfl rfl)
theorem dL_law_713 : decode cL_law 713 = .ok (.iadd, 1) := dk_96 (dk_at dksL_law_24 21 rfl rfl)
theorem dL_law_714 : decode cL_law 714 = .ok (.iaload, 1) := dk_46 (dk_at dksL_law_24 22 rfl rfl)
theorem dL_law_715 : decode cL_law 715 = .ok (.invokevirtual 99, 3) := dk_182 0 99 (dk_at dksL_law_25 0 rfl rfl)
theorem dL_law_718 : decode cL_law 718 = .ok (.if_icmp .eq 486, 3) := dk_159 1 230 (dk_at dksL_law_25 3 rfl rfl)
theorem dL_law_721 : decode cL_law 721 = .ok (.iconst 0, 1) := dk_3 (dk_at dksL_law_25 6 rfl rfl)
theorem dL_law_722 : decode cL_law 722 = .ok (.ireturn, 1) := dk_172 (dk_at dksL_law_25 7 rfl rfl)
theorem dL_law_723 : decode cL_law 723 = .ok (.aload_n 1, 1) := dk_43 (dk_at dksL_law_25 8 rfl rfl)
theorem dL_law_724 : decode cL_law 724 = .ok (.invokevirtual 100, 3) := dk_182 0 100 (dk_at dksL_law_25 9 rfl rfl)
theorem dL_law_727 : decode cL_law 727 = .ok (.aload_n 2, 1) := dk_44 (dk_at dksL_law_25 12 rfl rfl)
theorem dL_law_728 : decode cL_law 728 = .ok (.invokevirtual 103, 3) := dk_182 0 103 (dk_at dksL_law_25 13 rfl rfl)
theorem dL_law_731 : decode cL_law 731 = .ok (.if_icmp .eq 473, 3) := dk_159 1 217 (dk_at dksL_law_25 16 rfl rfl)
theorem dL_law_734 : decode cL_law 734 = .ok (.iconst 0, 1) := dk_3 (dk_at dksL_law_25 19 rfl rfl)
theorem dL_law_735 : decode cL_law 735 = .ok (.ireturn, 1) := dk_172 (dk_at dksL_law_25 20 rfl rfl)
theorem dL_law_736 : decode cL_law 736 = .ok (.aload_n 1, 1) := dk_43 (dk_at dksL_law_25 21 rfl rfl)
theorem dL_law_737 : decode cL_law 737 = .ok (.invokevirtual 104, 3) := dk_182 0 104 (dk_at dksL_law_26 0 rfl rfl)
theorem dL_law_740 : decode cL_law 740 = .ok (.aload_n 2, 1) := dk_44 (dk_at dksL_law_26 3 rfl rfl)
theorem dL_law_741 : decode cL_law 741 = .ok (.invokevirtual 107, 3) := dk_182 0 107 (dk_at dksL_law_26 4 rfl rfl)
theorem dL_law_744 : decode cL_law 744 = .ok (.if_icmp .eq 460, 3) := dk_159 1 204 (dk_at dksL_law_26 7 rfl rfl)
theorem dL_law_747 : decode cL_law 747 = .ok (.iconst 0, 1) := dk_3 (dk_at dksL_law_26 10 rfl rfl)
theorem dL_law_748 : decode cL_law 748 = .ok (.ireturn, 1) := dk_172 (dk_at dksL_law_26 11 rfl rfl)
theorem dL_law_749 : decode cL_law 749 = .ok (.aload_n 1, 1) := dk_43 (dk_at dksL_law_26 12 rfl rfl)
theorem dL_law_750 : decode cL_law 750 = .ok (.aload_n 0, 1) := dk_42 (dk_at dksL_law_26 13 rfl rfl)
theorem dL_law_751 : decode cL_law 751 = .ok (.iload_n 3, 1) := dk_29 (dk_at dksL_law_26 14 rfl rfl)
theorem dL_law_752 : decode cL_law 752 = .ok (.iconst 1, 1) := dk_4 (dk_at dksL_law_26 15 rfl rfl)
theorem dL_law_753 : decode cL_law 753 = .ok (.iadd, 1) := dk_96 (dk_at dksL_law_26 16 rfl rfl)
theorem dL_law_754 : decode cL_law 754 = .ok (.iaload, 1) := dk_46 (dk_at dksL_law_26 17 rfl rfl)
theorem dL_law_755 : decode cL_law 755 = .ok (.invokevirtual 108, 3) := dk_182 0 108 (dk_at dksL_law_26 18 rfl rfl)
theorem dL_law_758 : decode cL_law 758 = .ok (.aload_n 2, 1) := dk_44 (dk_at dksL_law_26 21 rfl rfl)
theorem dL_law_759 : decode cL_law 759 = .ok (.aload_n 0, 1) := dk_42 (dk_at dksL_law_26 22 rfl rfl)
theorem dL_law_760 : decode cL_law 760 = .ok (.iload_n 3, 1) := dk_29 (dk_at dksL_law_26 23 rfl rfl)
theorem dL_law_761 : decode cL_law 761 = .ok (.iconst 1, 1) := dk_4 (dk_at dksL_law_27 0 rfl rfl)
theorem dL_law_762 : decode cL_law 762 = .ok (.iadd, 1) := dk_96 (dk_at dksL_law_27 1 rfl rfl)
theorem dL_law_763 : decode cL_law 763 = .ok (.iaload, 1) := dk_46 (dk_at dksL_law_27 2 rfl rfl)
theorem dL_law_764 : decode cL_law 764 = .ok (.invokevirtual 111, 3) := dk_182 0 111 (dk_at dksL_law_27 3 rfl rfl)
theorem dL_law_767 : decode cL_law 767 = .ok (.if_icmp .eq 437, 3) := dk_159 1 181 (dk_at dksL_law_27 6 rfl rfl)
theorem dL_law_770 : decode cL_law 770 = .ok (.iconst 0, 1) := dk_3 (dk_at dksL_law_27 9 rfl rfl)
theorem dL_law_771 : decode cL_law 771 = .ok (.ireturn, 1) := dk_172 (dk_at dksL_law_27 10 rfl rfl)
theorem dL_law_772 : decode cL_law 772 = .ok (.aload_n 1, 1) := dk_43 (dk_at dksL_law_27 11 rfl rfl)
theorem dL_law_773 : decode cL_law 773 = .ok (.aload_n 0, 1) := dk_42 (dk_at dksL_law_27 12 rfl rfl)
theorem dL_law_774 : decode cL_law 774 = .ok (.iload_n 3, 1) := dk_29 (dk_at dksL_law_27 13 rfl rfl)
theorem dL_law_775 : decode cL_law 775 = .ok (.iconst 1, 1) := dk_4 (dk_at dksL_law_27 14 rfl rfl)
theorem dL_law_776 : decode cL_law 776 = .ok (.iadd, 1) := dk_96 (dk_at dksL_law_27 15 rfl rfl)
theorem dL_law_777 : decode cL_law 777 = .ok (.iaload, 1) := dk_46 (dk_at dksL_law_27 16 rfl rfl)
theorem dL_law_778 : decode cL_law 778 = .ok (.aload_n 0, 1) := dk_42 (dk_at dksL_law_27 17 rfl rfl)
theorem dL_law_779 : decode cL_law 779 = .ok (.iload_n 3, 1) := dk_29 (dk_at dksL_law_27 18 rfl rfl)
theorem dL_law_780 : decode cL_law 780 = .ok (.iconst 2, 1) := dk_5 (dk_at dksL_law_27 19 rfl rfl)
theorem dL_law_781 : decode cL_law 781 = .ok (.iadd, 1) := dk_96 (dk_at dksL_law_27 20 rfl rfl)
theorem dL_law_782 : decode cL_law 782 = .ok (.iaload, 1) := dk_46 (dk_at dksL_law_27 21 rfl rfl)
theorem dL_law_783 : decode cL_law 783 = .ok (.invokevirtual 112, 3) := dk_182 0 112 (dk_at dksL_law_28 0 rfl rfl)
theorem dL_law_786 : decode cL_law 786 = .ok (.aload_n 2, 1) := dk_44 (dk_at dksL_law_28 3 rfl rfl)
theorem dL_law_787 : decode cL_law 787 = .ok (.aload_n 0, 1) := dk_42 (dk_at dksL_law_28 4 rfl rfl)
theorem dL_law_788 : decode cL_law 788 = .ok (.iload_n 3, 1) := dk_29 (dk_at dksL_law_28 5 rfl rfl)
theorem dL_law_789 : decode cL_law 789 = .ok (.iconst 1, 1) := dk_4 (dk_at dksL_law_28 6 rfl rfl)
theorem dL_law_790 : decode cL_law 790 = .ok (.iadd, 1) := dk_96 (dk_at dksL_law_28 7 rfl rfl)
theorem dL_law_791 : decode cL_law 791 = .ok (.iaload, 1) := dk_46 (dk_at dksL_law_28 8 rfl rfl)
theorem dL_law_792 : decode cL_law 792 = .ok (.aload_n 0, 1) := dk_42 (dk_at dksL_law_28 9 rfl rfl)
theorem dL_law_793 : decode cL_law 793 = .ok (.iload_n 3, 1) := dk_29 (dk_at dksL_law_28 10 rfl rfl)
theorem dL_law_794 : decode cL_law 794 = .ok (.iconst 2, 1) := dk_5 (dk_at dksL_law_28 11 rfl rfl)
theorem dL_law_795 : decode cL_law 795 = .ok (.iadd, 1) := dk_96 (dk_at dksL_law_28 12 rfl rfl)
theorem dL_law_796 : decode cL_law 796 = .ok (.iaload, 1) := dk_46 (dk_at dksL_law_28 13 rfl rfl)
theorem dL_law_797 : decode cL_law 797 = .ok (.invokevirtual 115, 3) := dk_182 0 115 (dk_at dksL_law_28 14 rfl rfl)
theorem dL_law_800 : decode cL_law 800 = .ok (.if_icmp .eq 404, 3) := dk_159 1 148 (dk_at dksL_law_28 17 rfl rfl)
theorem dL_law_803 : decode cL_law 803 = .ok (.iconst 0, 1) := dk_3 (dk_at dksL_law_28 20 rfl rfl)
theorem dL_law_804 : decode cL_law 804 = .ok (.ireturn, 1) := dk_172 (dk_at dksL_law_28 21 rfl rfl)
theorem dL_law_805 : decode cL_law 805 = .ok (.aload_n 1, 1) := dk_43 (dk_at dksL_law_28 22 rfl rfl)
theorem dL_law_806 : decode cL_law 806 = .ok (.aload_n 0, 1) := dk_42 (dk_at dksL_law_28 23 rfl rfl)
theorem dL_law_807 : decode cL_law 807 = .ok (.iload_n 3, 1) := dk_29 (dk_at dksL_law_29 0 rfl rfl)
theorem dL_law_808 : decode cL_law 808 = .ok (.iconst 1, 1) := dk_4 (dk_at dksL_law_29 1 rfl rfl)
theorem dL_law_809 : decode cL_law 809 = .ok (.iadd, 1) := dk_96 (dk_at dksL_law_29 2 rfl rfl)
theorem dL_law_810 : decode cL_law 810 = .ok (.iaload, 1) := dk_46 (dk_at dksL_law_29 3 rfl rfl)
theorem dL_law_811 : decode cL_law 811 = .ok (.aload_n 0, 1) := dk_42 (dk_at dksL_law_29 4 rfl rfl)
theorem dL_law_812 : decode cL_law 812 = .ok (.iload_n 3, 1) := dk_29 (dk_at dksL_law_29 5 rfl rfl)
theorem dL_law_813 : decode cL_law 813 = .ok (.iconst 2, 1) := dk_5 (dk_at dksL_law_29 6 rfl rfl)
theorem dL_law_814 : decode cL_law 814 = .ok (.iadd, 1) := dk_96 (dk_at dksL_law_29 7 rfl rfl)
theorem dL_law_815 : decode cL_law 815 = .ok (.iaload, 1) := dk_46 (dk_at dksL_law_29 8 rfl rfl)
theorem dL_law_816 : decode cL_law 816 = .ok (.invokevirtual 116, 3) := dk_182 0 116 (dk_at dksL_law_29 9 rfl rfl)
theorem dL_law_819 : decode cL_law 819 = .ok (.aload_n 2, 1) := dk_44 (dk_at dksL_law_29 12 rfl rfl)
theorem dL_law_820 : decode cL_law 820 = .ok (.aload_n 0, 1) := dk_42 (dk_at dksL_law_29 13 rfl rfl)
theorem dL_law_821 : decode cL_law 821 = .ok (.iload_n 3, 1) := dk_29 (dk_at dksL_law_29 14 rfl rfl)
theorem dL_law_822 : decode cL_law 822 = .ok (.iconst 1, 1) := dk_4 (dk_at dksL_law_29 15 rfl rfl)
theorem dL_law_823 : decode cL_law 823 = .ok (.iadd, 1) := dk_96 (dk_at dksL_law_29 16 rfl rfl)
theorem dL_law_824 : decode cL_law 824 = .ok (.iaload, 1) := dk_46 (dk_at dksL_law_29 17 rfl rfl)
theorem dL_law_825 : decode cL_law 825 = .ok (.aload_n 0, 1) := dk_42 (dk_at dksL_law_29 18 rfl rfl)
theorem dL_law_826 : decode cL_law 826 = .ok (.iload_n 3, 1) := dk_29 (dk_at dksL_law_29 19 rfl rfl)
theorem dL_law_827 : decode cL_law 827 = .ok (.iconst 2, 1) := dk_5 (dk_at dksL_law_29 20 rfl rfl)
theorem dL_law_828 : decode cL_law 828 = .ok (.iadd, 1) := dk_96 (dk_at dksL_law_29 21 rfl rfl)
theorem dL_law_829 : decode cL_law 829 = .ok (.iaload, 1) := dk_46 (dk_at dksL_law_29 22 rfl rfl)
theorem dL_law_830 : decode cL_law 830 = .ok (.invokevirtual 119, 3) := dk_182 0 119 (dk_at dksL_law_30 0 rfl rfl)
theorem dL_law_833 : decode cL_law 833 = .ok (.if_icmp .eq 371, 3) := dk_159 1 115 (dk_at dksL_law_30 3 rfl rfl)
theorem dL_law_836 : decode cL_law 836 = .ok (.iconst 0, 1) := dk_3 (dk_at dksL_law_30 6 rfl rfl)
theorem dL_law_837 : decode cL_law 837 = .ok (.ireturn, 1) := dk_172 (dk_at dksL_law_30 7 rfl rfl)
theorem dL_law_838 : decode cL_law 838 = .ok (.aload_n 1, 1) := dk_43 (dk_at dksL_law_30 8 rfl rfl)
theorem dL_law_839 : decode cL_law 839 = .ok (.aload_n 0, 1) := dk_42 (dk_at dksL_law_30 9 rfl rfl)
theorem dL_law_840 : decode cL_law 840 = .ok (.iload_n 3, 1) := dk_29 (dk_at dksL_law_30 10 rfl rfl)
theorem dL_law_841 : decode cL_law 841 = .ok (.iconst 1, 1) := dk_4 (dk_at dksL_law_30 11 rfl rfl)
theorem dL_law_842 : decode cL_law 842 = .ok (.iadd, 1) := dk_96 (dk_at dksL_law_30 12 rfl rfl)
theorem dL_law_843 : decode cL_law 843 = .ok (.iaload, 1) := dk_46 (dk_at dksL_law_30 13 rfl rfl)
theorem dL_law_844 : decode cL_law 844 = .ok (.aload_n 0, 1) := dk_42 (dk_at dksL_law_30 14 rfl rfl)
theorem dL_law_845 : decode cL_law 845 = .ok (.iload_n 3, 1) := dk_29 (dk_at dksL_law_30 15 rfl rfl)
theorem dL_law_846 : decode cL_law 846 = .ok (.iconst 2, 1) := dk_5 (dk_at dksL_law_30 16 rfl rfl)
theorem dL_law_847 : decode cL_law 847 = .ok (.iadd, 1) := dk_96 (dk_at dksL_law_30 17 rfl rfl)
theorem dL_law_848 : decode cL_law 848 = .ok (.iaload, 1) := dk_46 (dk_at dksL_law_30 18 rfl rfl)
theorem dL_law_849 : decode cL_law 849 = .ok (.invokevirtual 120, 3) := dk_182 0 120 (dk_at dksL_law_30 19 rfl rfl)
theorem dL_law_852 : decode cL_law 852 = .ok (.aload_n 2, 1) := dk_44 (dk_at dksL_law_30 22 rfl rfl)
theorem dL_law_853 : decode cL_law 853 = .ok (.aload_n 0, 1) := dk_42 (dk_at dksL_law_30 23 rfl rfl)
theorem dL_law_854 : decode cL_law 854 = .ok (.iload_n 3, 1) := dk_29 (dk_at dksL_law_31 0 rfl rfl)
theorem dL_law_855 : decode cL_law 855 = .ok (.iconst 1, 1) := dk_4 (dk_at dksL_law_31 1 rfl rfl)
theorem dL_law_856 : decode cL_law 856 = .ok (.iadd, 1) := dk_96 (dk_at dksL_law_31 2 rfl rfl)
theorem dL_law_857 : decode cL_law 857 = .ok (.iaload, 1) := dk_46 (dk_at dksL_law_31 3 rfl rfl)
theorem dL_law_858 : decode cL_law 858 = .ok (.aload_n 0, 1) := dk_42 (dk_at dksL_law_31 4 rfl rfl)
theorem dL_law_859 : decode cL_law 859 = .ok (.iload_n 3, 1) := dk_29 (dk_at dksL_law_31 5 rfl rfl)
theorem dL_law_860 : decode cL_law 860 = .ok (.iconst 2, 1) := dk_5 (dk_at dksL_law_31 6 rfl rfl)
theorem dL_law_861 : decode cL_law 861 = .ok (.iadd, 1) := dk_96 (dk_at dksL_law_31 7 rfl rfl)
theorem dL_law_862 : decode cL_law 862 = .ok (.iaload, 1) := dk_46 (dk_at dksL_law_31 8 rfl rfl)
theorem dL_law_863 : decode cL_law 863 = .ok (.invokevirtual 123, 3) := dk_182 0 123 (dk_at dksL_law_31 9 rfl rfl)
theorem dL_law_866 : decode cL_law 866 = .ok (.if_icmp .eq 338, 3) := dk_159 1 82 (dk_at dksL_law_31 12 rfl rfl)
theorem dL_law_869 : decode cL_law 869 = .ok (.iconst 0, 1) := dk_3 (dk_at dksL_law_31 15 rfl rfl)
theorem dL_law_870 : decode cL_law 870 = .ok (.ireturn, 1) := dk_172 (dk_at dksL_law_31 16 rfl rfl)
theorem dL_law_871 : decode cL_law 871 = .ok (.aload_n 1, 1) := dk_43 (dk_at dksL_law_31 17 rfl rfl)
theorem dL_law_872 : decode cL_law 872 = .ok (.aload_n 0, 1) := dk_42 (dk_at dksL_law_31 18 rfl rfl)
theorem dL_law_873 : decode cL_law 873 = .ok (.iload_n 3, 1) := dk_29 (dk_at dksL_law_31 19 rfl rfl)
theorem dL_law_874 : decode cL_law 874 = .ok (.iconst 1, 1) := dk_4 (dk_at dksL_law_31 20 rfl rfl)
theorem dL_law_875 : decode cL_law 875 = .ok (.iadd, 1) := dk_96 (dk_at dksL_law_31 21 rfl rfl)
theorem dL_law_876 : decode cL_law 876 = .ok (.iaload, 1) := dk_46 (dk_at dksL_law_31 22 rfl rfl)
theorem dL_law_877 : decode cL_law 877 = .ok (.aload_n 0, 1) := dk_42 (dk_at dksL_law_31 23 rfl rfl)
theorem dL_law_878 : decode cL_law 878 = .ok (.iload_n 3, 1) := dk_29 (dk_at dksL_law_32 0 rfl rfl)
theorem dL_law_879 : decode cL_law 879 = .ok (.iconst 2, 1) := dk_5 (dk_at dksL_law_32 1 rfl rfl)
theorem dL_law_880 : decode cL_law 880 = .ok (.iadd, 1) := dk_96 (dk_at dksL_law_32 2 rfl rfl)
theorem dL_law_881 : decode cL_law 881 = .ok (.iaload, 1) := dk_46 (dk_at dksL_law_32 3 rfl rfl)
theorem dL_law_882 : decode cL_law 882 = .ok (.invokevirtual 124, 3) := dk_182 0 124 (dk_at dksL_law_32 4 rfl rfl)
theorem dL_law_885 : decode cL_law 885 = .ok (.aload_n 2, 1) := dk_44 (dk_at dksL_law_32 7 rfl rfl)
theorem dL_law_886 : decode cL_law 886 = .ok (.aload_n 0, 1) := dk_42 (dk_at dksL_law_32 8 rfl rfl)
theorem dL_law_887 : decode cL_law 887 = .ok (.iload_n 3, 1) := dk_29 (dk_at dksL_law_32 9 rfl rfl)
theorem dL_law_888 : decode cL_law 888 = .ok (.iconst 1, 1) := dk_4 (dk_at dksL_law_32 10 rfl rfl)
theorem dL_law_889 : decode cL_law 889 = .ok (.iadd, 1) := dk_96 (dk_at dksL_law_32 11 rfl rfl)
theorem dL_law_890 : decode cL_law 890 = .ok (.iaload, 1) := dk_46 (dk_at dksL_law_32 12 rfl rfl)
theorem dL_law_891 : decode cL_law 891 = .ok (.aload_n 0, 1) := dk_42 (dk_at dksL_law_32 13 rfl rfl)
theorem dL_law_892 : decode cL_law 892 = .ok (.iload_n 3, 1) := dk_29 (dk_at dksL_law_32 14 rfl rfl)
theorem dL_law_893 : decode cL_law 893 = .ok (.iconst 2, 1) := dk_5 (dk_at dksL_law_32 15 rfl rfl)
theorem dL_law_894 : decode cL_law 894 = .ok (.iadd, 1) := dk_96 (dk_at dksL_law_32 16 rfl rfl)
theorem dL_law_895 : decode cL_law 895 = .ok (.iaload, 1) := dk_46 (dk_at dksL_law_32 17 rfl rfl)
theorem dL_law_896 : decode cL_law 896 = .ok (.invokevirtual 127, 3) := dk_182 0 127 (dk_at dksL_law_32 18 rfl rfl)
theorem dL_law_899 : decode cL_law 899 = .ok (.if_icmp .eq 305, 3) := dk_159 1 49 (dk_at dksL_law_32 21 rfl rfl)
theorem dL_law_902 : decode cL_law 902 = .ok (.iconst 0, 1) := dk_3 (dk_at dksL_law_33 0 rfl rfl)
theorem dL_law_903 : decode cL_law 903 = .ok (.ireturn, 1) := dk_172 (dk_at dksL_law_33 1 rfl rfl)
theorem dL_law_904 : decode cL_law 904 = .ok (.aload_n 1, 1) := dk_43 (dk_at dksL_law_33 2 rfl rfl)
theorem dL_law_905 : decode cL_law 905 = .ok (.aload_n 0, 1) := dk_42 (dk_at dksL_law_33 3 rfl rfl)
theorem dL_law_906 : decode cL_law 906 = .ok (.iload_n 3, 1) := dk_29 (dk_at dksL_law_33 4 rfl rfl)
theorem dL_law_907 : decode cL_law 907 = .ok (.iconst 1, 1) := dk_4 (dk_at dksL_law_33 5 rfl rfl)
theorem dL_law_908 : decode cL_law 908 = .ok (.iadd, 1) := dk_96 (dk_at dksL_law_33 6 rfl rfl)
theorem dL_law_909 : decode cL_law 909 = .ok (.iaload, 1) := dk_46 (dk_at dksL_law_33 7 rfl rfl)
theorem dL_law_910 : decode cL_law 910 = .ok (.aload_n 0, 1) := dk_42 (dk_at dksL_law_33 8 rfl rfl)
theorem dL_law_911 : decode cL_law 911 = .ok (.iload_n 3, 1) := dk_29 (dk_at dksL_law_33 9 rfl rfl)
theorem dL_law_912 : decode cL_law 912 = .ok (.iconst 2, 1) := dk_5 (dk_at dksL_law_33 10 rfl rfl)
theorem dL_law_913 : decode cL_law 913 = .ok (.iadd, 1) := dk_96 (dk_at dksL_law_33 11 rfl rfl)
theorem dL_law_914 : decode cL_law 914 = .ok (.iaload, 1) := dk_46 (dk_at dksL_law_33 12 rfl rfl)
theorem dL_law_915 : decode cL_law 915 = .ok (.invokevirtual 128, 3) := dk_182 0 128 (dk_at dksL_law_33 13 rfl rfl)
theorem dL_law_918 : decode cL_law 918 = .ok (.aload_n 2, 1) := dk_44 (dk_at dksL_law_33 16 rfl rfl)
theorem dL_law_919 : decode cL_law 919 = .ok (.aload_n 0, 1) := dk_42 (dk_at dksL_law_33 17 rfl rfl)
theorem dL_law_920 : decode cL_law 920 = .ok (.iload_n 3, 1) := dk_29 (dk_at dksL_law_33 18 rfl rfl)
theorem dL_law_921 : decode cL_law 921 = .ok (.iconst 1, 1) := dk_4 (dk_at dksL_law_33 19 rfl rfl)
theorem dL_law_922 : decode cL_law 922 = .ok (.iadd, 1) := dk_96 (dk_at dksL_law_33 20 rfl rfl)
theorem dL_law_923 : decode cL_law 923 = .ok (.iaload, 1) := dk_46 (dk_at dksL_law_33 21 rfl rfl)
theorem dL_law_924 : decode cL_law 924 = .ok (.aload_n 0, 1) := dk_42 (dk_at dksL_law_33 22 rfl rfl)
theorem dL_law_925 : decode cL_law 925 = .ok (.iload_n 3, 1) := dk_29 (dk_at dksL_law_33 23 rfl rfl)
theorem dL_law_926 : decode cL_law 926 = .ok (.iconst 2, 1) := dk_5 (dk_at dksL_law_34 0 rfl rfl)
theorem dL_law_927 : decode cL_law 927 = .ok (.iadd, 1) := dk_96 (dk_at dksL_law_34 1 rfl rfl)
theorem dL_law_928 : decode cL_law 928 = .ok (.iaload, 1) := dk_46 (dk_at dksL_law_34 2 rfl rfl)
theorem dL_law_929 : decode cL_law 929 = .ok (.invokevirtual 131, 3) := dk_182 0 131 (dk_at dksL_law_34 3 rfl rfl)
theorem dL_law_932 : decode cL_law 932 = .ok (.if_icmp .eq 272, 3) := dk_159 1 16 (dk_at dksL_law_34 6 rfl rfl)
theorem dL_law_935 : decode cL_law 935 = .ok (.iconst 0, 1) := dk_3 (dk_at dksL_law_34 9 rfl rfl)
theorem dL_law_936 : decode cL_law 936 = .ok (.ireturn, 1) := dk_172 (dk_at dksL_law_34 10 rfl rfl)
theorem dL_law_937 : decode cL_law 937 = .ok (.aload_n 1, 1) := dk_43 (dk_at dksL_law_34 11 rfl rfl)
theorem dL_law_938 : decode cL_law 938 = .ok (.aload_n 0, 1) := dk_42 (dk_at dksL_law_34 12 rfl rfl)
theorem dL_law_939 : decode cL_law 939 = .ok (.iload_n 3, 1) := dk_29 (dk_at dksL_law_34 13 rfl rfl)
theorem dL_law_940 : decode cL_law 940 = .ok (.iconst 1, 1) := dk_4 (dk_at dksL_law_34 14 rfl rfl)
theorem dL_law_941 : decode cL_law 941 = .ok (.iadd, 1) := dk_96 (dk_at dksL_law_34 15 rfl rfl)
theorem dL_law_942 : decode cL_law 942 = .ok (.iaload, 1) := dk_46 (dk_at dksL_law_34 16 rfl rfl)
theorem dL_law_943 : decode cL_law 943 = .ok (.aload_n 0, 1) := dk_42 (dk_at dksL_law_34 17 rfl rfl)
theorem dL_law_944 : decode cL_law 944 = .ok (.iload_n 3, 1) := dk_29 (dk_at dksL_law_34 18 rfl rfl)
theorem dL_law_945 : decode cL_law 945 = .ok (.iconst 2, 1) := dk_5 (dk_at dksL_law_34 19 rfl rfl)
theorem dL_law_946 : decode cL_law 946 = .ok (.iadd, 1) := dk_96 (dk_at dksL_law_34 20 rfl rfl)
theorem dL_law_947 : decode cL_law 947 = .ok (.iaload, 1) := dk_46 (dk_at dksL_law_34 21 rfl rfl)
theorem dL_law_948 : decode cL_law 948 = .ok (.aload_n 0, 1) := dk_42 (dk_at dksL_law_34 22 rfl rfl)
theorem dL_law_949 : decode cL_law 949 = .ok (.iload_n 3, 1) := dk_29 (dk_at dksL_law_34 23 rfl rfl)
theorem dL_law_950 : decode cL_law 950 = .ok (.iconst 3, 1) := dk_6 (dk_at dksL_law_35 0 rfl rfl)
theorem dL_law_951 : decode cL_law 951 = .ok (.iadd, 1) := dk_96 (dk_at dksL_law_35 1 rfl rfl)
theorem dL_law_952 : decode cL_law 952 = .ok (.iaload, 1) := dk_46 (dk_at dksL_law_35 2 rfl rfl)
theorem dL_law_953 : decode cL_law 953 = .ok (.invokevirtual 132, 3) := dk_182 0 132 (dk_at dksL_law_35 3 rfl rfl)
theorem dL_law_956 : decode cL_law 956 = .ok (.aload_n 2, 1) := dk_44 (dk_at dksL_law_35 6 rfl rfl)
theorem dL_law_957 : decode cL_law 957 = .ok (.aload_n 0, 1) := dk_42 (dk_at dksL_law_35 7 rfl rfl)
theorem dL_law_958 : decode cL_law 958 = .ok (.iload_n 3, 1) := dk_29 (dk_at dksL_law_35 8 rfl rfl)
theorem dL_law_959 : decode cL_law 959 = .ok (.iconst 1, 1) := dk_4 (dk_at dksL_law_35 9 rfl rfl)
theorem dL_law_960 : decode cL_law 960 = .ok (.iadd, 1) := dk_96 (dk_at dksL_law_35 10 rfl rfl)
theorem dL_law_961 : decode cL_law 961 = .ok (.iaload, 1) := dk_46 (dk_at dksL_law_35 11 rfl rfl)
theorem dL_law_962 : decode cL_law 962 = .ok (.aload_n 0, 1) := dk_42 (dk_at dksL_law_35 12 rfl rfl)
theorem dL_law_963 : decode cL_law 963 = .ok (.iload_n 3, 1) := dk_29 (dk_at dksL_law_35 13 rfl rfl)
theorem dL_law_964 : decode cL_law 964 = .ok (.iconst 2, 1) := dk_5 (dk_at dksL_law_35 14 rfl rfl)
theorem dL_law_965 : decode cL_law 965 = .ok (.iadd, 1) := dk_96 (dk_at dksL_law_35 15 rfl rfl)
theorem dL_law_966 : decode cL_law 966 = .ok (.iaload, 1) := dk_46 (dk_at dksL_law_35 16 rfl rfl)
theorem dL_law_967 : decode cL_law 967 = .ok (.aload_n 0, 1) := dk_42 (dk_at dksL_law_35 17 rfl rfl)
theorem dL_law_968 : decode cL_law 968 = .ok (.iload_n 3, 1) := dk_29 (dk_at dksL_law_35 18 rfl rfl)
theorem dL_law_969 : decode cL_law 969 = .ok (.iconst 3, 1) := dk_6 (dk_at dksL_law_35 19 rfl rfl)
theorem dL_law_970 : decode cL_law 970 = .ok (.iadd, 1) := dk_96 (dk_at dksL_law_35 20 rfl rfl)
theorem dL_law_971 : decode cL_law 971 = .ok (.iaload, 1) := dk_46 (dk_at dksL_law_35 21 rfl rfl)
theorem dL_law_972 : decode cL_law 972 = .ok (.invokevirtual 136, 3) := dk_182 0 136 (dk_at dksL_law_36 0 rfl rfl)
theorem dL_law_975 : decode cL_law 975 = .ok (.if_icmp .eq 229, 3) := dk_159 0 229 (dk_at dksL_law_36 3 rfl rfl)
theorem dL_law_978 : decode cL_law 978 = .ok (.iconst 0, 1) := dk_3 (dk_at dksL_law_36 6 rfl rfl)
theorem dL_law_979 : decode cL_law 979 = .ok (.ireturn, 1) := dk_172 (dk_at dksL_law_36 7 rfl rfl)
theorem dL_law_980 : decode cL_law 980 = .ok (.aload_n 1, 1) := dk_43 (dk_at dksL_law_36 8 rfl rfl)
theorem dL_law_981 : decode cL_law 981 = .ok (.aload_n 0, 1) := dk_42 (dk_at dksL_law_36 9 rfl rfl)
theorem dL_law_982 : decode cL_law 982 = .ok (.iload_n 3, 1) := dk_29 (dk_at dksL_law_36 10 rfl rfl)
theorem dL_law_983 : decode cL_law 983 = .ok (.iconst 1, 1) := dk_4 (dk_at dksL_law_36 11 rfl rfl)
theorem dL_law_984 : decode cL_law 984 = .ok (.iadd, 1) := dk_96 (dk_at dksL_law_36 12 rfl rfl)
theorem dL_law_985 : decode cL_law 985 = .ok (.iaload, 1) := dk_46 (dk_at dksL_law_36 13 rfl rfl)
theorem dL_law_986 : decode cL_law 986 = .ok (.invokevirtual 137, 3) := dk_182 0 137 (dk_at dksL_law_36 14 rfl rfl)
theorem dL_law_989 : decode cL_law 989 = .ok (.aload_n 2, 1) := dk_44 (dk_at dksL_law_36 17 rfl rfl)
theorem dL_law_990 : decode cL_law 990 = .ok (.aload_n 0, 1) := dk_42 (dk_at dksL_law_36 18 rfl rfl)
theorem dL_law_991 : decode cL_law 991 = .ok (.iload_n 3, 1) := dk_29 (dk_at dksL_law_36 19 rfl rfl)
theorem dL_law_992 : decode cL_law 992 = .ok (.iconst 1, 1) := dk_4 (dk_at dksL_law_36 20 rfl rfl)
theorem dL_law_993 : decode cL_law 993 = .ok (.iadd, 1) := dk_96 (dk_at dksL_law_36 21 rfl rfl)
theorem dL_law_994 : decode cL_law 994 = .ok (.iaload, 1) := dk_46 (dk_at dksL_law_36 22 rfl rfl)
theorem dL_law_995 : decode cL_law 995 = .ok (.invokevirtual 140, 3) := dk_182 0 140 (dk_at dksL_law_37 0 rfl rfl)
theorem dL_law_998 : decode cL_law 998 = .ok (.if_icmp .eq 206, 3) := dk_159 0 206 (dk_at dksL_law_37 3 rfl rfl)
theorem dL_law_1001 : decode cL_law 1001 = .ok (.iconst 0, 1) := dk_3 (dk_at dksL_law_37 6 rfl rfl)
theorem dL_law_1002 : decode cL_law 1002 = .ok (.ireturn, 1) := dk_172 (dk_at dksL_law_37 7 rfl rfl)
theorem dL_law_1003 : decode cL_law 1003 = .ok (.aload_n 1, 1) := dk_43 (dk_at dksL_law_37 8 rfl rfl)
theorem dL_law_1004 : decode cL_law 1004 = .ok (.aload_n 0, 1) := dk_42 (dk_at dksL_law_37 9 rfl rfl)
theorem dL_law_1005 : decode cL_law 1005 = .ok (.iload_n 3, 1) := dk_29 (dk_at dksL_law_37 10 rfl rfl)
theorem dL_law_1006 : decode cL_law 1006 = .ok (.iconst 1, 1) := dk_4 (dk_at dksL_law_37 11 rfl rfl)
theorem dL_law_1007 : decode cL_law 1007 = .ok (.iadd, 1) := dk_96 (dk_at dksL_law_37 12 rfl rfl)
theorem dL_law_1008 : decode cL_law 1008 = .ok (.iaload, 1) := dk_46 (dk_at dksL_law_37 13 rfl rfl)
theorem dL_law_1009 : decode cL_law 1009 = .ok (.invokevirtual 141, 3) := dk_182 0 141 (dk_at dksL_law_37 14 rfl rfl)
theorem dL_law_1012 : decode cL_law 1012 = .ok (.aload_n 2, 1) := dk_44 (dk_at dksL_law_37 17 rfl rfl)
theorem dL_law_1013 : decode cL_law 1013 = .ok (.aload_n 0, 1) := dk_42 (dk_at dksL_law_37 18 rfl rfl)
theorem dL_law_1014 : decode cL_law 1014 = .ok (.iload_n 3, 1) := dk_29 (dk_at dksL_law_37 19 rfl rfl)
theorem dL_law_1015 : decode cL_law 1015 = .ok (.iconst 1, 1) := dk_4 (dk_at dksL_law_37 20 rfl rfl)
theorem dL_law_1016 : decode cL_law 1016 = .ok (.iadd, 1) := dk_96 (dk_at dksL_law_37 21 rfl rfl)
theorem dL_law_1017 : decode cL_law 1017 = .ok (.iaload, 1) := dk_46 (dk_at dksL_law_37 22 rfl rfl)
theorem dL_law_1018 : decode cL_law 1018 = .ok (.invokevirtual 144, 3) := dk_182 0 144 (dk_at dksL_law_38 0 rfl rfl)
theorem dL_law_1021 : decode cL_law 1021 = .ok (.if_icmp .eq 183, 3) := dk_159 0 183 (dk_at dksL_law_38 3 rfl rfl)
theorem dL_law_1024 : decode cL_law 1024 = .ok (.iconst 0, 1) := dk_3 (dk_at dksL_law_38 6 rfl rfl)
theorem dL_law_1025 : decode cL_law 1025 = .ok (.ireturn, 1) := dk_172 (dk_at dksL_law_38 7 rfl rfl)
theorem dL_law_1026 : decode cL_law 1026 = .ok (.aload_n 1, 1) := dk_43 (dk_at dksL_law_38 8 rfl rfl)
theorem dL_law_1027 : decode cL_law 1027 = .ok (.aload_n 0, 1) := dk_42 (dk_at dksL_law_38 9 rfl rfl)
theorem dL_law_1028 : decode cL_law 1028 = .ok (.iload_n 3, 1) := dk_29 (dk_at dksL_law_38 10 rfl rfl)
theorem dL_law_1029 : decode cL_law 1029 = .ok (.iconst 1, 1) := dk_4 (dk_at dksL_law_38 11 rfl rfl)
theorem dL_law_1030 : decode cL_law 1030 = .ok (.iadd, 1) := dk_96 (dk_at dksL_law_38 12 rfl rfl)
theorem dL_law_1031 : decode cL_law 1031 = .ok (.iaload, 1) := dk_46 (dk_at dksL_law_38 13 rfl rfl)
theorem dL_law_1032 : decode cL_law 1032 = .ok (.aload_n 0, 1) := dk_42 (dk_at dksL_law_38 14 rfl rfl)
theorem dL_law_1033 : decode cL_law 1033 = .ok (.iload_n 3, 1) := dk_29 (dk_at dksL_law_38 15 rfl rfl)
theorem dL_law_1034 : decode cL_law 1034 = .ok (.iconst 2, 1) := dk_5 (dk_at dksL_law_38 16 rfl rfl)
theorem dL_law_1035 : decode cL_law 1035 = .ok (.iadd, 1) := dk_96 (dk_at dksL_law_38 17 rfl rfl)
theorem dL_law_1036 : decode cL_law 1036 = .ok (.iaload, 1) := dk_46 (dk_at dksL_law_38 18 rfl rfl)
theorem dL_law_1037 : decode cL_law 1037 = .ok (.invokevirtual 145, 3) := dk_182 0 145 (dk_at dksL_law_38 19 rfl rfl)
theorem dL_law_1040 : decode cL_law 1040 = .ok (.aload_n 2, 1) := dk_44 (dk_at dksL_law_38 22 rfl rfl)
theorem dL_law_1041 : decode cL_law 1041 = .ok (.aload_n 0, 1) := dk_42 (dk_at dksL_law_38 23 rfl rfl)
theorem dL_law_1042 : decode cL_law 1042 = .ok (.iload_n 3, 1) := dk_29 (dk_at dksL_law_39 0 rfl rfl)
theorem dL_law_1043 : decode cL_law 1043 = .ok (.iconst 1, 1) := dk_4 (dk_at dksL_law_39 1 rfl rfl)
theorem dL_law_1044 : decode cL_law 1044 = .ok (.iadd, 1) := dk_96 (dk_at dksL_law_39 2 rfl rfl)
theorem dL_law_1045 : decode cL_law 1045 = .ok (.iaload, 1) := dk_46 (dk_at dksL_law_39 3 rfl rfl)
theorem dL_law_1046 : decode cL_law 1046 = .ok (.aload_n 0, 1) := dk_42 (dk_at dksL_law_39 4 rfl rfl)
theorem dL_law_1047 : decode cL_law 1047 = .ok (.iload_n 3, 1) := dk_29 (dk_at dksL_law_39 5 rfl rfl)
theorem dL_law_1048 : decode cL_law 1048 = .ok (.iconst 2, 1) := dk_5 (dk_at dksL_law_39 6 rfl rfl)
theorem dL_law_1049 : decode cL_law 1049 = .ok (.iadd, 1) := dk_96 (dk_at dksL_law_39 7 rfl rfl)
theorem dL_law_1050 : decode cL_law 1050 = .ok (.iaload, 1) := dk_46 (dk_at dksL_law_39 8 rfl rfl)
theorem dL_law_1051 : decode cL_law 1051 = .ok (.invokevirtual 148, 3) := dk_182 0 148 (dk_at dksL_law_39 9 rfl rfl)
theorem dL_law_1054 : decode cL_law 1054 = .ok (.if_icmp .eq 150, 3) := dk_159 0 150 (dk_at dksL_law_39 12 rfl rfl)
theorem dL_law_1057 : decode cL_law 1057 = .ok (.iconst 0, 1) := dk_3 (dk_at dksL_law_39 15 rfl rfl)
theorem dL_law_1058 : decode cL_law 1058 = .ok (.ireturn, 1) := dk_172 (dk_at dksL_law_39 16 rfl rfl)
theorem dL_law_1059 : decode cL_law 1059 = .ok (.aload_n 1, 1) := dk_43 (dk_at dksL_law_39 17 rfl rfl)
theorem dL_law_1060 : decode cL_law 1060 = .ok (.aload_n 0, 1) := dk_42 (dk_at dksL_law_39 18 rfl rfl)
theorem dL_law_1061 : decode cL_law 1061 = .ok (.iload_n 3, 1) := dk_29 (dk_at dksL_law_39 19 rfl rfl)
theorem dL_law_1062 : decode cL_law 1062 = .ok (.iconst 1, 1) := dk_4 (dk_at dksL_law_39 20 rfl rfl)
theorem dL_law_1063 : decode cL_law 1063 = .ok (.iadd, 1) := dk_96 (dk_at dksL_law_39 21 rfl rfl)
theorem dL_law_1064 : decode cL_law 1064 = .ok (.iaload, 1) := dk_46 (dk_at dksL_law_39 22 rfl rfl)
theorem dL_law_1065 : decode cL_law 1065 = .ok (.invokevirtual 149, 3) := dk_182 0 149 (dk_at dksL_law_40 0 rfl rfl)
theorem dL_law_1068 : decode cL_law 1068 = .ok (.aload_n 2, 1) := dk_44 (dk_at dksL_law_40 3 rfl rfl)
theorem dL_law_1069 : decode cL_law 1069 = .ok (.aload_n 0, 1) := dk_42 (dk_at dksL_law_40 4 rfl rfl)
theorem dL_law_1070 : decode cL_law 1070 = .ok (.iload_n 3, 1) := dk_29 (dk_at dksL_law_40 5 rfl rfl)
theorem dL_law_1071 : decode cL_law 1071 = .ok (.iconst 1, 1) := dk_4 (dk_at dksL_law_40 6 rfl rfl)
theorem dL_law_1072 : decode cL_law 1072 = .ok (.iadd, 1) := dk_96 (dk_at dksL_law_40 7 rfl rfl)
theorem dL_law_1073 : decode cL_law 1073 = .ok (.iaload, 1) := dk_46 (dk_at dksL_law_40 8 rfl rfl)
theorem dL_law_1074 : decode cL_law 1074 = .ok (.invokevirtual 152, 3) := dk_182 0 152 (dk_at dksL_law_40 9 rfl rfl)
theorem dL_law_1077 : decode cL_law 1077 = .ok (.if_icmp .eq 127, 3) := dk_159 0 127 (dk_at dksL_law_40 12 rfl rfl)
theorem dL_law_1080 : decode cL_law 1080 = .ok (.iconst 0, 1) := dk_3 (dk_at dksL_law_40 15 rfl rfl)
theorem dL_law_1081 : decode cL_law 1081 = .ok (.ireturn, 1) := dk_172 (dk_at dksL_law_40 16 rfl rfl)
theorem dL_law_1082 : decode cL_law 1082 = .ok (.aload_n 1, 1) := dk_43 (dk_at dksL_law_40 17 rfl rfl)
theorem dL_law_1083 : decode cL_law 1083 = .ok (.aload_n 0, 1) := dk_42 (dk_at dksL_law_40 18 rfl rfl)
theorem dL_law_1084 : decode cL_law 1084 = .ok (.iload_n 3, 1) := dk_29 (dk_at dksL_law_40 19 rfl rfl)
theorem dL_law_1085 : decode cL_law 1085 = .ok (.iconst 1, 1) := dk_4 (dk_at dksL_law_40 20 rfl rfl)
theorem dL_law_1086 : decode cL_law 1086 = .ok (.iadd, 1) := dk_96 (dk_at dksL_law_40 21 rfl rfl)
theorem dL_law_1087 : decode cL_law 1087 = .ok (.iaload, 1) := dk_46 (dk_at dksL_law_40 22 rfl rfl)
theorem dL_law_1088 : decode cL_law 1088 = .ok (.aload_n 0, 1) := dk_42 (dk_at dksL_law_40 23 rfl rfl)
theorem dL_law_1089 : decode cL_law 1089 = .ok (.iload_n 3, 1) := dk_29 (dk_at dksL_law_41 0 rfl rfl)
theorem dL_law_1090 : decode cL_law 1090 = .ok (.iconst 2, 1) := dk_5 (dk_at dksL_law_41 1 rfl rfl)
theorem dL_law_1091 : decode cL_law 1091 = .ok (.iadd, 1) := dk_96 (dk_at dksL_law_41 2 rfl rfl)
theorem dL_law_1092 : decode cL_law 1092 = .ok (.iaload, 1) := dk_46 (dk_at dksL_law_41 3 rfl rfl)
theorem dL_law_1093 : decode cL_law 1093 = .ok (.aload_n 0, 1) := dk_42 (dk_at dksL_law_41 4 rfl rfl)
theorem dL_law_1094 : decode cL_law 1094 = .ok (.iload_n 3, 1) := dk_29 (dk_at dksL_law_41 5 rfl rfl)
theorem dL_law_1095 : decode cL_law 1095 = .ok (.iconst 3, 1) := dk_6 (dk_at dksL_law_41 6 rfl rfl)
theorem dL_law_1096 : decode cL_law 1096 = .ok (.iadd, 1) := dk_96 (dk_at dksL_law_41 7 rfl rfl)
theorem dL_law_1097 : decode cL_law 1097 = .ok (.iaload, 1) := dk_46 (dk_at dksL_law_41 8 rfl rfl)
theorem dL_law_1098 : decode cL_law 1098 = .ok (.invokevirtual 153, 3) := dk_182 0 153 (dk_at dksL_law_41 9 rfl rfl)
theorem dL_law_1101 : decode cL_law 1101 = .ok (.aload_n 2, 1) := dk_44 (dk_at dksL_law_41 12 rfl rfl)
theorem dL_law_1102 : decode cL_law 1102 = .ok (.aload_n 0, 1) := dk_42 (dk_at dksL_law_41 13 rfl rfl)
theorem dL_law_1103 : decode cL_law 1103 = .ok (.iload_n 3, 1) := dk_29 (dk_at dksL_law_41 14 rfl rfl)
theorem dL_law_1104 : decode cL_law 1104 = .ok (.iconst 1, 1) := dk_4 (dk_at dksL_law_41 15 rfl rfl)
theorem dL_law_1105 : decode cL_law 1105 = .ok (.iadd, 1) := dk_96 (dk_at dksL_law_41 16 rfl rfl)
theorem dL_law_1106 : decode cL_law 1106 = .ok (.iaload, 1) := dk_46 (dk_at dksL_law_41 17 rfl rfl)
theorem dL_law_1107 : decode cL_law 1107 = .ok (.aload_n 0, 1) := dk_42 (dk_at dksL_law_41 18 rfl rfl)
theorem dL_law_1108 : decode cL_law 1108 = .ok (.iload_n 3, 1) := dk_29 (dk_at dksL_law_41 19 rfl rfl)
theorem dL_law_1109 : decode cL_law 1109 = .ok (.iconst 2, 1) := dk_5 (dk_at dksL_law_41 20 rfl rfl)
theorem dL_law_1110 : decode cL_law 1110 = .ok (.iadd, 1) := dk_96 (dk_at dksL_law_41 21 rfl rfl)
theorem dL_law_1111 : decode cL_law 1111 = .ok (.iaload, 1) := dk_46 (dk_at dksL_law_41 22 rfl rfl)
theorem dL_law_1112 : decode cL_law 1112 = .ok (.aload_n 0, 1) := dk_42 (dk_at dksL_law_41 23 rfl rfl)
theorem dL_law_1113 : decode cL_law 1113 = .ok (.iload_n 3, 1) := dk_29 (dk_at dksL_law_42 0 rfl rfl)
theorem dL_law_1114 : decode cL_law 1114 = .ok (.iconst 3, 1) := dk_6 (dk_at dksL_law_42 1 rfl rfl)
theorem dL_law_1115 : decode cL_law 1115 = .ok (.iadd, 1) := dk_96 (dk_at dksL_law_42 2 rfl rfl)
theorem dL_law_1116 : decode cL_law 1116 = .ok (.iaload, 1) := dk_46 (dk_at dksL_law_42 3 rfl rfl)
theorem dL_law_1117 : decode cL_law 1117 = .ok (.invokevirtual 156, 3) := dk_182 0 156 (dk_at dksL_law_42 4 rfl rfl)
theorem dL_law_1120 : decode cL_law 1120 = .ok (.if_icmp .eq 84, 3) := dk_159 0 84 (dk_at dksL_law_42 7 rfl rfl)
theorem dL_law_1123 : decode cL_law 1123 = .ok (.iconst 0, 1) := dk_3 (dk_at dksL_law_42 10 rfl rfl)
theorem dL_law_1124 : decode cL_law 1124 = .ok (.ireturn, 1) := dk_172 (dk_at dksL_law_42 11 rfl rfl)
theorem dL_law_1125 : decode cL_law 1125 = .ok (.aload_n 1, 1) := dk_43 (dk_at dksL_law_42 12 rfl rfl)
theorem dL_law_1126 : decode cL_law 1126 = .ok (.aload_n 0, 1) := dk_42 (dk_at dksL_law_42 13 rfl rfl)
theorem dL_law_1127 : decode cL_law 1127 = .ok (.iload_n 3, 1) := dk_29 (dk_at dksL_law_42 14 rfl rfl)
theorem dL_law_1128 : decode cL_law 1128 = .ok (.iconst 1, 1) := dk_4 (dk_at dksL_law_42 15 rfl rfl)
theorem dL_law_1129 : decode cL_law 1129 = .ok (.iadd, 1) := dk_96 (dk_at dksL_law_42 16 rfl rfl)
theorem dL_law_1130 : decode cL_law 1130 = .ok (.iaload, 1) := dk_46 (dk_at dksL_law_42 17 rfl rfl)
theorem dL_law_1131 : decode cL_law 1131 = .ok (.aload_n 0, 1) := dk_42 (dk_at dksL_law_42 18 rfl rfl)
theorem dL_law_1132 : decode cL_law 1132 = .ok (.iload_n 3, 1) := dk_29 (dk_at dksL_law_42 19 rfl rfl)
theorem dL_law_1133 : decode cL_law 1133 = .ok (.iconst 2, 1) := dk_5 (dk_at dksL_law_42 20 rfl rfl)
theorem dL_law_1134 : decode cL_law 1134 = .ok (.iadd, 1) := dk_96 (dk_at dksL_law_42 21 rfl rfl)
theorem dL_law_1135 : decode cL_law 1135 = .ok (.iaload, 1) := dk_46 (dk_at dksL_law_42 22 rfl rfl)
theorem dL_law_1136 : decode cL_law 1136 = .ok (.invokevirtual 157, 3) := dk_182 0 157 (dk_at dksL_law_43 0 rfl rfl)
theorem dL_law_1139 : decode cL_law 1139 = .ok (.aload_n 2, 1) := dk_44 (dk_at dksL_law_43 3 rfl rfl)
theorem dL_law_1140 : decode cL_law 1140 = .ok (.aload_n 0, 1) := dk_42 (dk_at dksL_law_43 4 rfl rfl)
theorem dL_law_1141 : decode cL_law 1141 = .ok (.iload_n 3, 1) := dk_29 (dk_at dksL_law_43 5 rfl rfl)
theorem dL_law_1142 : decode cL_law 1142 = .ok (.iconst 1, 1) := dk_4 (dk_at dksL_law_43 6 rfl rfl)
theorem dL_law_1143 : decode cL_law 1143 = .ok (.iadd, 1) := dk_96 (dk_at dksL_law_43 7 rfl rfl)
theorem dL_law_1144 : decode cL_law 1144 = .ok (.iaload, 1) := dk_46 (dk_at dksL_law_43 8 rfl rfl)
theorem dL_law_1145 : decode cL_law 1145 = .ok (.aload_n 0, 1) := dk_42 (dk_at dksL_law_43 9 rfl rfl)
theorem dL_law_1146 : decode cL_law 1146 = .ok (.iload_n 3, 1) := dk_29 (dk_at dksL_law_43 10 rfl rfl)
theorem dL_law_1147 : decode cL_law 1147 = .ok (.iconst 2, 1) := dk_5 (dk_at dksL_law_43 11 rfl rfl)
theorem dL_law_1148 : decode cL_law 1148 = .ok (.iadd, 1) := dk_96 (dk_at dksL_law_43 12 rfl rfl)
theorem dL_law_1149 : decode cL_law 1149 = .ok (.iaload, 1) := dk_46 (dk_at dksL_law_43 13 rfl rfl)
theorem dL_law_1150 : decode cL_law 1150 = .ok (.invokevirtual 160, 3) := dk_182 0 160 (dk_at dksL_law_43 14 rfl rfl)
theorem dL_law_1153 : decode cL_law 1153 = .ok (.if_icmp .eq 51, 3) := dk_159 0 51 (dk_at dksL_law_43 17 rfl rfl)
theorem dL_law_1156 : decode cL_law 1156 = .ok (.iconst 0, 1) := dk_3 (dk_at dksL_law_43 20 rfl rfl)
theorem dL_law_1157 : decode cL_law 1157 = .ok (.ireturn, 1) := dk_172 (dk_at dksL_law_43 21 rfl rfl)
theorem dL_law_1158 : decode cL_law 1158 = .ok (.aload_n 1, 1) := dk_43 (dk_at dksL_law_43 22 rfl rfl)
theorem dL_law_1159 : decode cL_law 1159 = .ok (.invokevirtual 161, 3) := dk_182 0 161 (dk_at dksL_law_44 0 rfl rfl)
theorem dL_law_1162 : decode cL_law 1162 = .ok (.aload_n 2, 1) := dk_44 (dk_at dksL_law_44 3 rfl rfl)
theorem dL_law_1163 : decode cL_law 1163 = .ok (.invokevirtual 164, 3) := dk_182 0 164 (dk_at dksL_law_44 4 rfl rfl)
theorem dL_law_1166 : decode cL_law 1166 = .ok (.if_icmp .eq 38, 3) := dk_159 0 38 (dk_at dksL_law_44 7 rfl rfl)
theorem dL_law_1169 : decode cL_law 1169 = .ok (.iconst 0, 1) := dk_3 (dk_at dksL_law_44 10 rfl rfl)
theorem dL_law_1170 : decode cL_law 1170 = .ok (.ireturn, 1) := dk_172 (dk_at dksL_law_44 11 rfl rfl)
theorem dL_law_1171 : decode cL_law 1171 = .ok (.aload_n 1, 1) := dk_43 (dk_at dksL_law_44 12 rfl rfl)
theorem dL_law_1172 : decode cL_law 1172 = .ok (.aload_n 0, 1) := dk_42 (dk_at dksL_law_44 13 rfl rfl)
theorem dL_law_1173 : decode cL_law 1173 = .ok (.iload_n 3, 1) := dk_29 (dk_at dksL_law_44 14 rfl rfl)
theorem dL_law_1174 : decode cL_law 1174 = .ok (.iconst 1, 1) := dk_4 (dk_at dksL_law_44 15 rfl rfl)
theorem dL_law_1175 : decode cL_law 1175 = .ok (.iadd, 1) := dk_96 (dk_at dksL_law_44 16 rfl rfl)
theorem dL_law_1176 : decode cL_law 1176 = .ok (.iaload, 1) := dk_46 (dk_at dksL_law_44 17 rfl rfl)
theorem dL_law_1177 : decode cL_law 1177 = .ok (.aload_n 0, 1) := dk_42 (dk_at dksL_law_44 18 rfl rfl)
theorem dL_law_1178 : decode cL_law 1178 = .ok (.iload_n 3, 1) := dk_29 (dk_at dksL_law_44 19 rfl rfl)
theorem dL_law_1179 : decode cL_law 1179 = .ok (.iconst 2, 1) := dk_5 (dk_at dksL_law_44 20 rfl rfl)
theorem dL_law_1180 : decode cL_law 1180 = .ok (.iadd, 1) := dk_96 (dk_at dksL_law_44 21 rfl rfl)
theorem dL_law_1181 : decode cL_law 1181 = .ok (.iaload, 1) := dk_46 (dk_at dksL_law_44 22 rfl rfl)
theorem dL_law_1182 : decode cL_law 1182 = .ok (.invokevirtual 165, 3) := dk_182 0 165 (dk_at dksL_law_45 0 rfl rfl)
theorem dL_law_1185 : decode cL_law 1185 = .ok (.aload_n 2, 1) := dk_44 (dk_at dksL_law_45 3 rfl rfl)
theorem dL_law_1186 : decode cL_law 1186 = .ok (.aload_n 0, 1) := dk_42 (dk_at dksL_law_45 4 rfl rfl)
theorem dL_law_1187 : decode cL_law 1187 = .ok (.iload_n 3, 1) := dk_29 (dk_at dksL_law_45 5 rfl rfl)
theorem dL_law_1188 : decode cL_law 1188 = .ok (.iconst 1, 1) := dk_4 (dk_at dksL_law_45 6 rfl rfl)
theorem dL_law_1189 : decode cL_law 1189 = .ok (.iadd, 1) := dk_96 (dk_at dksL_law_45 7 rfl rfl)
theorem dL_law_1190 : decode cL_law 1190 = .ok (.iaload, 1) := dk_46 (dk_at dksL_law_45 8 rfl rfl)
theorem dL_law_1191 : decode cL_law 1191 = .ok (.aload_n 0, 1) := dk_42 (dk_at dksL_law_45 9 rfl rfl)
theorem dL_law_1192 : decode cL_law 1192 = .ok (.iload_n 3, 1) := dk_29 (dk_at dksL_law_45 10 rfl rfl)
theorem dL_law_1193 : decode cL_law 1193 = .ok (.iconst 2, 1) := dk_5 (dk_at dksL_law_45 11 rfl rfl)
theorem dL_law_1194 : decode cL_law 1194 = .ok (.iadd, 1) := dk_96 (dk_at dksL_law_45 12 rfl rfl)
theorem dL_law_1195 : decode cL_law 1195 = .ok (.iaload, 1) := dk_46 (dk_at dksL_law_45 13 rfl rfl)
theorem dL_law_1196 : decode cL_law 1196 = .ok (.invokevirtual 168, 3) := dk_182 0 168 (dk_at dksL_law_45 14 rfl rfl)
theorem dL_law_1199 : decode cL_law 1199 = .ok (.if_icmp .eq 5, 3) := dk_159 0 5 (dk_at dksL_law_45 17 rfl rfl)
theorem dL_law_1202 : decode cL_law 1202 = .ok (.iconst 0, 1) := dk_3 (dk_at dksL_law_45 20 rfl rfl)
theorem dL_law_1203 : decode cL_law 1203 = .ok (.ireturn, 1) := dk_172 (dk_at dksL_law_45 21 rfl rfl)
theorem dL_law_1204 : decode cL_law 1204 = .ok (.iinc 3 4, 3) := dk_132 3 4 (dk_at dksL_law_46 0 rfl rfl)
theorem dL_law_1207 : decode cL_law 1207 = .ok (.goto (-1189), 3) := dk_167 251 91 (dk_at dksL_law_46 3 rfl rfl)
theorem dL_law_1210 : decode cL_law 1210 = .ok (.iconst 1, 1) := dk_4 (dk_at dksL_law_46 6 rfl rfl)
theorem dL_law_1211 : decode cL_law 1211 = .ok (.ireturn, 1) := dk_172 (dk_at dksL_law_46 7 rfl rfl)
