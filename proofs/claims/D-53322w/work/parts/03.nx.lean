/-! EdgeSums -/
set_option maxRecDepth 100000
def RX0 : String := "EdgeSums"
def TX0 : u_T := fun k => match k with
  | 0 => ("EdgeSums", "state", "LEdgeSums$State;", false)
  | 1 => ("EdgeSums", "history", "Ljava/util/ArrayDeque;", true)
  | 2 => ("EdgeSums", "text", "Ljava/lang/StringBuilder;", true)
  | _ => ("EdgeSums", "solver", "LEdgeSums$Solver;", true)
def tyX0 : Nat → FieldType := fun k => match k with
  | 0 => .object "EdgeSums$State"
  | 1 => .object "java/util/ArrayDeque"
  | 2 => .object "java/lang/StringBuilder"
  | _ => .object "EdgeSums$Solver"
abbrev wsX00 : List Cond := u_ws RX0 TX0 4
theorem nmX0 : ∀ a, a < 4 → ∀ b, b < 4 → a ≠ b → (TX0 a).2.1 ≠ (TX0 b).2.1 := by decide +kernel
theorem tyX0_ok : ∀ k, k < 4 → parseFieldDescriptor (TX0 k).2.2.1 = some (tyX0 k) := by decide +kernel
abbrev cX0_init : ByteArray := prog_1_method_5_code
def yX0_init : MethodName := ⟨RX0, "<init>", "()V"⟩
def dkwX0_init_2 : List UInt8 := [89, 183, 0, 46, 181, 0, 47, 42, 187, 0, 51, 89, 183, 0, 53, 181, 0, 54, 177]
abbrev dktX0_init_2 : List UInt8 := dkwX0_init_2 ++ []
def dkwX0_init_1 : List UInt8 := [183, 0, 27, 183, 0, 30, 181, 0, 33, 42, 187, 0, 37, 89, 183, 0, 39, 181, 0, 40, 42, 187, 0, 44]
abbrev dktX0_init_1 : List UInt8 := dkwX0_init_1 ++ dktX0_init_2
def dkwX0_init_0 : List UInt8 := [42, 183, 0, 12, 42, 187, 0, 18, 89, 187, 0, 20, 89, 187, 0, 22, 89, 6, 6, 183, 0, 24]
abbrev dktX0_init_0 : List UInt8 := dkwX0_init_0 ++ dktX0_init_1
theorem dksX0_init_0 : cX0_init.data.toList.drop 0 = dktX0_init_0 := by decide +kernel
theorem dksX0_init_1 : cX0_init.data.toList.drop 22 = dktX0_init_1 := dk_seg dksX0_init_0 22 rfl rfl
theorem dksX0_init_2 : cX0_init.data.toList.drop 46 = dktX0_init_2 := dk_seg dksX0_init_1 24 rfl rfl
theorem dX0_init_0 : decode cX0_init 0 = .ok (.aload_n 0, 1) := dk_42 (dk_at dksX0_init_0 0 rfl rfl)
theorem dX0_init_1 : decode cX0_init 1 = .ok (.invokespecial 12, 3) := dk_183 0 12 (dk_at dksX0_init_0 1 rfl rfl)
theorem dX0_init_4 : decode cX0_init 4 = .ok (.aload_n 0, 1) := dk_42 (dk_at dksX0_init_0 4 rfl rfl)
theorem dX0_init_5 : decode cX0_init 5 = .ok (.new 18, 3) := dk_187 0 18 (dk_at dksX0_init_0 5 rfl rfl)
theorem dX0_init_8 : decode cX0_init 8 = .ok (.dup, 1) := dk_89 (dk_at dksX0_init_0 8 rfl rfl)
theorem dX0_init_9 : decode cX0_init 9 = .ok (.new 20, 3) := dk_187 0 20 (dk_at dksX0_init_0 9 rfl rfl)
theorem dX0_init_12 : decode cX0_init 12 = .ok (.dup, 1) := dk_89 (dk_at dksX0_init_0 12 rfl rfl)
theorem dX0_init_13 : decode cX0_init 13 = .ok (.new 22, 3) := dk_187 0 22 (dk_at dksX0_init_0 13 rfl rfl)
theorem dX0_init_16 : decode cX0_init 16 = .ok (.dup, 1) := dk_89 (dk_at dksX0_init_0 16 rfl rfl)
theorem dX0_init_17 : decode cX0_init 17 = .ok (.iconst 3, 1) := dk_6 (dk_at dksX0_init_0 17 rfl rfl)
theorem dX0_init_18 : decode cX0_init 18 = .ok (.iconst 3, 1) := dk_6 (dk_at dksX0_init_0 18 rfl rfl)
theorem dX0_init_19 : decode cX0_init 19 = .ok (.invokespecial 24, 3) := dk_183 0 24 (dk_at dksX0_init_0 19 rfl rfl)
theorem dX0_init_22 : decode cX0_init 22 = .ok (.invokespecial 27, 3) := dk_183 0 27 (dk_at dksX0_init_1 0 rfl rfl)
theorem dX0_init_25 : decode cX0_init 25 = .ok (.invokespecial 30, 3) := dk_183 0 30 (dk_at dksX0_init_1 3 rfl rfl)
theorem dX0_init_28 : decode cX0_init 28 = .ok (.putfield 33, 3) := dk_181 0 33 (dk_at dksX0_init_1 6 rfl rfl)
theorem dX0_init_31 : decode cX0_init 31 = .ok (.aload_n 0, 1) := dk_42 (dk_at dksX0_init_1 9 rfl rfl)
theorem dX0_init_32 : decode cX0_init 32 = .ok (.new 37, 3) := dk_187 0 37 (dk_at dksX0_init_1 10 rfl rfl)
theorem dX0_init_35 : decode cX0_init 35 = .ok (.dup, 1) := dk_89 (dk_at dksX0_init_1 13 rfl rfl)
theorem dX0_init_36 : decode cX0_init 36 = .ok (.invokespecial 39, 3) := dk_183 0 39 (dk_at dksX0_init_1 14 rfl rfl)
theorem dX0_init_39 : decode cX0_init 39 = .ok (.putfield 40, 3) := dk_181 0 40 (dk_at dksX0_init_1 17 rfl rfl)
theorem dX0_init_42 : decode cX0_init 42 = .ok (.aload_n 0, 1) := dk_42 (dk_at dksX0_init_1 20 rfl rfl)
theorem dX0_init_43 : decode cX0_init 43 = .ok (.new 44, 3) := dk_187 0 44 (dk_at dksX0_init_1 21 rfl rfl)
theorem dX0_init_46 : decode cX0_init 46 = .ok (.dup, 1) := dk_89 (dk_at dksX0_init_2 0 rfl rfl)
theorem dX0_init_47 : decode cX0_init 47 = .ok (.invokespecial 46, 3) := dk_183 0 46 (dk_at dksX0_init_2 1 rfl rfl)
theorem dX0_init_50 : decode cX0_init 50 = .ok (.putfield 47, 3) := dk_181 0 47 (dk_at dksX0_init_2 4 rfl rfl)
theorem dX0_init_53 : decode cX0_init 53 = .ok (.aload_n 0, 1) := dk_42 (dk_at dksX0_init_2 7 rfl rfl)
theorem dX0_init_54 : decode cX0_init 54 = .ok (.new 51, 3) := dk_187 0 51 (dk_at dksX0_init_2 8 rfl rfl)
theorem dX0_init_57 : decode cX0_init 57 = .ok (.dup, 1) := dk_89 (dk_at dksX0_init_2 11 rfl rfl)
theorem dX0_init_58 : decode cX0_init 58 = .ok (.invokespecial 53, 3) := dk_183 0 53 (dk_at dksX0_init_2 12 rfl rfl)
theorem dX0_init_61 : decode cX0_init 61 = .ok (.putfield 54, 3) := dk_181 0 54 (dk_at dksX0_init_2 15 rfl rfl)
theorem dX0_init_64 : decode cX0_init 64 = .ok (.return_, 1) := dk_177 (dk_at dksX0_init_2 18 rfl rfl)
abbrev cX0_sheet : ByteArray := prog_1_method_6_code
def yX0_sheet : MethodName := ⟨RX0, "sheet", "()LEdgeSums$Sheet;"⟩
def dkwX0_sheet_0 : List UInt8 := [42, 180, 0, 33, 180, 0, 58, 176]
abbrev dktX0_sheet_0 : List UInt8 := dkwX0_sheet_0 ++ []
theorem dksX0_sheet_0 : cX0_sheet.data.toList.drop 0 = dktX0_sheet_0 := by decide +kernel
theorem dX0_sheet_0 : decode cX0_sheet 0 = .ok (.aload_n 0, 1) := dk_42 (dk_at dksX0_sheet_0 0 rfl rfl)
theorem dX0_sheet_1 : decode cX0_sheet 1 = .ok (.getfield 33, 3) := dk_180 0 33 (dk_at dksX0_sheet_0 1 rfl rfl)
theorem dX0_sheet_4 : decode cX0_sheet 4 = .ok (.getfield 58, 3) := dk_180 0 58 (dk_at dksX0_sheet_0 4 rfl rfl)
theorem dX0_sheet_7 : decode cX0_sheet 7 = .ok (.areturn, 1) := dk_176 (dk_at dksX0_sheet_0 7 rfl rfl)
abbrev cX0_has : ByteArray := prog_1_method_2_code
def yX0_has : MethodName := ⟨RX0, "has", "(II)Z"⟩
def dkwX0_has_0 : List UInt8 := [26, 27, 122, 4, 126, 4, 160, 0, 7, 4, 167, 0, 4, 3, 172]
abbrev dktX0_has_0 : List UInt8 := dkwX0_has_0 ++ []
theorem dksX0_has_0 : cX0_has.data.toList.drop 0 = dktX0_has_0 := by decide +kernel
theorem dX0_has_0 : decode cX0_has 0 = .ok (.iload_n 0, 1) := dk_26 (dk_at dksX0_has_0 0 rfl rfl)
theorem dX0_has_1 : decode cX0_has 1 = .ok (.iload_n 1, 1) := dk_27 (dk_at dksX0_has_0 1 rfl rfl)
theorem dX0_has_2 : decode cX0_has 2 = .ok (.ishr, 1) := dk_122 (dk_at dksX0_has_0 2 rfl rfl)
theorem dX0_has_3 : decode cX0_has 3 = .ok (.iconst 1, 1) := dk_4 (dk_at dksX0_has_0 3 rfl rfl)
theorem dX0_has_4 : decode cX0_has 4 = .ok (.iand, 1) := dk_126 (dk_at dksX0_has_0 4 rfl rfl)
theorem dX0_has_5 : decode cX0_has 5 = .ok (.iconst 1, 1) := dk_4 (dk_at dksX0_has_0 5 rfl rfl)
theorem dX0_has_6 : decode cX0_has 6 = .ok (.if_icmp .ne 7, 3) := dk_160 0 7 (dk_at dksX0_has_0 6 rfl rfl)
theorem dX0_has_9 : decode cX0_has 9 = .ok (.iconst 1, 1) := dk_4 (dk_at dksX0_has_0 9 rfl rfl)
theorem dX0_has_10 : decode cX0_has 10 = .ok (.goto 4, 3) := dk_167 0 4 (dk_at dksX0_has_0 10 rfl rfl)
theorem dX0_has_13 : decode cX0_has 13 = .ok (.iconst 0, 1) := dk_3 (dk_at dksX0_has_0 13 rfl rfl)
theorem dX0_has_14 : decode cX0_has 14 = .ok (.ireturn, 1) := dk_172 (dk_at dksX0_has_0 14 rfl rfl)
abbrev cX0_setPage : ByteArray := prog_1_method_13_code
def yX0_setPage : MethodName := ⟨RX0, "setPage", "(II)I"⟩
def dkwX0_setPage_1 : List UInt8 := [183, 0, 24, 184, 0, 108, 167, 0, 4, 2, 172]
abbrev dktX0_setPage_1 : List UInt8 := dkwX0_setPage_1 ++ []
def dkwX0_setPage_0 : List UInt8 := [27, 184, 0, 100, 153, 0, 29, 28, 184, 0, 100, 153, 0, 22, 42, 182, 0, 104, 187, 0, 22, 89, 27, 28]
abbrev dktX0_setPage_0 : List UInt8 := dkwX0_setPage_0 ++ dktX0_setPage_1
theorem dksX0_setPage_0 : cX0_setPage.data.toList.drop 0 = dktX0_setPage_0 := by decide +kernel
theorem dksX0_setPage_1 : cX0_setPage.data.toList.drop 24 = dktX0_setPage_1 := dk_seg dksX0_setPage_0 24 rfl rfl
theorem dX0_setPage_0 : decode cX0_setPage 0 = .ok (.iload_n 1, 1) := dk_27 (dk_at dksX0_setPage_0 0 rfl rfl)
theorem dX0_setPage_1 : decode cX0_setPage 1 = .ok (.invokestatic 100, 3) := dk_184 0 100 (dk_at dksX0_setPage_0 1 rfl rfl)
theorem dX0_setPage_4 : decode cX0_setPage 4 = .ok (.ifCond .eq 29, 3) := dk_153 0 29 (dk_at dksX0_setPage_0 4 rfl rfl)
theorem dX0_setPage_7 : decode cX0_setPage 7 = .ok (.iload_n 2, 1) := dk_28 (dk_at dksX0_setPage_0 7 rfl rfl)
theorem dX0_setPage_8 : decode cX0_setPage 8 = .ok (.invokestatic 100, 3) := dk_184 0 100 (dk_at dksX0_setPage_0 8 rfl rfl)
theorem dX0_setPage_11 : decode cX0_setPage 11 = .ok (.ifCond .eq 22, 3) := dk_153 0 22 (dk_at dksX0_setPage_0 11 rfl rfl)
theorem dX0_setPage_14 : decode cX0_setPage 14 = .ok (.aload_n 0, 1) := dk_42 (dk_at dksX0_setPage_0 14 rfl rfl)
theorem dX0_setPage_15 : decode cX0_setPage 15 = .ok (.invokevirtual 104, 3) := dk_182 0 104 (dk_at dksX0_setPage_0 15 rfl rfl)
theorem dX0_setPage_18 : decode cX0_setPage 18 = .ok (.new 22, 3) := dk_187 0 22 (dk_at dksX0_setPage_0 18 rfl rfl)
theorem dX0_setPage_21 : decode cX0_setPage 21 = .ok (.dup, 1) := dk_89 (dk_at dksX0_setPage_0 21 rfl rfl)
theorem dX0_setPage_22 : decode cX0_setPage 22 = .ok (.iload_n 1, 1) := dk_27 (dk_at dksX0_setPage_0 22 rfl rfl)
theorem dX0_setPage_23 : decode cX0_setPage 23 = .ok (.iload_n 2, 1) := dk_28 (dk_at dksX0_setPage_0 23 rfl rfl)
theorem dX0_setPage_24 : decode cX0_setPage 24 = .ok (.invokespecial 24, 3) := dk_183 0 24 (dk_at dksX0_setPage_1 0 rfl rfl)
theorem dX0_setPage_27 : decode cX0_setPage 27 = .ok (.invokestatic 108, 3) := dk_184 0 108 (dk_at dksX0_setPage_1 3 rfl rfl)
theorem dX0_setPage_30 : decode cX0_setPage 30 = .ok (.goto 4, 3) := dk_167 0 4 (dk_at dksX0_setPage_1 6 rfl rfl)
theorem dX0_setPage_33 : decode cX0_setPage 33 = .ok (.iconst (-1), 1) := dk_2 (dk_at dksX0_setPage_1 9 rfl rfl)
theorem dX0_setPage_34 : decode cX0_setPage 34 = .ok (.ireturn, 1) := dk_172 (dk_at dksX0_setPage_1 10 rfl rfl)
abbrev cX0_isSide : ByteArray := prog_1_method_11_code
def yX0_isSide : MethodName := ⟨RX0, "isSide", "(I)Z"⟩
def dkwX0_isSide_0 : List UInt8 := [26, 5, 8, 184, 0, 90, 172]
abbrev dktX0_isSide_0 : List UInt8 := dkwX0_isSide_0 ++ []
theorem dksX0_isSide_0 : cX0_isSide.data.toList.drop 0 = dktX0_isSide_0 := by decide +kernel
theorem dX0_isSide_0 : decode cX0_isSide 0 = .ok (.iload_n 0, 1) := dk_26 (dk_at dksX0_isSide_0 0 rfl rfl)
theorem dX0_isSide_1 : decode cX0_isSide 1 = .ok (.iconst 2, 1) := dk_5 (dk_at dksX0_isSide_0 1 rfl rfl)
theorem dX0_isSide_2 : decode cX0_isSide 2 = .ok (.iconst 5, 1) := dk_8 (dk_at dksX0_isSide_0 2 rfl rfl)
theorem dX0_isSide_3 : decode cX0_isSide 3 = .ok (.invokestatic 90, 3) := dk_184 0 90 (dk_at dksX0_isSide_0 3 rfl rfl)
theorem dX0_isSide_6 : decode cX0_isSide 6 = .ok (.ireturn, 1) := dk_172 (dk_at dksX0_isSide_0 6 rfl rfl)
abbrev cX0_isBetween : ByteArray := prog_1_method_1_code
def yX0_isBetween : MethodName := ⟨RX0, "isBetween", "(III)Z"⟩
def dkwX0_isBetween_0 : List UInt8 := [26, 27, 161, 0, 12, 26, 28, 163, 0, 7, 4, 167, 0, 4, 3, 172]
abbrev dktX0_isBetween_0 : List UInt8 := dkwX0_isBetween_0 ++ []
theorem dksX0_isBetween_0 : cX0_isBetween.data.toList.drop 0 = dktX0_isBetween_0 := by decide +kernel
theorem dX0_isBetween_0 : decode cX0_isBetween 0 = .ok (.iload_n 0, 1) := dk_26 (dk_at dksX0_isBetween_0 0 rfl rfl)
theorem dX0_isBetween_1 : decode cX0_isBetween 1 = .ok (.iload_n 1, 1) := dk_27 (dk_at dksX0_isBetween_0 1 rfl rfl)
theorem dX0_isBetween_2 : decode cX0_isBetween 2 = .ok (.if_icmp .lt 12, 3) := dk_161 0 12 (dk_at dksX0_isBetween_0 2 rfl rfl)
theorem dX0_isBetween_5 : decode cX0_isBetween 5 = .ok (.iload_n 0, 1) := dk_26 (dk_at dksX0_isBetween_0 5 rfl rfl)
theorem dX0_isBetween_6 : decode cX0_isBetween 6 = .ok (.iload_n 2, 1) := dk_28 (dk_at dksX0_isBetween_0 6 rfl rfl)
theorem dX0_isBetween_7 : decode cX0_isBetween 7 = .ok (.if_icmp .gt 7, 3) := dk_163 0 7 (dk_at dksX0_isBetween_0 7 rfl rfl)
theorem dX0_isBetween_10 : decode cX0_isBetween 10 = .ok (.iconst 1, 1) := dk_4 (dk_at dksX0_isBetween_0 10 rfl rfl)
theorem dX0_isBetween_11 : decode cX0_isBetween 11 = .ok (.goto 4, 3) := dk_167 0 4 (dk_at dksX0_isBetween_0 11 rfl rfl)
theorem dX0_isBetween_14 : decode cX0_isBetween 14 = .ok (.iconst 0, 1) := dk_3 (dk_at dksX0_isBetween_0 14 rfl rfl)
theorem dX0_isBetween_15 : decode cX0_isBetween 15 = .ok (.ireturn, 1) := dk_172 (dk_at dksX0_isBetween_0 15 rfl rfl)
abbrev cX0_act : ByteArray := prog_1_method_10_code
def yX0_act : MethodName := ⟨RX0, "act", "()LEdgeSums$Sheet;"⟩
def dkwX0_act_0 : List UInt8 := [42, 42, 180, 0, 33, 182, 0, 82, 182, 0, 86, 42, 180, 0, 33, 180, 0, 58, 176]
abbrev dktX0_act_0 : List UInt8 := dkwX0_act_0 ++ []
theorem dksX0_act_0 : cX0_act.data.toList.drop 0 = dktX0_act_0 := by decide +kernel
theorem dX0_act_0 : decode cX0_act 0 = .ok (.aload_n 0, 1) := dk_42 (dk_at dksX0_act_0 0 rfl rfl)
theorem dX0_act_1 : decode cX0_act 1 = .ok (.aload_n 0, 1) := dk_42 (dk_at dksX0_act_0 1 rfl rfl)
theorem dX0_act_2 : decode cX0_act 2 = .ok (.getfield 33, 3) := dk_180 0 33 (dk_at dksX0_act_0 2 rfl rfl)
theorem dX0_act_5 : decode cX0_act 5 = .ok (.invokevirtual 82, 3) := dk_182 0 82 (dk_at dksX0_act_0 5 rfl rfl)
theorem dX0_act_8 : decode cX0_act 8 = .ok (.invokevirtual 86, 3) := dk_182 0 86 (dk_at dksX0_act_0 8 rfl rfl)
theorem dX0_act_11 : decode cX0_act 11 = .ok (.aload_n 0, 1) := dk_42 (dk_at dksX0_act_0 11 rfl rfl)
theorem dX0_act_12 : decode cX0_act 12 = .ok (.getfield 33, 3) := dk_180 0 33 (dk_at dksX0_act_0 12 rfl rfl)
theorem dX0_act_15 : decode cX0_act 15 = .ok (.getfield 58, 3) := dk_180 0 58 (dk_at dksX0_act_0 15 rfl rfl)
theorem dX0_act_18 : decode cX0_act 18 = .ok (.areturn, 1) := dk_176 (dk_at dksX0_act_0 18 rfl rfl)
abbrev cX0_replace : ByteArray := prog_1_method_9_code
def yX0_replace : MethodName := ⟨RX0, "replace", "(LEdgeSums$State;)V"⟩
def dkwX0_replace_1 : List UInt8 := [180, 0, 40, 42, 180, 0, 33, 182, 0, 78, 42, 43, 181, 0, 33, 177]
abbrev dktX0_replace_1 : List UInt8 := dkwX0_replace_1 ++ []
def dkwX0_replace_0 : List UInt8 := [42, 180, 0, 40, 182, 0, 70, 8, 160, 0, 14, 42, 180, 0, 40, 182, 0, 74, 192, 0, 18, 77, 42]
abbrev dktX0_replace_0 : List UInt8 := dkwX0_replace_0 ++ dktX0_replace_1
theorem dksX0_replace_0 : cX0_replace.data.toList.drop 0 = dktX0_replace_0 := by decide +kernel
theorem dksX0_replace_1 : cX0_replace.data.toList.drop 23 = dktX0_replace_1 := dk_seg dksX0_replace_0 23 rfl rfl
theorem dX0_replace_0 : decode cX0_replace 0 = .ok (.aload_n 0, 1) := dk_42 (dk_at dksX0_replace_0 0 rfl rfl)
theorem dX0_replace_1 : decode cX0_replace 1 = .ok (.getfield 40, 3) := dk_180 0 40 (dk_at dksX0_replace_0 1 rfl rfl)
theorem dX0_replace_4 : decode cX0_replace 4 = .ok (.invokevirtual 70, 3) := dk_182 0 70 (dk_at dksX0_replace_0 4 rfl rfl)
theorem dX0_replace_7 : decode cX0_replace 7 = .ok (.iconst 5, 1) := dk_8 (dk_at dksX0_replace_0 7 rfl rfl)
theorem dX0_replace_8 : decode cX0_replace 8 = .ok (.if_icmp .ne 14, 3) := dk_160 0 14 (dk_at dksX0_replace_0 8 rfl rfl)
theorem dX0_replace_11 : decode cX0_replace 11 = .ok (.aload_n 0, 1) := dk_42 (dk_at dksX0_replace_0 11 rfl rfl)
theorem dX0_replace_12 : decode cX0_replace 12 = .ok (.getfield 40, 3) := dk_180 0 40 (dk_at dksX0_replace_0 12 rfl rfl)
theorem dX0_replace_15 : decode cX0_replace 15 = .ok (.invokevirtual 74, 3) := dk_182 0 74 (dk_at dksX0_replace_0 15 rfl rfl)
theorem dX0_replace_18 : decode cX0_replace 18 = .ok (.checkcast 18, 3) := dk_192 0 18 (dk_at dksX0_replace_0 18 rfl rfl)
theorem dX0_replace_21 : decode cX0_replace 21 = .ok (.astore_n 2, 1) := dk_77 (dk_at dksX0_replace_0 21 rfl rfl)
theorem dX0_replace_22 : decode cX0_replace 22 = .ok (.aload_n 0, 1) := dk_42 (dk_at dksX0_replace_0 22 rfl rfl)
theorem dX0_replace_23 : decode cX0_replace 23 = .ok (.getfield 40, 3) := dk_180 0 40 (dk_at dksX0_replace_1 0 rfl rfl)
theorem dX0_replace_26 : decode cX0_replace 26 = .ok (.aload_n 0, 1) := dk_42 (dk_at dksX0_replace_1 3 rfl rfl)
theorem dX0_replace_27 : decode cX0_replace 27 = .ok (.getfield 33, 3) := dk_180 0 33 (dk_at dksX0_replace_1 4 rfl rfl)
theorem dX0_replace_30 : decode cX0_replace 30 = .ok (.invokevirtual 78, 3) := dk_182 0 78 (dk_at dksX0_replace_1 7 rfl rfl)
theorem dX0_replace_33 : decode cX0_replace 33 = .ok (.aload_n 0, 1) := dk_42 (dk_at dksX0_replace_1 10 rfl rfl)
theorem dX0_replace_34 : decode cX0_replace 34 = .ok (.aload_n 1, 1) := dk_43 (dk_at dksX0_replace_1 11 rfl rfl)
theorem dX0_replace_35 : decode cX0_replace 35 = .ok (.putfield 33, 3) := dk_181 0 33 (dk_at dksX0_replace_1 12 rfl rfl)
theorem dX0_replace_38 : decode cX0_replace 38 = .ok (.return_, 1) := dk_177 (dk_at dksX0_replace_1 15 rfl rfl)
abbrev cX0_lay : ByteArray := prog_1_method_12_code
def yX0_lay : MethodName := ⟨RX0, "lay", "(LEdgeSums$Sheet;LEdgeSums$Page;)I"⟩
def dkwX0_lay_0 : List UInt8 := [42, 43, 181, 0, 62, 42, 182, 0, 94, 43, 182, 0, 97, 172]
abbrev dktX0_lay_0 : List UInt8 := dkwX0_lay_0 ++ []
theorem dksX0_lay_0 : cX0_lay.data.toList.drop 0 = dktX0_lay_0 := by decide +kernel
theorem dX0_lay_0 : decode cX0_lay 0 = .ok (.aload_n 0, 1) := dk_42 (dk_at dksX0_lay_0 0 rfl rfl)
theorem dX0_lay_1 : decode cX0_lay 1 = .ok (.aload_n 1, 1) := dk_43 (dk_at dksX0_lay_0 1 rfl rfl)
theorem dX0_lay_2 : decode cX0_lay 2 = .ok (.putfield 62, 3) := dk_181 0 62 (dk_at dksX0_lay_0 2 rfl rfl)
theorem dX0_lay_5 : decode cX0_lay 5 = .ok (.aload_n 0, 1) := dk_42 (dk_at dksX0_lay_0 5 rfl rfl)
theorem dX0_lay_6 : decode cX0_lay 6 = .ok (.invokevirtual 94, 3) := dk_182 0 94 (dk_at dksX0_lay_0 6 rfl rfl)
theorem dX0_lay_9 : decode cX0_lay 9 = .ok (.aload_n 1, 1) := dk_43 (dk_at dksX0_lay_0 9 rfl rfl)
theorem dX0_lay_10 : decode cX0_lay 10 = .ok (.invokevirtual 97, 3) := dk_182 0 97 (dk_at dksX0_lay_0 10 rfl rfl)
theorem dX0_lay_13 : decode cX0_lay 13 = .ok (.ireturn, 1) := dk_172 (dk_at dksX0_lay_0 13 rfl rfl)
abbrev cX0_moveCell : ByteArray := prog_1_method_15_code
def yX0_moveCell : MethodName := ⟨RX0, "moveCell", "(II)I"⟩
def dkwX0_moveCell_3 : List UInt8 := [160, 0, 6, 16, 253, 172, 42, 27, 45, 180, 0, 112, 28, 46, 182, 0, 137, 172]
abbrev dktX0_moveCell_3 : List UInt8 := dkwX0_moveCell_3 ++ []
def dkwX0_moveCell_2 : List UInt8 := [45, 180, 0, 112, 27, 46, 27, 182, 0, 132, 154, 0, 6, 16, 254, 172, 45, 28, 182, 0, 135, 16, 6]
abbrev dktX0_moveCell_2 : List UInt8 := dkwX0_moveCell_2 ++ dktX0_moveCell_3
def dkwX0_moveCell_1 : List UInt8 := [182, 0, 128, 154, 0, 5, 2, 172, 45, 180, 0, 112, 27, 46, 45, 180, 0, 112, 28, 46, 159, 0, 17, 45]
abbrev dktX0_moveCell_1 : List UInt8 := dkwX0_moveCell_1 ++ dktX0_moveCell_2
def dkwX0_moveCell_0 : List UInt8 := [42, 182, 0, 122, 78, 45, 27, 182, 0, 125, 153, 0, 20, 45, 28, 182, 0, 125, 153, 0, 12, 45, 27, 28]
abbrev dktX0_moveCell_0 : List UInt8 := dkwX0_moveCell_0 ++ dktX0_moveCell_1
theorem dksX0_moveCell_0 : cX0_moveCell.data.toList.drop 0 = dktX0_moveCell_0 := by decide +kernel
theorem dksX0_moveCell_1 : cX0_moveCell.data.toList.drop 24 = dktX0_moveCell_1 := dk_seg dksX0_moveCell_0 24 rfl rfl
theorem dksX0_moveCell_2 : cX0_moveCell.data.toList.drop 48 = dktX0_moveCell_2 := dk_seg dksX0_moveCell_1 24 rfl rfl
theorem dksX0_moveCell_3 : cX0_moveCell.data.toList.drop 71 = dktX0_moveCell_3 := dk_seg dksX0_moveCell_2 23 rfl rfl
theorem dX0_moveCell_0 : decode cX0_moveCell 0 = .ok (.aload_n 0, 1) := dk_42 (dk_at dksX0_moveCell_0 0 rfl rfl)
theorem dX0_moveCell_1 : decode cX0_moveCell 1 = .ok (.invokevirtual 122, 3) := dk_182 0 122 (dk_at dksX0_moveCell_0 1 rfl rfl)
theorem dX0_moveCell_4 : decode cX0_moveCell 4 = .ok (.astore_n 3, 1) := dk_78 (dk_at dksX0_moveCell_0 4 rfl rfl)
theorem dX0_moveCell_5 : decode cX0_moveCell 5 = .ok (.aload_n 3, 1) := dk_45 (dk_at dksX0_moveCell_0 5 rfl rfl)
theorem dX0_moveCell_6 : decode cX0_moveCell 6 = .ok (.iload_n 1, 1) := dk_27 (dk_at dksX0_moveCell_0 6 rfl rfl)
theorem dX0_moveCell_7 : decode cX0_moveCell 7 = .ok (.invokevirtual 125, 3) := dk_182 0 125 (dk_at dksX0_moveCell_0 7 rfl rfl)
theorem dX0_moveCell_10 : decode cX0_moveCell 10 = .ok (.ifCond .eq 20, 3) := dk_153 0 20 (dk_at dksX0_moveCell_0 10 rfl rfl)
theorem dX0_moveCell_13 : decode cX0_moveCell 13 = .ok (.aload_n 3, 1) := dk_45 (dk_at dksX0_moveCell_0 13 rfl rfl)
theorem dX0_moveCell_14 : decode cX0_moveCell 14 = .ok (.iload_n 2, 1) := dk_28 (dk_at dksX0_moveCell_0 14 rfl rfl)
theorem dX0_moveCell_15 : decode cX0_moveCell 15 = .ok (.invokevirtual 125, 3) := dk_182 0 125 (dk_at dksX0_moveCell_0 15 rfl rfl)
theorem dX0_moveCell_18 : decode cX0_moveCell 18 = .ok (.ifCond .eq 12, 3) := dk_153 0 12 (dk_at dksX0_moveCell_0 18 rfl rfl)
theorem dX0_moveCell_21 : decode cX0_moveCell 21 = .ok (.aload_n 3, 1) := dk_45 (dk_at dksX0_moveCell_0 21 rfl rfl)
theorem dX0_moveCell_22 : decode cX0_moveCell 22 = .ok (.iload_n 1, 1) := dk_27 (dk_at dksX0_moveCell_0 22 rfl rfl)
theorem dX0_moveCell_23 : decode cX0_moveCell 23 = .ok (.iload_n 2, 1) := dk_28 (dk_at dksX0_moveCell_0 23 rfl rfl)
theorem dX0_moveCell_24 : decode cX0_moveCell 24 = .ok (.invokevirtual 128, 3) := dk_182 0 128 (dk_at dksX0_moveCell_1 0 rfl rfl)
theorem dX0_moveCell_27 : decode cX0_moveCell 27 = .ok (.ifCond .ne 5, 3) := dk_154 0 5 (dk_at dksX0_moveCell_1 3 rfl rfl)
theorem dX0_moveCell_30 : decode cX0_moveCell 30 = .ok (.iconst (-1), 1) := dk_2 (dk_at dksX0_moveCell_1 6 rfl rfl)
theorem dX0_moveCell_31 : decode cX0_moveCell 31 = .ok (.ireturn, 1) := dk_172 (dk_at dksX0_moveCell_1 7 rfl rfl)
theorem dX0_moveCell_32 : decode cX0_moveCell 32 = .ok (.aload_n 3, 1) := dk_45 (dk_at dksX0_moveCell_1 8 rfl rfl)
theorem dX0_moveCell_33 : decode cX0_moveCell 33 = .ok (.getfield 112, 3) := dk_180 0 112 (dk_at dksX0_moveCell_1 9 rfl rfl)
theorem dX0_moveCell_36 : decode cX0_moveCell 36 = .ok (.iload_n 1, 1) := dk_27 (dk_at dksX0_moveCell_1 12 rfl rfl)
theorem dX0_moveCell_37 : decode cX0_moveCell 37 = .ok (.iaload, 1) := dk_46 (dk_at dksX0_moveCell_1 13 rfl rfl)
theorem dX0_moveCell_38 : decode cX0_moveCell 38 = .ok (.aload_n 3, 1) := dk_45 (dk_at dksX0_moveCell_1 14 rfl rfl)
theorem dX0_moveCell_39 : decode cX0_moveCell 39 = .ok (.getfield 112, 3) := dk_180 0 112 (dk_at dksX0_moveCell_1 15 rfl rfl)
theorem dX0_moveCell_42 : decode cX0_moveCell 42 = .ok (.iload_n 2, 1) := dk_28 (dk_at dksX0_moveCell_1 18 rfl rfl)
theorem dX0_moveCell_43 : decode cX0_moveCell 43 = .ok (.iaload, 1) := dk_46 (dk_at dksX0_moveCell_1 19 rfl rfl)
theorem dX0_moveCell_44 : decode cX0_moveCell 44 = .ok (.if_icmp .eq 17, 3) := dk_159 0 17 (dk_at dksX0_moveCell_1 20 rfl rfl)
theorem dX0_moveCell_47 : decode cX0_moveCell 47 = .ok (.aload_n 3, 1) := dk_45 (dk_at dksX0_moveCell_1 23 rfl rfl)
theorem dX0_moveCell_48 : decode cX0_moveCell 48 = .ok (.aload_n 3, 1) := dk_45 (dk_at dksX0_moveCell_2 0 rfl rfl)
theorem dX0_moveCell_49 : decode cX0_moveCell 49 = .ok (.getfield 112, 3) := dk_180 0 112 (dk_at dksX0_moveCell_2 1 rfl rfl)
theorem dX0_moveCell_52 : decode cX0_moveCell 52 = .ok (.iload_n 1, 1) := dk_27 (dk_at dksX0_moveCell_2 4 rfl rfl)
theorem dX0_moveCell_53 : decode cX0_moveCell 53 = .ok (.iaload, 1) := dk_46 (dk_at dksX0_moveCell_2 5 rfl rfl)
theorem dX0_moveCell_54 : decode cX0_moveCell 54 = .ok (.iload_n 1, 1) := dk_27 (dk_at dksX0_moveCell_2 6 rfl rfl)
theorem dX0_moveCell_55 : decode cX0_moveCell 55 = .ok (.invokevirtual 132, 3) := dk_182 0 132 (dk_at dksX0_moveCell_2 7 rfl rfl)
theorem dX0_moveCell_58 : decode cX0_moveCell 58 = .ok (.ifCond .ne 6, 3) := dk_154 0 6 (dk_at dksX0_moveCell_2 10 rfl rfl)
theorem dX0_moveCell_61 : decode cX0_moveCell 61 = .ok (.bipush (-2), 2) := dk_16 254 (dk_at dksX0_moveCell_2 13 rfl rfl)
theorem dX0_moveCell_63 : decode cX0_moveCell 63 = .ok (.ireturn, 1) := dk_172 (dk_at dksX0_moveCell_2 15 rfl rfl)
theorem dX0_moveCell_64 : decode cX0_moveCell 64 = .ok (.aload_n 3, 1) := dk_45 (dk_at dksX0_moveCell_2 16 rfl rfl)
theorem dX0_moveCell_65 : decode cX0_moveCell 65 = .ok (.iload_n 2, 1) := dk_28 (dk_at dksX0_moveCell_2 17 rfl rfl)
theorem dX0_moveCell_66 : decode cX0_moveCell 66 = .ok (.invokevirtual 135, 3) := dk_182 0 135 (dk_at dksX0_moveCell_2 18 rfl rfl)
theorem dX0_moveCell_69 : decode cX0_moveCell 69 = .ok (.bipush 6, 2) := dk_16 6 (dk_at dksX0_moveCell_2 21 rfl rfl)
theorem dX0_moveCell_71 : decode cX0_moveCell 71 = .ok (.if_icmp .ne 6, 3) := dk_160 0 6 (dk_at dksX0_moveCell_3 0 rfl rfl)
theorem dX0_moveCell_74 : decode cX0_moveCell 74 = .ok (.bipush (-3), 2) := dk_16 253 (dk_at dksX0_moveCell_3 3 rfl rfl)
theorem dX0_moveCell_76 : decode cX0_moveCell 76 = .ok (.ireturn, 1) := dk_172 (dk_at dksX0_moveCell_3 5 rfl rfl)
theorem dX0_moveCell_77 : decode cX0_moveCell 77 = .ok (.aload_n 0, 1) := dk_42 (dk_at dksX0_moveCell_3 6 rfl rfl)
theorem dX0_moveCell_78 : decode cX0_moveCell 78 = .ok (.iload_n 1, 1) := dk_27 (dk_at dksX0_moveCell_3 7 rfl rfl)
theorem dX0_moveCell_79 : decode cX0_moveCell 79 = .ok (.aload_n 3, 1) := dk_45 (dk_at dksX0_moveCell_3 8 rfl rfl)
theorem dX0_moveCell_80 : decode cX0_moveCell 80 = .ok (.getfield 112, 3) := dk_180 0 112 (dk_at dksX0_moveCell_3 9 rfl rfl)
theorem dX0_moveCell_83 : decode cX0_moveCell 83 = .ok (.iload_n 2, 1) := dk_28 (dk_at dksX0_moveCell_3 12 rfl rfl)
theorem dX0_moveCell_84 : decode cX0_moveCell 84 = .ok (.iaload, 1) := dk_46 (dk_at dksX0_moveCell_3 13 rfl rfl)
theorem dX0_moveCell_85 : decode cX0_moveCell 85 = .ok (.invokevirtual 137, 3) := dk_182 0 137 (dk_at dksX0_moveCell_3 14 rfl rfl)
theorem dX0_moveCell_88 : decode cX0_moveCell 88 = .ok (.ireturn, 1) := dk_172 (dk_at dksX0_moveCell_3 17 rfl rfl)
abbrev cX0_page : ByteArray := prog_1_method_7_code
def yX0_page : MethodName := ⟨RX0, "page", "()LEdgeSums$Page;"⟩
def dkwX0_page_0 : List UInt8 := [42, 180, 0, 33, 180, 0, 58, 180, 0, 62, 176]
abbrev dktX0_page_0 : List UInt8 := dkwX0_page_0 ++ []
theorem dksX0_page_0 : cX0_page.data.toList.drop 0 = dktX0_page_0 := by decide +kernel
theorem dX0_page_0 : decode cX0_page 0 = .ok (.aload_n 0, 1) := dk_42 (dk_at dksX0_page_0 0 rfl rfl)
theorem dX0_page_1 : decode cX0_page 1 = .ok (.getfield 33, 3) := dk_180 0 33 (dk_at dksX0_page_0 1 rfl rfl)
theorem dX0_page_4 : decode cX0_page 4 = .ok (.getfield 58, 3) := dk_180 0 58 (dk_at dksX0_page_0 4 rfl rfl)
theorem dX0_page_7 : decode cX0_page 7 = .ok (.getfield 62, 3) := dk_180 0 62 (dk_at dksX0_page_0 7 rfl rfl)
theorem dX0_page_10 : decode cX0_page 10 = .ok (.areturn, 1) := dk_176 (dk_at dksX0_page_0 10 rfl rfl)
abbrev cX0_moveTo : ByteArray := prog_1_method_14_code
def yX0_moveTo : MethodName := ⟨RX0, "moveTo", "(II)I"⟩
def dkwX0_moveTo_2 : List UInt8 := [182, 0, 119, 45, 25, 4, 184, 0, 108, 172]
abbrev dktX0_moveTo_2 : List UInt8 := dkwX0_moveTo_2 ++ []
def dkwX0_moveTo_1 : List UInt8 := [25, 4, 182, 0, 97, 162, 0, 9, 25, 4, 28, 182, 0, 115, 25, 4, 180, 0, 112, 27, 28, 79, 25, 4]
abbrev dktX0_moveTo_1 : List UInt8 := dkwX0_moveTo_1 ++ dktX0_moveTo_2
def dkwX0_moveTo_0 : List UInt8 := [42, 182, 0, 104, 78, 45, 180, 0, 62, 58, 4, 25, 4, 25, 4, 180, 0, 112, 27, 46, 182, 0, 115, 28]
abbrev dktX0_moveTo_0 : List UInt8 := dkwX0_moveTo_0 ++ dktX0_moveTo_1
theorem dksX0_moveTo_0 : cX0_moveTo.data.toList.drop 0 = dktX0_moveTo_0 := by decide +kernel
theorem dksX0_moveTo_1 : cX0_moveTo.data.toList.drop 24 = dktX0_moveTo_1 := dk_seg dksX0_moveTo_0 24 rfl rfl
theorem dksX0_moveTo_2 : cX0_moveTo.data.toList.drop 48 = dktX0_moveTo_2 := dk_seg dksX0_moveTo_1 24 rfl rfl
theorem dX0_moveTo_0 : decode cX0_moveTo 0 = .ok (.aload_n 0, 1) := dk_42 (dk_at dksX0_moveTo_0 0 rfl rfl)
theorem dX0_moveTo_1 : decode cX0_moveTo 1 = .ok (.invokevirtual 104, 3) := dk_182 0 104 (dk_at dksX0_moveTo_0 1 rfl rfl)
theorem dX0_moveTo_4 : decode cX0_moveTo 4 = .ok (.astore_n 3, 1) := dk_78 (dk_at dksX0_moveTo_0 4 rfl rfl)
theorem dX0_moveTo_5 : decode cX0_moveTo 5 = .ok (.aload_n 3, 1) := dk_45 (dk_at dksX0_moveTo_0 5 rfl rfl)
theorem dX0_moveTo_6 : decode cX0_moveTo 6 = .ok (.getfield 62, 3) := dk_180 0 62 (dk_at dksX0_moveTo_0 6 rfl rfl)
theorem dX0_moveTo_9 : decode cX0_moveTo 9 = .ok (.astore 4, 2) := dk_58 4 (dk_at dksX0_moveTo_0 9 rfl rfl)
theorem dX0_moveTo_11 : decode cX0_moveTo 11 = .ok (.aload 4, 2) := dk_25 4 (dk_at dksX0_moveTo_0 11 rfl rfl)
theorem dX0_moveTo_13 : decode cX0_moveTo 13 = .ok (.aload 4, 2) := dk_25 4 (dk_at dksX0_moveTo_0 13 rfl rfl)
theorem dX0_moveTo_15 : decode cX0_moveTo 15 = .ok (.getfield 112, 3) := dk_180 0 112 (dk_at dksX0_moveTo_0 15 rfl rfl)
theorem dX0_moveTo_18 : decode cX0_moveTo 18 = .ok (.iload_n 1, 1) := dk_27 (dk_at dksX0_moveTo_0 18 rfl rfl)
theorem dX0_moveTo_19 : decode cX0_moveTo 19 = .ok (.iaload, 1) := dk_46 (dk_at dksX0_moveTo_0 19 rfl rfl)
theorem dX0_moveTo_20 : decode cX0_moveTo 20 = .ok (.invokevirtual 115, 3) := dk_182 0 115 (dk_at dksX0_moveTo_0 20 rfl rfl)
theorem dX0_moveTo_23 : decode cX0_moveTo 23 = .ok (.iload_n 2, 1) := dk_28 (dk_at dksX0_moveTo_0 23 rfl rfl)
theorem dX0_moveTo_24 : decode cX0_moveTo 24 = .ok (.aload 4, 2) := dk_25 4 (dk_at dksX0_moveTo_1 0 rfl rfl)
theorem dX0_moveTo_26 : decode cX0_moveTo 26 = .ok (.invokevirtual 97, 3) := dk_182 0 97 (dk_at dksX0_moveTo_1 2 rfl rfl)
theorem dX0_moveTo_29 : decode cX0_moveTo 29 = .ok (.if_icmp .ge 9, 3) := dk_162 0 9 (dk_at dksX0_moveTo_1 5 rfl rfl)
theorem dX0_moveTo_32 : decode cX0_moveTo 32 = .ok (.aload 4, 2) := dk_25 4 (dk_at dksX0_moveTo_1 8 rfl rfl)
theorem dX0_moveTo_34 : decode cX0_moveTo 34 = .ok (.iload_n 2, 1) := dk_28 (dk_at dksX0_moveTo_1 10 rfl rfl)
theorem dX0_moveTo_35 : decode cX0_moveTo 35 = .ok (.invokevirtual 115, 3) := dk_182 0 115 (dk_at dksX0_moveTo_1 11 rfl rfl)
theorem dX0_moveTo_38 : decode cX0_moveTo 38 = .ok (.aload 4, 2) := dk_25 4 (dk_at dksX0_moveTo_1 14 rfl rfl)
theorem dX0_moveTo_40 : decode cX0_moveTo 40 = .ok (.getfield 112, 3) := dk_180 0 112 (dk_at dksX0_moveTo_1 16 rfl rfl)
theorem dX0_moveTo_43 : decode cX0_moveTo 43 = .ok (.iload_n 1, 1) := dk_27 (dk_at dksX0_moveTo_1 19 rfl rfl)
theorem dX0_moveTo_44 : decode cX0_moveTo 44 = .ok (.iload_n 2, 1) := dk_28 (dk_at dksX0_moveTo_1 20 rfl rfl)
theorem dX0_moveTo_45 : decode cX0_moveTo 45 = .ok (.iastore, 1) := dk_79 (dk_at dksX0_moveTo_1 21 rfl rfl)
theorem dX0_moveTo_46 : decode cX0_moveTo 46 = .ok (.aload 4, 2) := dk_25 4 (dk_at dksX0_moveTo_1 22 rfl rfl)
theorem dX0_moveTo_48 : decode cX0_moveTo 48 = .ok (.invokevirtual 119, 3) := dk_182 0 119 (dk_at dksX0_moveTo_2 0 rfl rfl)
theorem dX0_moveTo_51 : decode cX0_moveTo 51 = .ok (.aload_n 3, 1) := dk_45 (dk_at dksX0_moveTo_2 3 rfl rfl)
theorem dX0_moveTo_52 : decode cX0_moveTo 52 = .ok (.aload 4, 2) := dk_25 4 (dk_at dksX0_moveTo_2 4 rfl rfl)
theorem dX0_moveTo_54 : decode cX0_moveTo 54 = .ok (.invokestatic 108, 3) := dk_184 0 108 (dk_at dksX0_moveTo_2 6 rfl rfl)
theorem dX0_moveTo_57 : decode cX0_moveTo 57 = .ok (.ireturn, 1) := dk_172 (dk_at dksX0_moveTo_2 9 rfl rfl)
abbrev cX0_splitCell : ByteArray := prog_1_method_16_code
def yX0_splitCell : MethodName := ⟨RX0, "splitCell", "(I)I"⟩
def dkwX0_splitCell_2 : List UInt8 := [16, 254, 172, 42, 27, 42, 182, 0, 122, 182, 0, 97, 182, 0, 137, 172]
abbrev dktX0_splitCell_2 : List UInt8 := dkwX0_splitCell_2 ++ []
def dkwX0_splitCell_1 : List UInt8 := [159, 0, 23, 42, 182, 0, 122, 42, 182, 0, 122, 180, 0, 112, 27, 46, 27, 182, 0, 132, 154, 0, 6]
abbrev dktX0_splitCell_1 : List UInt8 := dkwX0_splitCell_1 ++ dktX0_splitCell_2
def dkwX0_splitCell_0 : List UInt8 := [42, 182, 0, 122, 27, 182, 0, 125, 154, 0, 5, 2, 172, 42, 182, 0, 122, 27, 182, 0, 135, 4]
abbrev dktX0_splitCell_0 : List UInt8 := dkwX0_splitCell_0 ++ dktX0_splitCell_1
theorem dksX0_splitCell_0 : cX0_splitCell.data.toList.drop 0 = dktX0_splitCell_0 := by decide +kernel
theorem dksX0_splitCell_1 : cX0_splitCell.data.toList.drop 22 = dktX0_splitCell_1 := dk_seg dksX0_splitCell_0 22 rfl rfl
theorem dksX0_splitCell_2 : cX0_splitCell.data.toList.drop 45 = dktX0_splitCell_2 := dk_seg dksX0_splitCell_1 23 rfl rfl
theorem dX0_splitCell_0 : decode cX0_splitCell 0 = .ok (.aload_n 0, 1) := dk_42 (dk_at dksX0_splitCell_0 0 rfl rfl)
theorem dX0_splitCell_1 : decode cX0_splitCell 1 = .ok (.invokevirtual 122, 3) := dk_182 0 122 (dk_at dksX0_splitCell_0 1 rfl rfl)
theorem dX0_splitCell_4 : decode cX0_splitCell 4 = .ok (.iload_n 1, 1) := dk_27 (dk_at dksX0_splitCell_0 4 rfl rfl)
theorem dX0_splitCell_5 : decode cX0_splitCell 5 = .ok (.invokevirtual 125, 3) := dk_182 0 125 (dk_at dksX0_splitCell_0 5 rfl rfl)
theorem dX0_splitCell_8 : decode cX0_splitCell 8 = .ok (.ifCond .ne 5, 3) := dk_154 0 5 (dk_at dksX0_splitCell_0 8 rfl rfl)
theorem dX0_splitCell_11 : decode cX0_splitCell 11 = .ok (.iconst (-1), 1) := dk_2 (dk_at dksX0_splitCell_0 11 rfl rfl)
theorem dX0_splitCell_12 : decode cX0_splitCell 12 = .ok (.ireturn, 1) := dk_172 (dk_at dksX0_splitCell_0 12 rfl rfl)
theorem dX0_splitCell_13 : decode cX0_splitCell 13 = .ok (.aload_n 0, 1) := dk_42 (dk_at dksX0_splitCell_0 13 rfl rfl)
theorem dX0_splitCell_14 : decode cX0_splitCell 14 = .ok (.invokevirtual 122, 3) := dk_182 0 122 (dk_at dksX0_splitCell_0 14 rfl rfl)
theorem dX0_splitCell_17 : decode cX0_splitCell 17 = .ok (.iload_n 1, 1) := dk_27 (dk_at dksX0_splitCell_0 17 rfl rfl)
theorem dX0_splitCell_18 : decode cX0_splitCell 18 = .ok (.invokevirtual 135, 3) := dk_182 0 135 (dk_at dksX0_splitCell_0 18 rfl rfl)
theorem dX0_splitCell_21 : decode cX0_splitCell 21 = .ok (.iconst 1, 1) := dk_4 (dk_at dksX0_splitCell_0 21 rfl rfl)
theorem dX0_splitCell_22 : decode cX0_splitCell 22 = .ok (.if_icmp .eq 23, 3) := dk_159 0 23 (dk_at dksX0_splitCell_1 0 rfl rfl)
theorem dX0_splitCell_25 : decode cX0_splitCell 25 = .ok (.aload_n 0, 1) := dk_42 (dk_at dksX0_splitCell_1 3 rfl rfl)
theorem dX0_splitCell_26 : decode cX0_splitCell 26 = .ok (.invokevirtual 122, 3) := dk_182 0 122 (dk_at dksX0_splitCell_1 4 rfl rfl)
theorem dX0_splitCell_29 : decode cX0_splitCell 29 = .ok (.aload_n 0, 1) := dk_42 (dk_at dksX0_splitCell_1 7 rfl rfl)
theorem dX0_splitCell_30 : decode cX0_splitCell 30 = .ok (.invokevirtual 122, 3) := dk_182 0 122 (dk_at dksX0_splitCell_1 8 rfl rfl)
theorem dX0_splitCell_33 : decode cX0_splitCell 33 = .ok (.getfield 112, 3) := dk_180 0 112 (dk_at dksX0_splitCell_1 11 rfl rfl)
theorem dX0_splitCell_36 : decode cX0_splitCell 36 = .ok (.iload_n 1, 1) := dk_27 (dk_at dksX0_splitCell_1 14 rfl rfl)
theorem dX0_splitCell_37 : decode cX0_splitCell 37 = .ok (.iaload, 1) := dk_46 (dk_at dksX0_splitCell_1 15 rfl rfl)
theorem dX0_splitCell_38 : decode cX0_splitCell 38 = .ok (.iload_n 1, 1) := dk_27 (dk_at dksX0_splitCell_1 16 rfl rfl)
theorem dX0_splitCell_39 : decode cX0_splitCell 39 = .ok (.invokevirtual 132, 3) := dk_182 0 132 (dk_at dksX0_splitCell_1 17 rfl rfl)
theorem dX0_splitCell_42 : decode cX0_splitCell 42 = .ok (.ifCond .ne 6, 3) := dk_154 0 6 (dk_at dksX0_splitCell_1 20 rfl rfl)
theorem dX0_splitCell_45 : decode cX0_splitCell 45 = .ok (.bipush (-2), 2) := dk_16 254 (dk_at dksX0_splitCell_2 0 rfl rfl)
theorem dX0_splitCell_47 : decode cX0_splitCell 47 = .ok (.ireturn, 1) := dk_172 (dk_at dksX0_splitCell_2 2 rfl rfl)
theorem dX0_splitCell_48 : decode cX0_splitCell 48 = .ok (.aload_n 0, 1) := dk_42 (dk_at dksX0_splitCell_2 3 rfl rfl)
theorem dX0_splitCell_49 : decode cX0_splitCell 49 = .ok (.iload_n 1, 1) := dk_27 (dk_at dksX0_splitCell_2 4 rfl rfl)
theorem dX0_splitCell_50 : decode cX0_splitCell 50 = .ok (.aload_n 0, 1) := dk_42 (dk_at dksX0_splitCell_2 5 rfl rfl)
theorem dX0_splitCell_51 : decode cX0_splitCell 51 = .ok (.invokevirtual 122, 3) := dk_182 0 122 (dk_at dksX0_splitCell_2 6 rfl rfl)
theorem dX0_splitCell_54 : decode cX0_splitCell 54 = .ok (.invokevirtual 97, 3) := dk_182 0 97 (dk_at dksX0_splitCell_2 9 rfl rfl)
theorem dX0_splitCell_57 : decode cX0_splitCell 57 = .ok (.invokevirtual 137, 3) := dk_182 0 137 (dk_at dksX0_splitCell_2 12 rfl rfl)
theorem dX0_splitCell_60 : decode cX0_splitCell 60 = .ok (.ireturn, 1) := dk_172 (dk_at dksX0_splitCell_2 15 rfl rfl)
abbrev cX0_mirror : ByteArray := prog_1_method_17_code
def yX0_mirror : MethodName := ⟨RX0, "mirror", "()I"⟩
def dkwX0_mirror_0 : List UInt8 := [42, 182, 0, 104, 76, 43, 43, 180, 0, 62, 182, 0, 141, 184, 0, 108, 172]
abbrev dktX0_mirror_0 : List UInt8 := dkwX0_mirror_0 ++ []
theorem dksX0_mirror_0 : cX0_mirror.data.toList.drop 0 = dktX0_mirror_0 := by decide +kernel
theorem dX0_mirror_0 : decode cX0_mirror 0 = .ok (.aload_n 0, 1) := dk_42 (dk_at dksX0_mirror_0 0 rfl rfl)
theorem dX0_mirror_1 : decode cX0_mirror 1 = .ok (.invokevirtual 104, 3) := dk_182 0 104 (dk_at dksX0_mirror_0 1 rfl rfl)
theorem dX0_mirror_4 : decode cX0_mirror 4 = .ok (.astore_n 1, 1) := dk_76 (dk_at dksX0_mirror_0 4 rfl rfl)
theorem dX0_mirror_5 : decode cX0_mirror 5 = .ok (.aload_n 1, 1) := dk_43 (dk_at dksX0_mirror_0 5 rfl rfl)
theorem dX0_mirror_6 : decode cX0_mirror 6 = .ok (.aload_n 1, 1) := dk_43 (dk_at dksX0_mirror_0 6 rfl rfl)
theorem dX0_mirror_7 : decode cX0_mirror 7 = .ok (.getfield 62, 3) := dk_180 0 62 (dk_at dksX0_mirror_0 7 rfl rfl)
theorem dX0_mirror_10 : decode cX0_mirror 10 = .ok (.invokevirtual 141, 3) := dk_182 0 141 (dk_at dksX0_mirror_0 10 rfl rfl)
theorem dX0_mirror_13 : decode cX0_mirror 13 = .ok (.invokestatic 108, 3) := dk_184 0 108 (dk_at dksX0_mirror_0 13 rfl rfl)
theorem dX0_mirror_16 : decode cX0_mirror 16 = .ok (.ireturn, 1) := dk_172 (dk_at dksX0_mirror_0 16 rfl rfl)
abbrev cX0_turn : ByteArray := prog_1_method_18_code
def yX0_turn : MethodName := ⟨RX0, "turn", "()I"⟩
def dkwX0_turn_1 : List UInt8 := [172]
abbrev dktX0_turn_1 : List UInt8 := dkwX0_turn_1 ++ []
def dkwX0_turn_0 : List UInt8 := [42, 182, 0, 104, 76, 43, 43, 180, 0, 62, 182, 0, 144, 184, 0, 108, 61, 43, 180, 0, 62, 180, 0, 147]
abbrev dktX0_turn_0 : List UInt8 := dkwX0_turn_0 ++ dktX0_turn_1
theorem dksX0_turn_0 : cX0_turn.data.toList.drop 0 = dktX0_turn_0 := by decide +kernel
theorem dksX0_turn_1 : cX0_turn.data.toList.drop 24 = dktX0_turn_1 := dk_seg dksX0_turn_0 24 rfl rfl
theorem dX0_turn_0 : decode cX0_turn 0 = .ok (.aload_n 0, 1) := dk_42 (dk_at dksX0_turn_0 0 rfl rfl)
theorem dX0_turn_1 : decode cX0_turn 1 = .ok (.invokevirtual 104, 3) := dk_182 0 104 (dk_at dksX0_turn_0 1 rfl rfl)
theorem dX0_turn_4 : decode cX0_turn 4 = .ok (.astore_n 1, 1) := dk_76 (dk_at dksX0_turn_0 4 rfl rfl)
theorem dX0_turn_5 : decode cX0_turn 5 = .ok (.aload_n 1, 1) := dk_43 (dk_at dksX0_turn_0 5 rfl rfl)
theorem dX0_turn_6 : decode cX0_turn 6 = .ok (.aload_n 1, 1) := dk_43 (dk_at dksX0_turn_0 6 rfl rfl)
theorem dX0_turn_7 : decode cX0_turn 7 = .ok (.getfield 62, 3) := dk_180 0 62 (dk_at dksX0_turn_0 7 rfl rfl)
theorem dX0_turn_10 : decode cX0_turn 10 = .ok (.invokevirtual 144, 3) := dk_182 0 144 (dk_at dksX0_turn_0 10 rfl rfl)
theorem dX0_turn_13 : decode cX0_turn 13 = .ok (.invokestatic 108, 3) := dk_184 0 108 (dk_at dksX0_turn_0 13 rfl rfl)
theorem dX0_turn_16 : decode cX0_turn 16 = .ok (.istore_n 2, 1) := dk_61 (dk_at dksX0_turn_0 16 rfl rfl)
theorem dX0_turn_17 : decode cX0_turn 17 = .ok (.aload_n 1, 1) := dk_43 (dk_at dksX0_turn_0 17 rfl rfl)
theorem dX0_turn_18 : decode cX0_turn 18 = .ok (.getfield 62, 3) := dk_180 0 62 (dk_at dksX0_turn_0 18 rfl rfl)
theorem dX0_turn_21 : decode cX0_turn 21 = .ok (.getfield 147, 3) := dk_180 0 147 (dk_at dksX0_turn_0 21 rfl rfl)
theorem dX0_turn_24 : decode cX0_turn 24 = .ok (.ireturn, 1) := dk_172 (dk_at dksX0_turn_1 0 rfl rfl)
abbrev cX0_write : ByteArray := prog_1_method_19_code
def yX0_write : MethodName := ⟨RX0, "write", "(II)I"⟩
def dkwX0_write_3 : List UInt8 := [182, 0, 160, 25, 4, 182, 0, 94, 29, 172]
abbrev dktX0_write_3 : List UInt8 := dkwX0_write_3 ++ []
def dkwX0_write_2 : List UInt8 := [42, 182, 0, 122, 180, 0, 157, 27, 46, 62, 42, 182, 0, 104, 58, 4, 25, 4, 180, 0, 62, 27, 28]
abbrev dktX0_write_2 : List UInt8 := dkwX0_write_2 ++ dktX0_write_3
def dkwX0_write_1 : List UInt8 := [154, 0, 5, 2, 172, 28, 153, 0, 18, 42, 182, 0, 122, 27, 28, 182, 0, 154, 153, 0, 6, 16, 254, 172]
abbrev dktX0_write_1 : List UInt8 := dkwX0_write_1 ++ dktX0_write_2
def dkwX0_write_0 : List UInt8 := [42, 182, 0, 122, 27, 182, 0, 125, 153, 0, 19, 28, 153, 0, 17, 42, 182, 0, 122, 27, 28, 182, 0, 151]
abbrev dktX0_write_0 : List UInt8 := dkwX0_write_0 ++ dktX0_write_1
theorem dksX0_write_0 : cX0_write.data.toList.drop 0 = dktX0_write_0 := by decide +kernel
theorem dksX0_write_1 : cX0_write.data.toList.drop 24 = dktX0_write_1 := dk_seg dksX0_write_0 24 rfl rfl
theorem dksX0_write_2 : cX0_write.data.toList.drop 48 = dktX0_write_2 := dk_seg dksX0_write_1 24 rfl rfl
theorem dksX0_write_3 : cX0_write.data.toList.drop 71 = dktX0_write_3 := dk_seg dksX0_write_2 23 rfl rfl
theorem dX0_write_0 : decode cX0_write 0 = .ok (.aload_n 0, 1) := dk_42 (dk_at dksX0_write_0 0 rfl rfl)
theorem dX0_write_1 : decode cX0_write 1 = .ok (.invokevirtual 122, 3) := dk_182 0 122 (dk_at dksX0_write_0 1 rfl rfl)
theorem dX0_write_4 : decode cX0_write 4 = .ok (.iload_n 1, 1) := dk_27 (dk_at dksX0_write_0 4 rfl rfl)
theorem dX0_write_5 : decode cX0_write 5 = .ok (.invokevirtual 125, 3) := dk_182 0 125 (dk_at dksX0_write_0 5 rfl rfl)
theorem dX0_write_8 : decode cX0_write 8 = .ok (.ifCond .eq 19, 3) := dk_153 0 19 (dk_at dksX0_write_0 8 rfl rfl)
theorem dX0_write_11 : decode cX0_write 11 = .ok (.iload_n 2, 1) := dk_28 (dk_at dksX0_write_0 11 rfl rfl)
theorem dX0_write_12 : decode cX0_write 12 = .ok (.ifCond .eq 17, 3) := dk_153 0 17 (dk_at dksX0_write_0 12 rfl rfl)
theorem dX0_write_15 : decode cX0_write 15 = .ok (.aload_n 0, 1) := dk_42 (dk_at dksX0_write_0 15 rfl rfl)
theorem dX0_write_16 : decode cX0_write 16 = .ok (.invokevirtual 122, 3) := dk_182 0 122 (dk_at dksX0_write_0 16 rfl rfl)
theorem dX0_write_19 : decode cX0_write 19 = .ok (.iload_n 1, 1) := dk_27 (dk_at dksX0_write_0 19 rfl rfl)
theorem dX0_write_20 : decode cX0_write 20 = .ok (.iload_n 2, 1) := dk_28 (dk_at dksX0_write_0 20 rfl rfl)
theorem dX0_write_21 : decode cX0_write 21 = .ok (.invokevirtual 151, 3) := dk_182 0 151 (dk_at dksX0_write_0 21 rfl rfl)
theorem dX0_write_24 : decode cX0_write 24 = .ok (.ifCond .ne 5, 3) := dk_154 0 5 (dk_at dksX0_write_1 0 rfl rfl)
theorem dX0_write_27 : decode cX0_write 27 = .ok (.iconst (-1), 1) := dk_2 (dk_at dksX0_write_1 3 rfl rfl)
theorem dX0_write_28 : decode cX0_write 28 = .ok (.ireturn, 1) := dk_172 (dk_at dksX0_write_1 4 rfl rfl)
theorem dX0_write_29 : decode cX0_write 29 = .ok (.iload_n 2, 1) := dk_28 (dk_at dksX0_write_1 5 rfl rfl)
theorem dX0_write_30 : decode cX0_write 30 = .ok (.ifCond .eq 18, 3) := dk_153 0 18 (dk_at dksX0_write_1 6 rfl rfl)
theorem dX0_write_33 : decode cX0_write 33 = .ok (.aload_n 0, 1) := dk_42 (dk_at dksX0_write_1 9 rfl rfl)
theorem dX0_write_34 : decode cX0_write 34 = .ok (.invokevirtual 122, 3) := dk_182 0 122 (dk_at dksX0_write_1 10 rfl rfl)
theorem dX0_write_37 : decode cX0_write 37 = .ok (.iload_n 1, 1) := dk_27 (dk_at dksX0_write_1 13 rfl rfl)
theorem dX0_write_38 : decode cX0_write 38 = .ok (.iload_n 2, 1) := dk_28 (dk_at dksX0_write_1 14 rfl rfl)
theorem dX0_write_39 : decode cX0_write 39 = .ok (.invokevirtual 154, 3) := dk_182 0 154 (dk_at dksX0_write_1 15 rfl rfl)
theorem dX0_write_42 : decode cX0_write 42 = .ok (.ifCond .eq 6, 3) := dk_153 0 6 (dk_at dksX0_write_1 18 rfl rfl)
theorem dX0_write_45 : decode cX0_write 45 = .ok (.bipush (-2), 2) := dk_16 254 (dk_at dksX0_write_1 21 rfl rfl)
theorem dX0_write_47 : decode cX0_write 47 = .ok (.ireturn, 1) := dk_172 (dk_at dksX0_write_1 23 rfl rfl)
theorem dX0_write_48 : decode cX0_write 48 = .ok (.aload_n 0, 1) := dk_42 (dk_at dksX0_write_2 0 rfl rfl)
theorem dX0_write_49 : decode cX0_write 49 = .ok (.invokevirtual 122, 3) := dk_182 0 122 (dk_at dksX0_write_2 1 rfl rfl)
theorem dX0_write_52 : decode cX0_write 52 = .ok (.getfield 157, 3) := dk_180 0 157 (dk_at dksX0_write_2 4 rfl rfl)
theorem dX0_write_55 : decode cX0_write 55 = .ok (.iload_n 1, 1) := dk_27 (dk_at dksX0_write_2 7 rfl rfl)
theorem dX0_write_56 : decode cX0_write 56 = .ok (.iaload, 1) := dk_46 (dk_at dksX0_write_2 8 rfl rfl)
theorem dX0_write_57 : decode cX0_write 57 = .ok (.istore_n 3, 1) := dk_62 (dk_at dksX0_write_2 9 rfl rfl)
theorem dX0_write_58 : decode cX0_write 58 = .ok (.aload_n 0, 1) := dk_42 (dk_at dksX0_write_2 10 rfl rfl)
theorem dX0_write_59 : decode cX0_write 59 = .ok (.invokevirtual 104, 3) := dk_182 0 104 (dk_at dksX0_write_2 11 rfl rfl)
theorem dX0_write_62 : decode cX0_write 62 = .ok (.astore 4, 2) := dk_58 4 (dk_at dksX0_write_2 14 rfl rfl)
theorem dX0_write_64 : decode cX0_write 64 = .ok (.aload 4, 2) := dk_25 4 (dk_at dksX0_write_2 16 rfl rfl)
theorem dX0_write_66 : decode cX0_write 66 = .ok (.getfield 62, 3) := dk_180 0 62 (dk_at dksX0_write_2 18 rfl rfl)
theorem dX0_write_69 : decode cX0_write 69 = .ok (.iload_n 1, 1) := dk_27 (dk_at dksX0_write_2 21 rfl rfl)
theorem dX0_write_70 : decode cX0_write 70 = .ok (.iload_n 2, 1) := dk_28 (dk_at dksX0_write_2 22 rfl rfl)
theorem dX0_write_71 : decode cX0_write 71 = .ok (.invokevirtual 160, 3) := dk_182 0 160 (dk_at dksX0_write_3 0 rfl rfl)
theorem dX0_write_74 : decode cX0_write 74 = .ok (.aload 4, 2) := dk_25 4 (dk_at dksX0_write_3 3 rfl rfl)
theorem dX0_write_76 : decode cX0_write 76 = .ok (.invokevirtual 94, 3) := dk_182 0 94 (dk_at dksX0_write_3 5 rfl rfl)
theorem dX0_write_79 : decode cX0_write 79 = .ok (.iload_n 3, 1) := dk_29 (dk_at dksX0_write_3 8 rfl rfl)
theorem dX0_write_80 : decode cX0_write 80 = .ok (.ireturn, 1) := dk_172 (dk_at dksX0_write_3 9 rfl rfl)
abbrev cX0_fill : ByteArray := prog_1_method_20_code
def yX0_fill : MethodName := ⟨RX0, "fill", "()I"⟩
def dkwX0_fill_4 : List UInt8 := [27, 172]
abbrev dktX0_fill_4 : List UInt8 := dkwX0_fill_4 ++ []
def dkwX0_fill_3 : List UInt8 := [132, 5, 1, 167, 255, 242, 45, 21, 4, 21, 5, 182, 0, 160, 132, 4, 1, 167, 255, 196, 44, 182, 0, 94]
abbrev dktX0_fill_3 : List UInt8 := dkwX0_fill_3 ++ dktX0_fill_4
def dkwX0_fill_2 : List UInt8 := [167, 0, 10, 45, 180, 0, 157, 21, 4, 46, 54, 5, 45, 21, 4, 21, 5, 182, 0, 154, 153, 0, 9]
abbrev dktX0_fill_2 : List UInt8 := dkwX0_fill_2 ++ dktX0_fill_3
def dkwX0_fill_1 : List UInt8 := [78, 3, 54, 4, 21, 4, 45, 182, 0, 166, 162, 0, 57, 45, 180, 0, 157, 21, 4, 46, 154, 0, 7, 4]
abbrev dktX0_fill_1 : List UInt8 := dkwX0_fill_1 ++ dktX0_fill_2
def dkwX0_fill_0 : List UInt8 := [42, 182, 0, 122, 182, 0, 163, 60, 27, 154, 0, 6, 16, 254, 172, 42, 182, 0, 104, 77, 44, 180, 0, 62]
abbrev dktX0_fill_0 : List UInt8 := dkwX0_fill_0 ++ dktX0_fill_1
theorem dksX0_fill_0 : cX0_fill.data.toList.drop 0 = dktX0_fill_0 := by decide +kernel
theorem dksX0_fill_1 : cX0_fill.data.toList.drop 24 = dktX0_fill_1 := dk_seg dksX0_fill_0 24 rfl rfl
theorem dksX0_fill_2 : cX0_fill.data.toList.drop 48 = dktX0_fill_2 := dk_seg dksX0_fill_1 24 rfl rfl
theorem dksX0_fill_3 : cX0_fill.data.toList.drop 71 = dktX0_fill_3 := dk_seg dksX0_fill_2 23 rfl rfl
theorem dksX0_fill_4 : cX0_fill.data.toList.drop 95 = dktX0_fill_4 := dk_seg dksX0_fill_3 24 rfl rfl
theorem dX0_fill_0 : decode cX0_fill 0 = .ok (.aload_n 0, 1) := dk_42 (dk_at dksX0_fill_0 0 rfl rfl)
theorem dX0_fill_1 : decode cX0_fill 1 = .ok (.invokevirtual 122, 3) := dk_182 0 122 (dk_at dksX0_fill_0 1 rfl rfl)
theorem dX0_fill_4 : decode cX0_fill 4 = .ok (.invokevirtual 163, 3) := dk_182 0 163 (dk_at dksX0_fill_0 4 rfl rfl)
theorem dX0_fill_7 : decode cX0_fill 7 = .ok (.istore_n 1, 1) := dk_60 (dk_at dksX0_fill_0 7 rfl rfl)
theorem dX0_fill_8 : decode cX0_fill 8 = .ok (.iload_n 1, 1) := dk_27 (dk_at dksX0_fill_0 8 rfl rfl)
theorem dX0_fill_9 : decode cX0_fill 9 = .ok (.ifCond .ne 6, 3) := dk_154 0 6 (dk_at dksX0_fill_0 9 rfl rfl)
theorem dX0_fill_12 : decode cX0_fill 12 = .ok (.bipush (-2), 2) := dk_16 254 (dk_at dksX0_fill_0 12 rfl rfl)
theorem dX0_fill_14 : decode cX0_fill 14 = .ok (.ireturn, 1) := dk_172 (dk_at dksX0_fill_0 14 rfl rfl)
theorem dX0_fill_15 : decode cX0_fill 15 = .ok (.aload_n 0, 1) := dk_42 (dk_at dksX0_fill_0 15 rfl rfl)
theorem dX0_fill_16 : decode cX0_fill 16 = .ok (.invokevirtual 104, 3) := dk_182 0 104 (dk_at dksX0_fill_0 16 rfl rfl)
theorem dX0_fill_19 : decode cX0_fill 19 = .ok (.astore_n 2, 1) := dk_77 (dk_at dksX0_fill_0 19 rfl rfl)
theorem dX0_fill_20 : decode cX0_fill 20 = .ok (.aload_n 2, 1) := dk_44 (dk_at dksX0_fill_0 20 rfl rfl)
theorem dX0_fill_21 : decode cX0_fill 21 = .ok (.getfield 62, 3) := dk_180 0 62 (dk_at dksX0_fill_0 21 rfl rfl)
theorem dX0_fill_24 : decode cX0_fill 24 = .ok (.astore_n 3, 1) := dk_78 (dk_at dksX0_fill_1 0 rfl rfl)
theorem dX0_fill_25 : decode cX0_fill 25 = .ok (.iconst 0, 1) := dk_3 (dk_at dksX0_fill_1 1 rfl rfl)
theorem dX0_fill_26 : decode cX0_fill 26 = .ok (.istore 4, 2) := dk_54 4 (dk_at dksX0_fill_1 2 rfl rfl)
theorem dX0_fill_28 : decode cX0_fill 28 = .ok (.iload 4, 2) := dk_21 4 (dk_at dksX0_fill_1 4 rfl rfl)
theorem dX0_fill_30 : decode cX0_fill 30 = .ok (.aload_n 3, 1) := dk_45 (dk_at dksX0_fill_1 6 rfl rfl)
theorem dX0_fill_31 : decode cX0_fill 31 = .ok (.invokevirtual 166, 3) := dk_182 0 166 (dk_at dksX0_fill_1 7 rfl rfl)
theorem dX0_fill_34 : decode cX0_fill 34 = .ok (.if_icmp .ge 57, 3) := dk_162 0 57 (dk_at dksX0_fill_1 10 rfl rfl)
theorem dX0_fill_37 : decode cX0_fill 37 = .ok (.aload_n 3, 1) := dk_45 (dk_at dksX0_fill_1 13 rfl rfl)
theorem dX0_fill_38 : decode cX0_fill 38 = .ok (.getfield 157, 3) := dk_180 0 157 (dk_at dksX0_fill_1 14 rfl rfl)
theorem dX0_fill_41 : decode cX0_fill 41 = .ok (.iload 4, 2) := dk_21 4 (dk_at dksX0_fill_1 17 rfl rfl)
theorem dX0_fill_43 : decode cX0_fill 43 = .ok (.iaload, 1) := dk_46 (dk_at dksX0_fill_1 19 rfl rfl)
theorem dX0_fill_44 : decode cX0_fill 44 = .ok (.ifCond .ne 7, 3) := dk_154 0 7 (dk_at dksX0_fill_1 20 rfl rfl)
theorem dX0_fill_47 : decode cX0_fill 47 = .ok (.iconst 1, 1) := dk_4 (dk_at dksX0_fill_1 23 rfl rfl)
theorem dX0_fill_48 : decode cX0_fill 48 = .ok (.goto 10, 3) := dk_167 0 10 (dk_at dksX0_fill_2 0 rfl rfl)
theorem dX0_fill_51 : decode cX0_fill 51 = .ok (.aload_n 3, 1) := dk_45 (dk_at dksX0_fill_2 3 rfl rfl)
theorem dX0_fill_52 : decode cX0_fill 52 = .ok (.getfield 157, 3) := dk_180 0 157 (dk_at dksX0_fill_2 4 rfl rfl)
theorem dX0_fill_55 : decode cX0_fill 55 = .ok (.iload 4, 2) := dk_21 4 (dk_at dksX0_fill_2 7 rfl rfl)
theorem dX0_fill_57 : decode cX0_fill 57 = .ok (.iaload, 1) := dk_46 (dk_at dksX0_fill_2 9 rfl rfl)
theorem dX0_fill_58 : decode cX0_fill 58 = .ok (.istore 5, 2) := dk_54 5 (dk_at dksX0_fill_2 10 rfl rfl)
theorem dX0_fill_60 : decode cX0_fill 60 = .ok (.aload_n 3, 1) := dk_45 (dk_at dksX0_fill_2 12 rfl rfl)
theorem dX0_fill_61 : decode cX0_fill 61 = .ok (.iload 4, 2) := dk_21 4 (dk_at dksX0_fill_2 13 rfl rfl)
theorem dX0_fill_63 : decode cX0_fill 63 = .ok (.iload 5, 2) := dk_21 5 (dk_at dksX0_fill_2 15 rfl rfl)
theorem dX0_fill_65 : decode cX0_fill 65 = .ok (.invokevirtual 154, 3) := dk_182 0 154 (dk_at dksX0_fill_2 17 rfl rfl)
theorem dX0_fill_68 : decode cX0_fill 68 = .ok (.ifCond .eq 9, 3) := dk_153 0 9 (dk_at dksX0_fill_2 20 rfl rfl)
theorem dX0_fill_71 : decode cX0_fill 71 = .ok (.iinc 5 1, 3) := dk_132 5 1 (dk_at dksX0_fill_3 0 rfl rfl)
theorem dX0_fill_74 : decode cX0_fill 74 = .ok (.goto (-14), 3) := dk_167 255 242 (dk_at dksX0_fill_3 3 rfl rfl)
theorem dX0_fill_77 : decode cX0_fill 77 = .ok (.aload_n 3, 1) := dk_45 (dk_at dksX0_fill_3 6 rfl rfl)
theorem dX0_fill_78 : decode cX0_fill 78 = .ok (.iload 4, 2) := dk_21 4 (dk_at dksX0_fill_3 7 rfl rfl)
theorem dX0_fill_80 : decode cX0_fill 80 = .ok (.iload 5, 2) := dk_21 5 (dk_at dksX0_fill_3 9 rfl rfl)
theorem dX0_fill_82 : decode cX0_fill 82 = .ok (.invokevirtual 160, 3) := dk_182 0 160 (dk_at dksX0_fill_3 11 rfl rfl)
theorem dX0_fill_85 : decode cX0_fill 85 = .ok (.iinc 4 1, 3) := dk_132 4 1 (dk_at dksX0_fill_3 14 rfl rfl)
theorem dX0_fill_88 : decode cX0_fill 88 = .ok (.goto (-60), 3) := dk_167 255 196 (dk_at dksX0_fill_3 17 rfl rfl)
theorem dX0_fill_91 : decode cX0_fill 91 = .ok (.aload_n 2, 1) := dk_44 (dk_at dksX0_fill_3 20 rfl rfl)
theorem dX0_fill_92 : decode cX0_fill 92 = .ok (.invokevirtual 94, 3) := dk_182 0 94 (dk_at dksX0_fill_3 21 rfl rfl)
theorem dX0_fill_95 : decode cX0_fill 95 = .ok (.iload_n 1, 1) := dk_27 (dk_at dksX0_fill_4 0 rfl rfl)
theorem dX0_fill_96 : decode cX0_fill 96 = .ok (.ireturn, 1) := dk_172 (dk_at dksX0_fill_4 1 rfl rfl)
abbrev cX0_exchange : ByteArray := prog_1_method_21_code
def yX0_exchange : MethodName := ⟨RX0, "exchange", "(II)I"⟩
def dkwX0_exchange_4 : List UInt8 := [180, 0, 157, 27, 46, 182, 0, 160, 25, 4, 182, 0, 94, 25, 4, 180, 0, 62, 180, 0, 157, 27, 46, 172]
abbrev dktX0_exchange_4 : List UInt8 := dkwX0_exchange_4 ++ []
def dkwX0_exchange_3 : List UInt8 := [25, 4, 180, 0, 62, 27, 45, 180, 0, 157, 28, 46, 182, 0, 160, 25, 4, 180, 0, 62, 28, 45]
abbrev dktX0_exchange_3 : List UInt8 := dkwX0_exchange_3 ++ dktX0_exchange_4
def dkwX0_exchange_2 : List UInt8 := [27, 46, 153, 0, 12, 45, 180, 0, 157, 28, 46, 154, 0, 6, 16, 254, 172, 42, 182, 0, 104, 58, 4]
abbrev dktX0_exchange_2 : List UInt8 := dkwX0_exchange_2 ++ dktX0_exchange_3
def dkwX0_exchange_1 : List UInt8 := [160, 0, 5, 2, 172, 45, 180, 0, 112, 27, 46, 45, 180, 0, 112, 28, 46, 160, 0, 21, 45, 180, 0, 157]
abbrev dktX0_exchange_1 : List UInt8 := dkwX0_exchange_1 ++ dktX0_exchange_2
def dkwX0_exchange_0 : List UInt8 := [42, 182, 0, 122, 78, 45, 27, 182, 0, 125, 153, 0, 16, 45, 28, 182, 0, 125, 153, 0, 8, 27, 28]
abbrev dktX0_exchange_0 : List UInt8 := dkwX0_exchange_0 ++ dktX0_exchange_1
theorem dksX0_exchange_0 : cX0_exchange.data.toList.drop 0 = dktX0_exchange_0 := by decide +kernel
theorem dksX0_exchange_1 : cX0_exchange.data.toList.drop 23 = dktX0_exchange_1 := dk_seg dksX0_exchange_0 23 rfl rfl
theorem dksX0_exchange_2 : cX0_exchange.data.toList.drop 47 = dktX0_exchange_2 := dk_seg dksX0_exchange_1 24 rfl rfl
theorem dksX0_exchange_3 : cX0_exchange.data.toList.drop 70 = dktX0_exchange_3 := dk_seg dksX0_exchange_2 23 rfl rfl
theorem dksX0_exchange_4 : cX0_exchange.data.toList.drop 92 = dktX0_exchange_4 := dk_seg dksX0_exchange_3 22 rfl rfl
theorem dX0_exchange_0 : decode cX0_exchange 0 = .ok (.aload_n 0, 1) := dk_42 (dk_at dksX0_exchange_0 0 rfl rfl)
theorem dX0_exchange_1 : decode cX0_exchange 1 = .ok (.invokevirtual 122, 3) := dk_182 0 122 (dk_at dksX0_exchange_0 1 rfl rfl)
theorem dX0_exchange_4 : decode cX0_exchange 4 = .ok (.astore_n 3, 1) := dk_78 (dk_at dksX0_exchange_0 4 rfl rfl)
theorem dX0_exchange_5 : decode cX0_exchange 5 = .ok (.aload_n 3, 1) := dk_45 (dk_at dksX0_exchange_0 5 rfl rfl)
theorem dX0_exchange_6 : decode cX0_exchange 6 = .ok (.iload_n 1, 1) := dk_27 (dk_at dksX0_exchange_0 6 rfl rfl)
theorem dX0_exchange_7 : decode cX0_exchange 7 = .ok (.invokevirtual 125, 3) := dk_182 0 125 (dk_at dksX0_exchange_0 7 rfl rfl)
theorem dX0_exchange_10 : decode cX0_exchange 10 = .ok (.ifCond .eq 16, 3) := dk_153 0 16 (dk_at dksX0_exchange_0 10 rfl rfl)
theorem dX0_exchange_13 : decode cX0_exchange 13 = .ok (.aload_n 3, 1) := dk_45 (dk_at dksX0_exchange_0 13 rfl rfl)
theorem dX0_exchange_14 : decode cX0_exchange 14 = .ok (.iload_n 2, 1) := dk_28 (dk_at dksX0_exchange_0 14 rfl rfl)
theorem dX0_exchange_15 : decode cX0_exchange 15 = .ok (.invokevirtual 125, 3) := dk_182 0 125 (dk_at dksX0_exchange_0 15 rfl rfl)
theorem dX0_exchange_18 : decode cX0_exchange 18 = .ok (.ifCond .eq 8, 3) := dk_153 0 8 (dk_at dksX0_exchange_0 18 rfl rfl)
theorem dX0_exchange_21 : decode cX0_exchange 21 = .ok (.iload_n 1, 1) := dk_27 (dk_at dksX0_exchange_0 21 rfl rfl)
theorem dX0_exchange_22 : decode cX0_exchange 22 = .ok (.iload_n 2, 1) := dk_28 (dk_at dksX0_exchange_0 22 rfl rfl)
theorem dX0_exchange_23 : decode cX0_exchange 23 = .ok (.if_icmp .ne 5, 3) := dk_160 0 5 (dk_at dksX0_exchange_1 0 rfl rfl)
theorem dX0_exchange_26 : decode cX0_exchange 26 = .ok (.iconst (-1), 1) := dk_2 (dk_at dksX0_exchange_1 3 rfl rfl)
theorem dX0_exchange_27 : decode cX0_exchange 27 = .ok (.ireturn, 1) := dk_172 (dk_at dksX0_exchange_1 4 rfl rfl)
theorem dX0_exchange_28 : decode cX0_exchange 28 = .ok (.aload_n 3, 1) := dk_45 (dk_at dksX0_exchange_1 5 rfl rfl)
theorem dX0_exchange_29 : decode cX0_exchange 29 = .ok (.getfield 112, 3) := dk_180 0 112 (dk_at dksX0_exchange_1 6 rfl rfl)
theorem dX0_exchange_32 : decode cX0_exchange 32 = .ok (.iload_n 1, 1) := dk_27 (dk_at dksX0_exchange_1 9 rfl rfl)
theorem dX0_exchange_33 : decode cX0_exchange 33 = .ok (.iaload, 1) := dk_46 (dk_at dksX0_exchange_1 10 rfl rfl)
theorem dX0_exchange_34 : decode cX0_exchange 34 = .ok (.aload_n 3, 1) := dk_45 (dk_at dksX0_exchange_1 11 rfl rfl)
theorem dX0_exchange_35 : decode cX0_exchange 35 = .ok (.getfield 112, 3) := dk_180 0 112 (dk_at dksX0_exchange_1 12 rfl rfl)
theorem dX0_exchange_38 : decode cX0_exchange 38 = .ok (.iload_n 2, 1) := dk_28 (dk_at dksX0_exchange_1 15 rfl rfl)
theorem dX0_exchange_39 : decode cX0_exchange 39 = .ok (.iaload, 1) := dk_46 (dk_at dksX0_exchange_1 16 rfl rfl)
theorem dX0_exchange_40 : decode cX0_exchange 40 = .ok (.if_icmp .ne 21, 3) := dk_160 0 21 (dk_at dksX0_exchange_1 17 rfl rfl)
theorem dX0_exchange_43 : decode cX0_exchange 43 = .ok (.aload_n 3, 1) := dk_45 (dk_at dksX0_exchange_1 20 rfl rfl)
theorem dX0_exchange_44 : decode cX0_exchange 44 = .ok (.getfield 157, 3) := dk_180 0 157 (dk_at dksX0_exchange_1 21 rfl rfl)
theorem dX0_exchange_47 : decode cX0_exchange 47 = .ok (.iload_n 1, 1) := dk_27 (dk_at dksX0_exchange_2 0 rfl rfl)
theorem dX0_exchange_48 : decode cX0_exchange 48 = .ok (.iaload, 1) := dk_46 (dk_at dksX0_exchange_2 1 rfl rfl)
theorem dX0_exchange_49 : decode cX0_exchange 49 = .ok (.ifCond .eq 12, 3) := dk_153 0 12 (dk_at dksX0_exchange_2 2 rfl rfl)
theorem dX0_exchange_52 : decode cX0_exchange 52 = .ok (.aload_n 3, 1) := dk_45 (dk_at dksX0_exchange_2 5 rfl rfl)
theorem dX0_exchange_53 : decode cX0_exchange 53 = .ok (.getfield 157, 3) := dk_180 0 157 (dk_at dksX0_exchange_2 6 rfl rfl)
theorem dX0_exchange_56 : decode cX0_exchange 56 = .ok (.iload_n 2, 1) := dk_28 (dk_at dksX0_exchange_2 9 rfl rfl)
theorem dX0_exchange_57 : decode cX0_exchange 57 = .ok (.iaload, 1) := dk_46 (dk_at dksX0_exchange_2 10 rfl rfl)
theorem dX0_exchange_58 : decode cX0_exchange 58 = .ok (.ifCond .ne 6, 3) := dk_154 0 6 (dk_at dksX0_exchange_2 11 rfl rfl)
theorem dX0_exchange_61 : decode cX0_exchange 61 = .ok (.bipush (-2), 2) := dk_16 254 (dk_at dksX0_exchange_2 14 rfl rfl)
theorem dX0_exchange_63 : decode cX0_exchange 63 = .ok (.ireturn, 1) := dk_172 (dk_at dksX0_exchange_2 16 rfl rfl)
theorem dX0_exchange_64 : decode cX0_exchange 64 = .ok (.aload_n 0, 1) := dk_42 (dk_at dksX0_exchange_2 17 rfl rfl)
theorem dX0_exchange_65 : decode cX0_exchange 65 = .ok (.invokevirtual 104, 3) := dk_182 0 104 (dk_at dksX0_exchange_2 18 rfl rfl)
theorem dX0_exchange_68 : decode cX0_exchange 68 = .ok (.astore 4, 2) := dk_58 4 (dk_at dksX0_exchange_2 21 rfl rfl)
theorem dX0_exchange_70 : decode cX0_exchange 70 = .ok (.aload 4, 2) := dk_25 4 (dk_at dksX0_exchange_3 0 rfl rfl)
theorem dX0_exchange_72 : decode cX0_exchange 72 = .ok (.getfield 62, 3) := dk_180 0 62 (dk_at dksX0_exchange_3 2 rfl rfl)
theorem dX0_exchange_75 : decode cX0_exchange 75 = .ok (.iload_n 1, 1) := dk_27 (dk_at dksX0_exchange_3 5 rfl rfl)
theorem dX0_exchange_76 : decode cX0_exchange 76 = .ok (.aload_n 3, 1) := dk_45 (dk_at dksX0_exchange_3 6 rfl rfl)
theorem dX0_exchange_77 : decode cX0_exchange 77 = .ok (.getfield 157, 3) := dk_180 0 157 (dk_at dksX0_exchange_3 7 rfl rfl)
theorem dX0_exchange_80 : decode cX0_exchange 80 = .ok (.iload_n 2, 1) := dk_28 (dk_at dksX0_exchange_3 10 rfl rfl)
theorem dX0_exchange_81 : decode cX0_exchange 81 = .ok (.iaload, 1) := dk_46 (dk_at dksX0_exchange_3 11 rfl rfl)
theorem dX0_exchange_82 : decode cX0_exchange 82 = .ok (.invokevirtual 160, 3) := dk_182 0 160 (dk_at dksX0_exchange_3 12 rfl rfl)
theorem dX0_exchange_85 : decode cX0_exchange 85 = .ok (.aload 4, 2) := dk_25 4 (dk_at dksX0_exchange_3 15 rfl rfl)
theorem dX0_exchange_87 : decode cX0_exchange 87 = .ok (.getfield 62, 3) := dk_180 0 62 (dk_at dksX0_exchange_3 17 rfl rfl)
theorem dX0_exchange_90 : decode cX0_exchange 90 = .ok (.iload_n 2, 1) := dk_28 (dk_at dksX0_exchange_3 20 rfl rfl)
theorem dX0_exchange_91 : decode cX0_exchange 91 = .ok (.aload_n 3, 1) := dk_45 (dk_at dksX0_exchange_3 21 rfl rfl)
theorem dX0_exchange_92 : decode cX0_exchange 92 = .ok (.getfield 157, 3) := dk_180 0 157 (dk_at dksX0_exchange_4 0 rfl rfl)
theorem dX0_exchange_95 : decode cX0_exchange 95 = .ok (.iload_n 1, 1) := dk_27 (dk_at dksX0_exchange_4 3 rfl rfl)
theorem dX0_exchange_96 : decode cX0_exchange 96 = .ok (.iaload, 1) := dk_46 (dk_at dksX0_exchange_4 4 rfl rfl)
theorem dX0_exchange_97 : decode cX0_exchange 97 = .ok (.invokevirtual 160, 3) := dk_182 0 160 (dk_at dksX0_exchange_4 5 rfl rfl)
theorem dX0_exchange_100 : decode cX0_exchange 100 = .ok (.aload 4, 2) := dk_25 4 (dk_at dksX0_exchange_4 8 rfl rfl)
theorem dX0_exchange_102 : decode cX0_exchange 102 = .ok (.invokevirtual 94, 3) := dk_182 0 94 (dk_at dksX0_exchange_4 10 rfl rfl)
theorem dX0_exchange_105 : decode cX0_exchange 105 = .ok (.aload 4, 2) := dk_25 4 (dk_at dksX0_exchange_4 13 rfl rfl)
theorem dX0_exchange_107 : decode cX0_exchange 107 = .ok (.getfield 62, 3) := dk_180 0 62 (dk_at dksX0_exchange_4 15 rfl rfl)
theorem dX0_exchange_110 : decode cX0_exchange 110 = .ok (.getfield 157, 3) := dk_180 0 157 (dk_at dksX0_exchange_4 18 rfl rfl)
theorem dX0_exchange_113 : decode cX0_exchange 113 = .ok (.iload_n 1, 1) := dk_27 (dk_at dksX0_exchange_4 21 rfl rfl)
theorem dX0_exchange_114 : decode cX0_exchange 114 = .ok (.iaload, 1) := dk_46 (dk_at dksX0_exchange_4 22 rfl rfl)
theorem dX0_exchange_115 : decode cX0_exchange 115 = .ok (.ireturn, 1) := dk_172 (dk_at dksX0_exchange_4 23 rfl rfl)
abbrev cX0_give : ByteArray := prog_1_method_23_code
def yX0_give : MethodName := ⟨RX0, "give", "(II)I"⟩
def dkwX0_give_0 : List UInt8 := [42, 3, 27, 28, 182, 0, 182, 172]
abbrev dktX0_give_0 : List UInt8 := dkwX0_give_0 ++ []
theorem dksX0_give_0 : cX0_give.data.toList.drop 0 = dktX0_give_0 := by decide +kernel
theorem dX0_give_0 : decode cX0_give 0 = .ok (.aload_n 0, 1) := dk_42 (dk_at dksX0_give_0 0 rfl rfl)
theorem dX0_give_1 : decode cX0_give 1 = .ok (.iconst 0, 1) := dk_3 (dk_at dksX0_give_0 1 rfl rfl)
theorem dX0_give_2 : decode cX0_give 2 = .ok (.iload_n 1, 1) := dk_27 (dk_at dksX0_give_0 2 rfl rfl)
theorem dX0_give_3 : decode cX0_give 3 = .ok (.iload_n 2, 1) := dk_28 (dk_at dksX0_give_0 3 rfl rfl)
theorem dX0_give_4 : decode cX0_give 4 = .ok (.invokevirtual 182, 3) := dk_182 0 182 (dk_at dksX0_give_0 4 rfl rfl)
theorem dX0_give_7 : decode cX0_give 7 = .ok (.ireturn, 1) := dk_172 (dk_at dksX0_give_0 7 rfl rfl)
abbrev cX0_setClue : ByteArray := prog_1_method_22_code
def yX0_setClue : MethodName := ⟨RX0, "setClue", "(III)I"⟩
def dkwX0_setClue_3 : List UInt8 := [182, 0, 94, 25, 4, 180, 0, 62, 27, 182, 0, 179, 172]
abbrev dktX0_setClue_3 : List UInt8 := dkwX0_setClue_3 ++ []
def dkwX0_setClue_2 : List UInt8 := [58, 4, 25, 4, 180, 0, 62, 27, 28, 29, 4, 160, 0, 7, 4, 167, 0, 4, 3, 182, 0, 175, 25, 4]
abbrev dktX0_setClue_2 : List UInt8 := dkwX0_setClue_2 ++ dktX0_setClue_3
def dkwX0_setClue_1 : List UInt8 := [4, 160, 0, 18, 42, 182, 0, 122, 27, 28, 182, 0, 172, 154, 0, 6, 16, 254, 172, 42, 182, 0, 104]
abbrev dktX0_setClue_1 : List UInt8 := dkwX0_setClue_1 ++ dktX0_setClue_2
def dkwX0_setClue_0 : List UInt8 := [42, 182, 0, 122, 27, 28, 182, 0, 169, 153, 0, 12, 29, 3, 4, 184, 0, 90, 154, 0, 5, 2, 172, 29]
abbrev dktX0_setClue_0 : List UInt8 := dkwX0_setClue_0 ++ dktX0_setClue_1
theorem dksX0_setClue_0 : cX0_setClue.data.toList.drop 0 = dktX0_setClue_0 := by decide +kernel
theorem dksX0_setClue_1 : cX0_setClue.data.toList.drop 24 = dktX0_setClue_1 := dk_seg dksX0_setClue_0 24 rfl rfl
theorem dksX0_setClue_2 : cX0_setClue.data.toList.drop 47 = dktX0_setClue_2 := dk_seg dksX0_setClue_1 23 rfl rfl
theorem dksX0_setClue_3 : cX0_setClue.data.toList.drop 71 = dktX0_setClue_3 := dk_seg dksX0_setClue_2 24 rfl rfl
theorem dX0_setClue_0 : decode cX0_setClue 0 = .ok (.aload_n 0, 1) := dk_42 (dk_at dksX0_setClue_0 0 rfl rfl)
theorem dX0_setClue_1 : decode cX0_setClue 1 = .ok (.invokevirtual 122, 3) := dk_182 0 122 (dk_at dksX0_setClue_0 1 rfl rfl)
theorem dX0_setClue_4 : decode cX0_setClue 4 = .ok (.iload_n 1, 1) := dk_27 (dk_at dksX0_setClue_0 4 rfl rfl)
theorem dX0_setClue_5 : decode cX0_setClue 5 = .ok (.iload_n 2, 1) := dk_28 (dk_at dksX0_setClue_0 5 rfl rfl)
theorem dX0_setClue_6 : decode cX0_setClue 6 = .ok (.invokevirtual 169, 3) := dk_182 0 169 (dk_at dksX0_setClue_0 6 rfl rfl)
theorem dX0_setClue_9 : decode cX0_setClue 9 = .ok (.ifCond .eq 12, 3) := dk_153 0 12 (dk_at dksX0_setClue_0 9 rfl rfl)
theorem dX0_setClue_12 : decode cX0_setClue 12 = .ok (.iload_n 3, 1) := dk_29 (dk_at dksX0_setClue_0 12 rfl rfl)
theorem dX0_setClue_13 : decode cX0_setClue 13 = .ok (.iconst 0, 1) := dk_3 (dk_at dksX0_setClue_0 13 rfl rfl)
theorem dX0_setClue_14 : decode cX0_setClue 14 = .ok (.iconst 1, 1) := dk_4 (dk_at dksX0_setClue_0 14 rfl rfl)
theorem dX0_setClue_15 : decode cX0_setClue 15 = .ok (.invokestatic 90, 3) := dk_184 0 90 (dk_at dksX0_setClue_0 15 rfl rfl)
theorem dX0_setClue_18 : decode cX0_setClue 18 = .ok (.ifCond .ne 5, 3) := dk_154 0 5 (dk_at dksX0_setClue_0 18 rfl rfl)
theorem dX0_setClue_21 : decode cX0_setClue 21 = .ok (.iconst (-1), 1) := dk_2 (dk_at dksX0_setClue_0 21 rfl rfl)
theorem dX0_setClue_22 : decode cX0_setClue 22 = .ok (.ireturn, 1) := dk_172 (dk_at dksX0_setClue_0 22 rfl rfl)
theorem dX0_setClue_23 : decode cX0_setClue 23 = .ok (.iload_n 3, 1) := dk_29 (dk_at dksX0_setClue_0 23 rfl rfl)
theorem dX0_setClue_24 : decode cX0_setClue 24 = .ok (.iconst 1, 1) := dk_4 (dk_at dksX0_setClue_1 0 rfl rfl)
theorem dX0_setClue_25 : decode cX0_setClue 25 = .ok (.if_icmp .ne 18, 3) := dk_160 0 18 (dk_at dksX0_setClue_1 1 rfl rfl)
theorem dX0_setClue_28 : decode cX0_setClue 28 = .ok (.aload_n 0, 1) := dk_42 (dk_at dksX0_setClue_1 4 rfl rfl)
theorem dX0_setClue_29 : decode cX0_setClue 29 = .ok (.invokevirtual 122, 3) := dk_182 0 122 (dk_at dksX0_setClue_1 5 rfl rfl)
theorem dX0_setClue_32 : decode cX0_setClue 32 = .ok (.iload_n 1, 1) := dk_27 (dk_at dksX0_setClue_1 8 rfl rfl)
theorem dX0_setClue_33 : decode cX0_setClue 33 = .ok (.iload_n 2, 1) := dk_28 (dk_at dksX0_setClue_1 9 rfl rfl)
theorem dX0_setClue_34 : decode cX0_setClue 34 = .ok (.invokevirtual 172, 3) := dk_182 0 172 (dk_at dksX0_setClue_1 10 rfl rfl)
theorem dX0_setClue_37 : decode cX0_setClue 37 = .ok (.ifCond .ne 6, 3) := dk_154 0 6 (dk_at dksX0_setClue_1 13 rfl rfl)
theorem dX0_setClue_40 : decode cX0_setClue 40 = .ok (.bipush (-2), 2) := dk_16 254 (dk_at dksX0_setClue_1 16 rfl rfl)
theorem dX0_setClue_42 : decode cX0_setClue 42 = .ok (.ireturn, 1) := dk_172 (dk_at dksX0_setClue_1 18 rfl rfl)
theorem dX0_setClue_43 : decode cX0_setClue 43 = .ok (.aload_n 0, 1) := dk_42 (dk_at dksX0_setClue_1 19 rfl rfl)
theorem dX0_setClue_44 : decode cX0_setClue 44 = .ok (.invokevirtual 104, 3) := dk_182 0 104 (dk_at dksX0_setClue_1 20 rfl rfl)
theorem dX0_setClue_47 : decode cX0_setClue 47 = .ok (.astore 4, 2) := dk_58 4 (dk_at dksX0_setClue_2 0 rfl rfl)
theorem dX0_setClue_49 : decode cX0_setClue 49 = .ok (.aload 4, 2) := dk_25 4 (dk_at dksX0_setClue_2 2 rfl rfl)
theorem dX0_setClue_51 : decode cX0_setClue 51 = .ok (.getfield 62, 3) := dk_180 0 62 (dk_at dksX0_setClue_2 4 rfl rfl)
theorem dX0_setClue_54 : decode cX0_setClue 54 = .ok (.iload_n 1, 1) := dk_27 (dk_at dksX0_setClue_2 7 rfl rfl)
theorem dX0_setClue_55 : decode cX0_setClue 55 = .ok (.iload_n 2, 1) := dk_28 (dk_at dksX0_setClue_2 8 rfl rfl)
theorem dX0_setClue_56 : decode cX0_setClue 56 = .ok (.iload_n 3, 1) := dk_29 (dk_at dksX0_setClue_2 9 rfl rfl)
theorem dX0_setClue_57 : decode cX0_setClue 57 = .ok (.iconst 1, 1) := dk_4 (dk_at dksX0_setClue_2 10 rfl rfl)
theorem dX0_setClue_58 : decode cX0_setClue 58 = .ok (.if_icmp .ne 7, 3) := dk_160 0 7 (dk_at dksX0_setClue_2 11 rfl rfl)
theorem dX0_setClue_61 : decode cX0_setClue 61 = .ok (.iconst 1, 1) := dk_4 (dk_at dksX0_setClue_2 14 rfl rfl)
theorem dX0_setClue_62 : decode cX0_setClue 62 = .ok (.goto 4, 3) := dk_167 0 4 (dk_at dksX0_setClue_2 15 rfl rfl)
theorem dX0_setClue_65 : decode cX0_setClue 65 = .ok (.iconst 0, 1) := dk_3 (dk_at dksX0_setClue_2 18 rfl rfl)
theorem dX0_setClue_66 : decode cX0_setClue 66 = .ok (.invokevirtual 175, 3) := dk_182 0 175 (dk_at dksX0_setClue_2 19 rfl rfl)
theorem dX0_setClue_69 : decode cX0_setClue 69 = .ok (.aload 4, 2) := dk_25 4 (dk_at dksX0_setClue_2 22 rfl rfl)
theorem dX0_setClue_71 : decode cX0_setClue 71 = .ok (.invokevirtual 94, 3) := dk_182 0 94 (dk_at dksX0_setClue_3 0 rfl rfl)
theorem dX0_setClue_74 : decode cX0_setClue 74 = .ok (.aload 4, 2) := dk_25 4 (dk_at dksX0_setClue_3 3 rfl rfl)
theorem dX0_setClue_76 : decode cX0_setClue 76 = .ok (.getfield 62, 3) := dk_180 0 62 (dk_at dksX0_setClue_3 5 rfl rfl)
theorem dX0_setClue_79 : decode cX0_setClue 79 = .ok (.iload_n 1, 1) := dk_27 (dk_at dksX0_setClue_3 8 rfl rfl)
theorem dX0_setClue_80 : decode cX0_setClue 80 = .ok (.invokevirtual 179, 3) := dk_182 0 179 (dk_at dksX0_setClue_3 9 rfl rfl)
theorem dX0_setClue_83 : decode cX0_setClue 83 = .ok (.ireturn, 1) := dk_172 (dk_at dksX0_setClue_3 12 rfl rfl)
abbrev cX0_showSum : ByteArray := prog_1_method_24_code
def yX0_showSum : MethodName := ⟨RX0, "showSum", "(II)I"⟩
def dkwX0_showSum_0 : List UInt8 := [42, 4, 27, 28, 182, 0, 182, 172]
abbrev dktX0_showSum_0 : List UInt8 := dkwX0_showSum_0 ++ []
theorem dksX0_showSum_0 : cX0_showSum.data.toList.drop 0 = dktX0_showSum_0 := by decide +kernel
theorem dX0_showSum_0 : decode cX0_showSum 0 = .ok (.aload_n 0, 1) := dk_42 (dk_at dksX0_showSum_0 0 rfl rfl)
theorem dX0_showSum_1 : decode cX0_showSum 1 = .ok (.iconst 1, 1) := dk_4 (dk_at dksX0_showSum_0 1 rfl rfl)
theorem dX0_showSum_2 : decode cX0_showSum 2 = .ok (.iload_n 1, 1) := dk_27 (dk_at dksX0_showSum_0 2 rfl rfl)
theorem dX0_showSum_3 : decode cX0_showSum 3 = .ok (.iload_n 2, 1) := dk_28 (dk_at dksX0_showSum_0 3 rfl rfl)
theorem dX0_showSum_4 : decode cX0_showSum 4 = .ok (.invokevirtual 182, 3) := dk_182 0 182 (dk_at dksX0_showSum_0 4 rfl rfl)
theorem dX0_showSum_7 : decode cX0_showSum 7 = .ok (.ireturn, 1) := dk_172 (dk_at dksX0_showSum_0 7 rfl rfl)
abbrev cX0_reduce : ByteArray := prog_1_method_26_code
def yX0_reduce : MethodName := ⟨RX0, "reduce", "(II)I"⟩
def dkwX0_reduce_8 : List UInt8 := [167, 255, 185, 45, 182, 0, 94, 21, 6, 172]
abbrev dktX0_reduce_8 : List UInt8 := dkwX0_reduce_8 ++ []
def dkwX0_reduce_7 : List UInt8 := [4, 167, 0, 4, 3, 182, 0, 175, 21, 6, 21, 8, 153, 0, 7, 4, 167, 0, 4, 3, 96, 54, 6]
abbrev dktX0_reduce_7 : List UInt8 := dkwX0_reduce_7 ++ dktX0_reduce_8
def dkwX0_reduce_6 : List UInt8 := [21, 7, 3, 182, 0, 175, 42, 25, 4, 182, 0, 194, 54, 8, 25, 4, 27, 21, 7, 21, 8, 154, 0, 7]
abbrev dktX0_reduce_6 : List UInt8 := dkwX0_reduce_6 ++ dktX0_reduce_7
def dkwX0_reduce_5 : List UInt8 := [25, 5, 182, 0, 224, 154, 0, 69, 25, 5, 182, 0, 228, 192, 0, 214, 180, 0, 231, 54, 7, 25, 4, 27]
abbrev dktX0_reduce_5 : List UInt8 := dkwX0_reduce_5 ++ dktX0_reduce_6
def dkwX0_reduce_4 : List UInt8 := [27, 21, 6, 182, 0, 216, 183, 0, 219, 182, 0, 220, 54, 7, 132, 6, 1, 167, 255, 207, 3, 54, 6]
abbrev dktX0_reduce_4 : List UInt8 := dkwX0_reduce_4 ++ dktX0_reduce_5
def dkwX0_reduce_3 : List UInt8 := [162, 0, 44, 25, 4, 27, 21, 6, 182, 0, 211, 153, 0, 27, 25, 5, 187, 0, 214, 89, 21, 6, 25, 4]
abbrev dktX0_reduce_3 : List UInt8 := dkwX0_reduce_3 ++ dktX0_reduce_4
def dkwX0_reduce_2 : List UInt8 := [187, 0, 197, 89, 28, 184, 0, 199, 183, 0, 205, 58, 5, 3, 54, 6, 21, 6, 25, 4, 27, 182, 0, 208]
abbrev dktX0_reduce_2 : List UInt8 := dkwX0_reduce_2 ++ dktX0_reduce_3
def dkwX0_reduce_1 : List UInt8 := [182, 0, 122, 182, 0, 194, 154, 0, 6, 16, 254, 172, 42, 182, 0, 104, 78, 45, 180, 0, 62, 58, 4]
abbrev dktX0_reduce_1 : List UInt8 := dkwX0_reduce_1 ++ dktX0_reduce_2
def dkwX0_reduce_0 : List UInt8 := [27, 3, 4, 184, 0, 90, 153, 0, 12, 28, 3, 5, 184, 0, 90, 154, 0, 5, 2, 172, 42, 42]
abbrev dktX0_reduce_0 : List UInt8 := dkwX0_reduce_0 ++ dktX0_reduce_1
theorem dksX0_reduce_0 : cX0_reduce.data.toList.drop 0 = dktX0_reduce_0 := by decide +kernel
theorem dksX0_reduce_1 : cX0_reduce.data.toList.drop 22 = dktX0_reduce_1 := dk_seg dksX0_reduce_0 22 rfl rfl
theorem dksX0_reduce_2 : cX0_reduce.data.toList.drop 45 = dktX0_reduce_2 := dk_seg dksX0_reduce_1 23 rfl rfl
theorem dksX0_reduce_3 : cX0_reduce.data.toList.drop 69 = dktX0_reduce_3 := dk_seg dksX0_reduce_2 24 rfl rfl
theorem dksX0_reduce_4 : cX0_reduce.data.toList.drop 93 = dktX0_reduce_4 := dk_seg dksX0_reduce_3 24 rfl rfl
theorem dksX0_reduce_5 : cX0_reduce.data.toList.drop 116 = dktX0_reduce_5 := dk_seg dksX0_reduce_4 23 rfl rfl
theorem dksX0_reduce_6 : cX0_reduce.data.toList.drop 140 = dktX0_reduce_6 := dk_seg dksX0_reduce_5 24 rfl rfl
theorem dksX0_reduce_7 : cX0_reduce.data.toList.drop 164 = dktX0_reduce_7 := dk_seg dksX0_reduce_6 24 rfl rfl
theorem dksX0_reduce_8 : cX0_reduce.data.toList.drop 187 = dktX0_reduce_8 := dk_seg dksX0_reduce_7 23 rfl rfl
theorem dX0_reduce_0 : decode cX0_reduce 0 = .ok (.iload_n 1, 1) := dk_27 (dk_at dksX0_reduce_0 0 rfl rfl)
theorem dX0_reduce_1 : decode cX0_reduce 1 = .ok (.iconst 0, 1) := dk_3 (dk_at dksX0_reduce_0 1 rfl rfl)
theorem dX0_reduce_2 : decode cX0_reduce 2 = .ok (.iconst 1, 1) := dk_4 (dk_at dksX0_reduce_0 2 rfl rfl)
theorem dX0_reduce_3 : decode cX0_reduce 3 = .ok (.invokestatic 90, 3) := dk_184 0 90 (dk_at dksX0_reduce_0 3 rfl rfl)
theorem dX0_reduce_6 : decode cX0_reduce 6 = .ok (.ifCond .eq 12, 3) := dk_153 0 12 (dk_at dksX0_reduce_0 6 rfl rfl)
theorem dX0_reduce_9 : decode cX0_reduce 9 = .ok (.iload_n 2, 1) := dk_28 (dk_at dksX0_reduce_0 9 rfl rfl)
theorem dX0_reduce_10 : decode cX0_reduce 10 = .ok (.iconst 0, 1) := dk_3 (dk_at dksX0_reduce_0 10 rfl rfl)
theorem dX0_reduce_11 : decode cX0_reduce 11 = .ok (.iconst 2, 1) := dk_5 (dk_at dksX0_reduce_0 11 rfl rfl)
theorem dX0_reduce_12 : decode cX0_reduce 12 = .ok (.invokestatic 90, 3) := dk_184 0 90 (dk_at dksX0_reduce_0 12 rfl rfl)
theorem dX0_reduce_15 : decode cX0_reduce 15 = .ok (.ifCond .ne 5, 3) := dk_154 0 5 (dk_at dksX0_reduce_0 15 rfl rfl)
theorem dX0_reduce_18 : decode cX0_reduce 18 = .ok (.iconst (-1), 1) := dk_2 (dk_at dksX0_reduce_0 18 rfl rfl)
theorem dX0_reduce_19 : decode cX0_reduce 19 = .ok (.ireturn, 1) := dk_172 (dk_at dksX0_reduce_0 19 rfl rfl)
theorem dX0_reduce_20 : decode cX0_reduce 20 = .ok (.aload_n 0, 1) := dk_42 (dk_at dksX0_reduce_0 20 rfl rfl)
theorem dX0_reduce_21 : decode cX0_reduce 21 = .ok (.aload_n 0, 1) := dk_42 (dk_at dksX0_reduce_0 21 rfl rfl)
theorem dX0_reduce_22 : decode cX0_reduce 22 = .ok (.invokevirtual 122, 3) := dk_182 0 122 (dk_at dksX0_reduce_1 0 rfl rfl)
theorem dX0_reduce_25 : decode cX0_reduce 25 = .ok (.invokevirtual 194, 3) := dk_182 0 194 (dk_at dksX0_reduce_1 3 rfl rfl)
theorem dX0_reduce_28 : decode cX0_reduce 28 = .ok (.ifCond .ne 6, 3) := dk_154 0 6 (dk_at dksX0_reduce_1 6 rfl rfl)
theorem dX0_reduce_31 : decode cX0_reduce 31 = .ok (.bipush (-2), 2) := dk_16 254 (dk_at dksX0_reduce_1 9 rfl rfl)
theorem dX0_reduce_33 : decode cX0_reduce 33 = .ok (.ireturn, 1) := dk_172 (dk_at dksX0_reduce_1 11 rfl rfl)
theorem dX0_reduce_34 : decode cX0_reduce 34 = .ok (.aload_n 0, 1) := dk_42 (dk_at dksX0_reduce_1 12 rfl rfl)
theorem dX0_reduce_35 : decode cX0_reduce 35 = .ok (.invokevirtual 104, 3) := dk_182 0 104 (dk_at dksX0_reduce_1 13 rfl rfl)
theorem dX0_reduce_38 : decode cX0_reduce 38 = .ok (.astore_n 3, 1) := dk_78 (dk_at dksX0_reduce_1 16 rfl rfl)
theorem dX0_reduce_39 : decode cX0_reduce 39 = .ok (.aload_n 3, 1) := dk_45 (dk_at dksX0_reduce_1 17 rfl rfl)
theorem dX0_reduce_40 : decode cX0_reduce 40 = .ok (.getfield 62, 3) := dk_180 0 62 (dk_at dksX0_reduce_1 18 rfl rfl)
theorem dX0_reduce_43 : decode cX0_reduce 43 = .ok (.astore 4, 2) := dk_58 4 (dk_at dksX0_reduce_1 21 rfl rfl)
theorem dX0_reduce_45 : decode cX0_reduce 45 = .ok (.new 197, 3) := dk_187 0 197 (dk_at dksX0_reduce_2 0 rfl rfl)
theorem dX0_reduce_48 : decode cX0_reduce 48 = .ok (.dup, 1) := dk_89 (dk_at dksX0_reduce_2 3 rfl rfl)
theorem dX0_reduce_49 : decode cX0_reduce 49 = .ok (.iload_n 2, 1) := dk_28 (dk_at dksX0_reduce_2 4 rfl rfl)
theorem dX0_reduce_50 : decode cX0_reduce 50 = .ok (.invokestatic 199, 3) := dk_184 0 199 (dk_at dksX0_reduce_2 5 rfl rfl)
theorem dX0_reduce_53 : decode cX0_reduce 53 = .ok (.invokespecial 205, 3) := dk_183 0 205 (dk_at dksX0_reduce_2 8 rfl rfl)
theorem dX0_reduce_56 : decode cX0_reduce 56 = .ok (.astore 5, 2) := dk_58 5 (dk_at dksX0_reduce_2 11 rfl rfl)
theorem dX0_reduce_58 : decode cX0_reduce 58 = .ok (.iconst 0, 1) := dk_3 (dk_at dksX0_reduce_2 13 rfl rfl)
theorem dX0_reduce_59 : decode cX0_reduce 59 = .ok (.istore 6, 2) := dk_54 6 (dk_at dksX0_reduce_2 14 rfl rfl)
theorem dX0_reduce_61 : decode cX0_reduce 61 = .ok (.iload 6, 2) := dk_21 6 (dk_at dksX0_reduce_2 16 rfl rfl)
theorem dX0_reduce_63 : decode cX0_reduce 63 = .ok (.aload 4, 2) := dk_25 4 (dk_at dksX0_reduce_2 18 rfl rfl)
theorem dX0_reduce_65 : decode cX0_reduce 65 = .ok (.iload_n 1, 1) := dk_27 (dk_at dksX0_reduce_2 20 rfl rfl)
theorem dX0_reduce_66 : decode cX0_reduce 66 = .ok (.invokevirtual 208, 3) := dk_182 0 208 (dk_at dksX0_reduce_2 21 rfl rfl)
theorem dX0_reduce_69 : decode cX0_reduce 69 = .ok (.if_icmp .ge 44, 3) := dk_162 0 44 (dk_at dksX0_reduce_3 0 rfl rfl)
theorem dX0_reduce_72 : decode cX0_reduce 72 = .ok (.aload 4, 2) := dk_25 4 (dk_at dksX0_reduce_3 3 rfl rfl)
theorem dX0_reduce_74 : decode cX0_reduce 74 = .ok (.iload_n 1, 1) := dk_27 (dk_at dksX0_reduce_3 5 rfl rfl)
theorem dX0_reduce_75 : decode cX0_reduce 75 = .ok (.iload 6, 2) := dk_21 6 (dk_at dksX0_reduce_3 6 rfl rfl)
theorem dX0_reduce_77 : decode cX0_reduce 77 = .ok (.invokevirtual 211, 3) := dk_182 0 211 (dk_at dksX0_reduce_3 8 rfl rfl)
theorem dX0_reduce_80 : decode cX0_reduce 80 = .ok (.ifCond .eq 27, 3) := dk_153 0 27 (dk_at dksX0_reduce_3 11 rfl rfl)
theorem dX0_reduce_83 : decode cX0_reduce 83 = .ok (.aload 5, 2) := dk_25 5 (dk_at dksX0_reduce_3 14 rfl rfl)
theorem dX0_reduce_85 : decode cX0_reduce 85 = .ok (.new 214, 3) := dk_187 0 214 (dk_at dksX0_reduce_3 16 rfl rfl)
theorem dX0_reduce_88 : decode cX0_reduce 88 = .ok (.dup, 1) := dk_89 (dk_at dksX0_reduce_3 19 rfl rfl)
theorem dX0_reduce_89 : decode cX0_reduce 89 = .ok (.iload 6, 2) := dk_21 6 (dk_at dksX0_reduce_3 20 rfl rfl)
theorem dX0_reduce_91 : decode cX0_reduce 91 = .ok (.aload 4, 2) := dk_25 4 (dk_at dksX0_reduce_3 22 rfl rfl)
theorem dX0_reduce_93 : decode cX0_reduce 93 = .ok (.iload_n 1, 1) := dk_27 (dk_at dksX0_reduce_4 0 rfl rfl)
theorem dX0_reduce_94 : decode cX0_reduce 94 = .ok (.iload 6, 2) := dk_21 6 (dk_at dksX0_reduce_4 1 rfl rfl)
theorem dX0_reduce_96 : decode cX0_reduce 96 = .ok (.invokevirtual 216, 3) := dk_182 0 216 (dk_at dksX0_reduce_4 3 rfl rfl)
theorem dX0_reduce_99 : decode cX0_reduce 99 = .ok (.invokespecial 219, 3) := dk_183 0 219 (dk_at dksX0_reduce_4 6 rfl rfl)
theorem dX0_reduce_102 : decode cX0_reduce 102 = .ok (.invokevirtual 220, 3) := dk_182 0 220 (dk_at dksX0_reduce_4 9 rfl rfl)
theorem dX0_reduce_105 : decode cX0_reduce 105 = .ok (.istore 7, 2) := dk_54 7 (dk_at dksX0_reduce_4 12 rfl rfl)
theorem dX0_reduce_107 : decode cX0_reduce 107 = .ok (.iinc 6 1, 3) := dk_132 6 1 (dk_at dksX0_reduce_4 14 rfl rfl)
theorem dX0_reduce_110 : decode cX0_reduce 110 = .ok (.goto (-49), 3) := dk_167 255 207 (dk_at dksX0_reduce_4 17 rfl rfl)
theorem dX0_reduce_113 : decode cX0_reduce 113 = .ok (.iconst 0, 1) := dk_3 (dk_at dksX0_reduce_4 20 rfl rfl)
theorem dX0_reduce_114 : decode cX0_reduce 114 = .ok (.istore 6, 2) := dk_54 6 (dk_at dksX0_reduce_4 21 rfl rfl)
theorem dX0_reduce_116 : decode cX0_reduce 116 = .ok (.aload 5, 2) := dk_25 5 (dk_at dksX0_reduce_5 0 rfl rfl)
theorem dX0_reduce_118 : decode cX0_reduce 118 = .ok (.invokevirtual 224, 3) := dk_182 0 224 (dk_at dksX0_reduce_5 2 rfl rfl)
theorem dX0_reduce_121 : decode cX0_reduce 121 = .ok (.ifCond .ne 69, 3) := dk_154 0 69 (dk_at dksX0_reduce_5 5 rfl rfl)
theorem dX0_reduce_124 : decode cX0_reduce 124 = .ok (.aload 5, 2) := dk_25 5 (dk_at dksX0_reduce_5 8 rfl rfl)
theorem dX0_reduce_126 : decode cX0_reduce 126 = .ok (.invokevirtual 228, 3) := dk_182 0 228 (dk_at dksX0_reduce_5 10 rfl rfl)
theorem dX0_reduce_129 : decode cX0_reduce 129 = .ok (.checkcast 214, 3) := dk_192 0 214 (dk_at dksX0_reduce_5 13 rfl rfl)
theorem dX0_reduce_132 : decode cX0_reduce 132 = .ok (.getfield 231, 3) := dk_180 0 231 (dk_at dksX0_reduce_5 16 rfl rfl)
theorem dX0_reduce_135 : decode cX0_reduce 135 = .ok (.istore 7, 2) := dk_54 7 (dk_at dksX0_reduce_5 19 rfl rfl)
theorem dX0_reduce_137 : decode cX0_reduce 137 = .ok (.aload 4, 2) := dk_25 4 (dk_at dksX0_reduce_5 21 rfl rfl)
theorem dX0_reduce_139 : decode cX0_reduce 139 = .ok (.iload_n 1, 1) := dk_27 (dk_at dksX0_reduce_5 23 rfl rfl)
theorem dX0_reduce_140 : decode cX0_reduce 140 = .ok (.iload 7, 2) := dk_21 7 (dk_at dksX0_reduce_6 0 rfl rfl)
theorem dX0_reduce_142 : decode cX0_reduce 142 = .ok (.iconst 0, 1) := dk_3 (dk_at dksX0_reduce_6 2 rfl rfl)
theorem dX0_reduce_143 : decode cX0_reduce 143 = .ok (.invokevirtual 175, 3) := dk_182 0 175 (dk_at dksX0_reduce_6 3 rfl rfl)
theorem dX0_reduce_146 : decode cX0_reduce 146 = .ok (.aload_n 0, 1) := dk_42 (dk_at dksX0_reduce_6 6 rfl rfl)
theorem dX0_reduce_147 : decode cX0_reduce 147 = .ok (.aload 4, 2) := dk_25 4 (dk_at dksX0_reduce_6 7 rfl rfl)
theorem dX0_reduce_149 : decode cX0_reduce 149 = .ok (.invokevirtual 194, 3) := dk_182 0 194 (dk_at dksX0_reduce_6 9 rfl rfl)
theorem dX0_reduce_152 : decode cX0_reduce 152 = .ok (.istore 8, 2) := dk_54 8 (dk_at dksX0_reduce_6 12 rfl rfl)
theorem dX0_reduce_154 : decode cX0_reduce 154 = .ok (.aload 4, 2) := dk_25 4 (dk_at dksX0_reduce_6 14 rfl rfl)
theorem dX0_reduce_156 : decode cX0_reduce 156 = .ok (.iload_n 1, 1) := dk_27 (dk_at dksX0_reduce_6 16 rfl rfl)
theorem dX0_reduce_157 : decode cX0_reduce 157 = .ok (.iload 7, 2) := dk_21 7 (dk_at dksX0_reduce_6 17 rfl rfl)
theorem dX0_reduce_159 : decode cX0_reduce 159 = .ok (.iload 8, 2) := dk_21 8 (dk_at dksX0_reduce_6 19 rfl rfl)
theorem dX0_reduce_161 : decode cX0_reduce 161 = .ok (.ifCond .ne 7, 3) := dk_154 0 7 (dk_at dksX0_reduce_6 21 rfl rfl)
theorem dX0_reduce_164 : decode cX0_reduce 164 = .ok (.iconst 1, 1) := dk_4 (dk_at dksX0_reduce_7 0 rfl rfl)
theorem dX0_reduce_165 : decode cX0_reduce 165 = .ok (.goto 4, 3) := dk_167 0 4 (dk_at dksX0_reduce_7 1 rfl rfl)
theorem dX0_reduce_168 : decode cX0_reduce 168 = .ok (.iconst 0, 1) := dk_3 (dk_at dksX0_reduce_7 4 rfl rfl)
theorem dX0_reduce_169 : decode cX0_reduce 169 = .ok (.invokevirtual 175, 3) := dk_182 0 175 (dk_at dksX0_reduce_7 5 rfl rfl)
theorem dX0_reduce_172 : decode cX0_reduce 172 = .ok (.iload 6, 2) := dk_21 6 (dk_at dksX0_reduce_7 8 rfl rfl)
theorem dX0_reduce_174 : decode cX0_reduce 174 = .ok (.iload 8, 2) := dk_21 8 (dk_at dksX0_reduce_7 10 rfl rfl)
theorem dX0_reduce_176 : decode cX0_reduce 176 = .ok (.ifCond .eq 7, 3) := dk_153 0 7 (dk_at dksX0_reduce_7 12 rfl rfl)
theorem dX0_reduce_179 : decode cX0_reduce 179 = .ok (.iconst 1, 1) := dk_4 (dk_at dksX0_reduce_7 15 rfl rfl)
theorem dX0_reduce_180 : decode cX0_reduce 180 = .ok (.goto 4, 3) := dk_167 0 4 (dk_at dksX0_reduce_7 16 rfl rfl)
theorem dX0_reduce_183 : decode cX0_reduce 183 = .ok (.iconst 0, 1) := dk_3 (dk_at dksX0_reduce_7 19 rfl rfl)
theorem dX0_reduce_184 : decode cX0_reduce 184 = .ok (.iadd, 1) := dk_96 (dk_at dksX0_reduce_7 20 rfl rfl)
theorem dX0_reduce_185 : decode cX0_reduce 185 = .ok (.istore 6, 2) := dk_54 6 (dk_at dksX0_reduce_7 21 rfl rfl)
theorem dX0_reduce_187 : decode cX0_reduce 187 = .ok (.goto (-71), 3) := dk_167 255 185 (dk_at dksX0_reduce_8 0 rfl rfl)
theorem dX0_reduce_190 : decode cX0_reduce 190 = .ok (.aload_n 3, 1) := dk_45 (dk_at dksX0_reduce_8 3 rfl rfl)
theorem dX0_reduce_191 : decode cX0_reduce 191 = .ok (.invokevirtual 94, 3) := dk_182 0 94 (dk_at dksX0_reduce_8 4 rfl rfl)
theorem dX0_reduce_194 : decode cX0_reduce 194 = .ok (.iload 6, 2) := dk_21 6 (dk_at dksX0_reduce_8 7 rfl rfl)
theorem dX0_reduce_196 : decode cX0_reduce 196 = .ok (.ireturn, 1) := dk_172 (dk_at dksX0_reduce_8 9 rfl rfl)
abbrev cX0_isSolvable : ByteArray := prog_1_method_25_code
def yX0_isSolvable : MethodName := ⟨RX0, "isSolvable", "(LEdgeSums$Page;)Z"⟩
def dkwX0_isSolvable_0 : List UInt8 := [42, 180, 0, 54, 43, 42, 182, 0, 185, 180, 0, 187, 182, 0, 190, 172]
abbrev dktX0_isSolvable_0 : List UInt8 := dkwX0_isSolvable_0 ++ []
theorem dksX0_isSolvable_0 : cX0_isSolvable.data.toList.drop 0 = dktX0_isSolvable_0 := by decide +kernel
theorem dX0_isSolvable_0 : decode cX0_isSolvable 0 = .ok (.aload_n 0, 1) := dk_42 (dk_at dksX0_isSolvable_0 0 rfl rfl)
theorem dX0_isSolvable_1 : decode cX0_isSolvable 1 = .ok (.getfield 54, 3) := dk_180 0 54 (dk_at dksX0_isSolvable_0 1 rfl rfl)
theorem dX0_isSolvable_4 : decode cX0_isSolvable 4 = .ok (.aload_n 1, 1) := dk_43 (dk_at dksX0_isSolvable_0 4 rfl rfl)
theorem dX0_isSolvable_5 : decode cX0_isSolvable 5 = .ok (.aload_n 0, 1) := dk_42 (dk_at dksX0_isSolvable_0 5 rfl rfl)
theorem dX0_isSolvable_6 : decode cX0_isSolvable 6 = .ok (.invokevirtual 185, 3) := dk_182 0 185 (dk_at dksX0_isSolvable_0 6 rfl rfl)
theorem dX0_isSolvable_9 : decode cX0_isSolvable 9 = .ok (.getfield 187, 3) := dk_180 0 187 (dk_at dksX0_isSolvable_0 9 rfl rfl)
theorem dX0_isSolvable_12 : decode cX0_isSolvable 12 = .ok (.invokevirtual 190, 3) := dk_182 0 190 (dk_at dksX0_isSolvable_0 12 rfl rfl)
theorem dX0_isSolvable_15 : decode cX0_isSolvable 15 = .ok (.ireturn, 1) := dk_172 (dk_at dksX0_isSolvable_0 15 rfl rfl)
abbrev cX0_least : ByteArray := prog_1_method_3_code
def yX0_least : MethodName := ⟨RX0, "least", "(I)I"⟩
theorem dX0_least_0 : decode cX0_least 0 = .ok (.iload_n 0, 1) := by decide +kernel
theorem dX0_least_1 : decode cX0_least 1 = .ok (.invokestatic 3, 3) := by decide +kernel
theorem dX0_least_4 : decode cX0_least 4 = .ok (.ireturn, 1) := by decide +kernel
abbrev cX0_greatest : ByteArray := prog_1_method_4_code
def yX0_greatest : MethodName := ⟨RX0, "greatest", "(I)I"⟩
def dkwX0_greatest_0 : List UInt8 := [16, 31, 26, 184, 0, 9, 100, 172]
abbrev dktX0_greatest_0 : List UInt8 := dkwX0_greatest_0 ++ []
theorem dksX0_greatest_0 : cX0_greatest.data.toList.drop 0 = dktX0_greatest_0 := by decide +kernel
theorem dX0_greatest_0 : decode cX0_greatest 0 = .ok (.bipush 31, 2) := dk_16 31 (dk_at dksX0_greatest_0 0 rfl rfl)
theorem dX0_greatest_2 : decode cX0_greatest 2 = .ok (.iload_n 0, 1) := dk_26 (dk_at dksX0_greatest_0 2 rfl rfl)
theorem dX0_greatest_3 : decode cX0_greatest 3 = .ok (.invokestatic 9, 3) := dk_184 0 9 (dk_at dksX0_greatest_0 3 rfl rfl)
theorem dX0_greatest_6 : decode cX0_greatest 6 = .ok (.isub, 1) := dk_100 (dk_at dksX0_greatest_0 6 rfl rfl)
theorem dX0_greatest_7 : decode cX0_greatest 7 = .ok (.ireturn, 1) := dk_172 (dk_at dksX0_greatest_0 7 rfl rfl)
abbrev cX0_support : ByteArray := prog_1_method_28_code
def yX0_support : MethodName := ⟨RX0, "support", "()I"⟩
def dkwX0_support_3 : List UInt8 := [29, 172]
abbrev dktX0_support_3 : List UInt8 := dkwX0_support_3 ++ []
def dkwX0_support_2 : List UInt8 := [27, 4, 182, 0, 175, 132, 3, 1, 42, 44, 180, 0, 62, 182, 0, 245, 60, 167, 255, 228, 44, 182, 0, 94]
abbrev dktX0_support_2 : List UInt8 := dkwX0_support_2 ++ dktX0_support_3
def dkwX0_support_1 : List UInt8 := [158, 0, 6, 16, 254, 172, 42, 182, 0, 104, 77, 3, 62, 27, 16, 157, 159, 0, 28, 44, 180, 0, 62, 3]
abbrev dktX0_support_1 : List UInt8 := dkwX0_support_1 ++ dktX0_support_2
def dkwX0_support_0 : List UInt8 := [42, 42, 182, 0, 122, 182, 0, 245, 60, 27, 16, 157, 159, 0, 13, 42, 182, 0, 122, 182, 0, 163]
abbrev dktX0_support_0 : List UInt8 := dkwX0_support_0 ++ dktX0_support_1
theorem dksX0_support_0 : cX0_support.data.toList.drop 0 = dktX0_support_0 := by decide +kernel
theorem dksX0_support_1 : cX0_support.data.toList.drop 22 = dktX0_support_1 := dk_seg dksX0_support_0 22 rfl rfl
theorem dksX0_support_2 : cX0_support.data.toList.drop 46 = dktX0_support_2 := dk_seg dksX0_support_1 24 rfl rfl
theorem dksX0_support_3 : cX0_support.data.toList.drop 70 = dktX0_support_3 := dk_seg dksX0_support_2 24 rfl rfl
theorem dX0_support_0 : decode cX0_support 0 = .ok (.aload_n 0, 1) := dk_42 (dk_at dksX0_support_0 0 rfl rfl)
theorem dX0_support_1 : decode cX0_support 1 = .ok (.aload_n 0, 1) := dk_42 (dk_at dksX0_support_0 1 rfl rfl)
theorem dX0_support_2 : decode cX0_support 2 = .ok (.invokevirtual 122, 3) := dk_182 0 122 (dk_at dksX0_support_0 2 rfl rfl)
theorem dX0_support_5 : decode cX0_support 5 = .ok (.invokevirtual 245, 3) := dk_182 0 245 (dk_at dksX0_support_0 5 rfl rfl)
theorem dX0_support_8 : decode cX0_support 8 = .ok (.istore_n 1, 1) := dk_60 (dk_at dksX0_support_0 8 rfl rfl)
theorem dX0_support_9 : decode cX0_support 9 = .ok (.iload_n 1, 1) := dk_27 (dk_at dksX0_support_0 9 rfl rfl)
theorem dX0_support_10 : decode cX0_support 10 = .ok (.bipush (-99), 2) := dk_16 157 (dk_at dksX0_support_0 10 rfl rfl)
theorem dX0_support_12 : decode cX0_support 12 = .ok (.if_icmp .eq 13, 3) := dk_159 0 13 (dk_at dksX0_support_0 12 rfl rfl)
theorem dX0_support_15 : decode cX0_support 15 = .ok (.aload_n 0, 1) := dk_42 (dk_at dksX0_support_0 15 rfl rfl)
theorem dX0_support_16 : decode cX0_support 16 = .ok (.invokevirtual 122, 3) := dk_182 0 122 (dk_at dksX0_support_0 16 rfl rfl)
theorem dX0_support_19 : decode cX0_support 19 = .ok (.invokevirtual 163, 3) := dk_182 0 163 (dk_at dksX0_support_0 19 rfl rfl)
theorem dX0_support_22 : decode cX0_support 22 = .ok (.ifCond .le 6, 3) := dk_158 0 6 (dk_at dksX0_support_1 0 rfl rfl)
theorem dX0_support_25 : decode cX0_support 25 = .ok (.bipush (-2), 2) := dk_16 254 (dk_at dksX0_support_1 3 rfl rfl)
theorem dX0_support_27 : decode cX0_support 27 = .ok (.ireturn, 1) := dk_172 (dk_at dksX0_support_1 5 rfl rfl)
theorem dX0_support_28 : decode cX0_support 28 = .ok (.aload_n 0, 1) := dk_42 (dk_at dksX0_support_1 6 rfl rfl)
theorem dX0_support_29 : decode cX0_support 29 = .ok (.invokevirtual 104, 3) := dk_182 0 104 (dk_at dksX0_support_1 7 rfl rfl)
theorem dX0_support_32 : decode cX0_support 32 = .ok (.astore_n 2, 1) := dk_77 (dk_at dksX0_support_1 10 rfl rfl)
theorem dX0_support_33 : decode cX0_support 33 = .ok (.iconst 0, 1) := dk_3 (dk_at dksX0_support_1 11 rfl rfl)
theorem dX0_support_34 : decode cX0_support 34 = .ok (.istore_n 3, 1) := dk_62 (dk_at dksX0_support_1 12 rfl rfl)
theorem dX0_support_35 : decode cX0_support 35 = .ok (.iload_n 1, 1) := dk_27 (dk_at dksX0_support_1 13 rfl rfl)
theorem dX0_support_36 : decode cX0_support 36 = .ok (.bipush (-99), 2) := dk_16 157 (dk_at dksX0_support_1 14 rfl rfl)
theorem dX0_support_38 : decode cX0_support 38 = .ok (.if_icmp .eq 28, 3) := dk_159 0 28 (dk_at dksX0_support_1 16 rfl rfl)
theorem dX0_support_41 : decode cX0_support 41 = .ok (.aload_n 2, 1) := dk_44 (dk_at dksX0_support_1 19 rfl rfl)
theorem dX0_support_42 : decode cX0_support 42 = .ok (.getfield 62, 3) := dk_180 0 62 (dk_at dksX0_support_1 20 rfl rfl)
theorem dX0_support_45 : decode cX0_support 45 = .ok (.iconst 0, 1) := dk_3 (dk_at dksX0_support_1 23 rfl rfl)
theorem dX0_support_46 : decode cX0_support 46 = .ok (.iload_n 1, 1) := dk_27 (dk_at dksX0_support_2 0 rfl rfl)
theorem dX0_support_47 : decode cX0_support 47 = .ok (.iconst 1, 1) := dk_4 (dk_at dksX0_support_2 1 rfl rfl)
theorem dX0_support_48 : decode cX0_support 48 = .ok (.invokevirtual 175, 3) := dk_182 0 175 (dk_at dksX0_support_2 2 rfl rfl)
theorem dX0_support_51 : decode cX0_support 51 = .ok (.iinc 3 1, 3) := dk_132 3 1 (dk_at dksX0_support_2 5 rfl rfl)
theorem dX0_support_54 : decode cX0_support 54 = .ok (.aload_n 0, 1) := dk_42 (dk_at dksX0_support_2 8 rfl rfl)
theorem dX0_support_55 : decode cX0_support 55 = .ok (.aload_n 2, 1) := dk_44 (dk_at dksX0_support_2 9 rfl rfl)
theorem dX0_support_56 : decode cX0_support 56 = .ok (.getfield 62, 3) := dk_180 0 62 (dk_at dksX0_support_2 10 rfl rfl)
theorem dX0_support_59 : decode cX0_support 59 = .ok (.invokevirtual 245, 3) := dk_182 0 245 (dk_at dksX0_support_2 13 rfl rfl)
theorem dX0_support_62 : decode cX0_support 62 = .ok (.istore_n 1, 1) := dk_60 (dk_at dksX0_support_2 16 rfl rfl)
theorem dX0_support_63 : decode cX0_support 63 = .ok (.goto (-28), 3) := dk_167 255 228 (dk_at dksX0_support_2 17 rfl rfl)
theorem dX0_support_66 : decode cX0_support 66 = .ok (.aload_n 2, 1) := dk_44 (dk_at dksX0_support_2 20 rfl rfl)
theorem dX0_support_67 : decode cX0_support 67 = .ok (.invokevirtual 94, 3) := dk_182 0 94 (dk_at dksX0_support_2 21 rfl rfl)
theorem dX0_support_70 : decode cX0_support 70 = .ok (.iload_n 3, 1) := dk_29 (dk_at dksX0_support_3 0 rfl rfl)
theorem dX0_support_71 : decode cX0_support 71 = .ok (.ireturn, 1) := dk_172 (dk_at dksX0_support_3 1 rfl rfl)
abbrev cX0_mostOpen : ByteArray := prog_1_method_27_code
def yX0_mostOpen : MethodName := ⟨RX0, "mostOpen", "(LEdgeSums$Page;)I"⟩
def dkwX0_mostOpen_3 : List UInt8 := [21, 5, 167, 0, 5, 21, 4, 54, 4, 132, 5, 1, 167, 255, 209, 21, 4, 172]
abbrev dktX0_mostOpen_3 : List UInt8 := dkwX0_mostOpen_3 ++ []
def dkwX0_mostOpen_2 : List UInt8 := [182, 0, 242, 21, 4, 16, 157, 160, 0, 7, 4, 167, 0, 9, 44, 21, 4, 182, 0, 242, 164, 0, 8]
abbrev dktX0_mostOpen_2 : List UInt8 := dkwX0_mostOpen_2 ++ dktX0_mostOpen_3
def dkwX0_mostOpen_1 : List UInt8 := [182, 0, 238, 62, 16, 157, 54, 4, 3, 54, 5, 21, 5, 43, 182, 0, 166, 162, 0, 44, 44, 21, 5]
abbrev dktX0_mostOpen_1 : List UInt8 := dkwX0_mostOpen_1 ++ dktX0_mostOpen_2
def dkwX0_mostOpen_0 : List UInt8 := [187, 0, 234, 89, 43, 183, 0, 236, 77, 42, 180, 0, 54, 44, 42, 182, 0, 185, 180, 0, 187, 18, 237]
abbrev dktX0_mostOpen_0 : List UInt8 := dkwX0_mostOpen_0 ++ dktX0_mostOpen_1
theorem dksX0_mostOpen_0 : cX0_mostOpen.data.toList.drop 0 = dktX0_mostOpen_0 := by decide +kernel
theorem dksX0_mostOpen_1 : cX0_mostOpen.data.toList.drop 23 = dktX0_mostOpen_1 := dk_seg dksX0_mostOpen_0 23 rfl rfl
theorem dksX0_mostOpen_2 : cX0_mostOpen.data.toList.drop 46 = dktX0_mostOpen_2 := dk_seg dksX0_mostOpen_1 23 rfl rfl
theorem dksX0_mostOpen_3 : cX0_mostOpen.data.toList.drop 69 = dktX0_mostOpen_3 := dk_seg dksX0_mostOpen_2 23 rfl rfl
theorem dX0_mostOpen_0 : decode cX0_mostOpen 0 = .ok (.new 234, 3) := dk_187 0 234 (dk_at dksX0_mostOpen_0 0 rfl rfl)
theorem dX0_mostOpen_3 : decode cX0_mostOpen 3 = .ok (.dup, 1) := dk_89 (dk_at dksX0_mostOpen_0 3 rfl rfl)
theorem dX0_mostOpen_4 : decode cX0_mostOpen 4 = .ok (.aload_n 1, 1) := dk_43 (dk_at dksX0_mostOpen_0 4 rfl rfl)
theorem dX0_mostOpen_5 : decode cX0_mostOpen 5 = .ok (.invokespecial 236, 3) := dk_183 0 236 (dk_at dksX0_mostOpen_0 5 rfl rfl)
theorem dX0_mostOpen_8 : decode cX0_mostOpen 8 = .ok (.astore_n 2, 1) := dk_77 (dk_at dksX0_mostOpen_0 8 rfl rfl)
theorem dX0_mostOpen_9 : decode cX0_mostOpen 9 = .ok (.aload_n 0, 1) := dk_42 (dk_at dksX0_mostOpen_0 9 rfl rfl)
theorem dX0_mostOpen_10 : decode cX0_mostOpen 10 = .ok (.getfield 54, 3) := dk_180 0 54 (dk_at dksX0_mostOpen_0 10 rfl rfl)
theorem dX0_mostOpen_13 : decode cX0_mostOpen 13 = .ok (.aload_n 2, 1) := dk_44 (dk_at dksX0_mostOpen_0 13 rfl rfl)
theorem dX0_mostOpen_14 : decode cX0_mostOpen 14 = .ok (.aload_n 0, 1) := dk_42 (dk_at dksX0_mostOpen_0 14 rfl rfl)
theorem dX0_mostOpen_15 : decode cX0_mostOpen 15 = .ok (.invokevirtual 185, 3) := dk_182 0 185 (dk_at dksX0_mostOpen_0 15 rfl rfl)
theorem dX0_mostOpen_18 : decode cX0_mostOpen 18 = .ok (.getfield 187, 3) := dk_180 0 187 (dk_at dksX0_mostOpen_0 18 rfl rfl)
theorem dX0_mostOpen_21 : decode cX0_mostOpen 21 = .ok (.ldc 237, 2) := dk_18 237 (dk_at dksX0_mostOpen_0 21 rfl rfl)
theorem dX0_mostOpen_23 : decode cX0_mostOpen 23 = .ok (.invokevirtual 238, 3) := dk_182 0 238 (dk_at dksX0_mostOpen_1 0 rfl rfl)
theorem dX0_mostOpen_26 : decode cX0_mostOpen 26 = .ok (.istore_n 3, 1) := dk_62 (dk_at dksX0_mostOpen_1 3 rfl rfl)
theorem dX0_mostOpen_27 : decode cX0_mostOpen 27 = .ok (.bipush (-99), 2) := dk_16 157 (dk_at dksX0_mostOpen_1 4 rfl rfl)
theorem dX0_mostOpen_29 : decode cX0_mostOpen 29 = .ok (.istore 4, 2) := dk_54 4 (dk_at dksX0_mostOpen_1 6 rfl rfl)
theorem dX0_mostOpen_31 : decode cX0_mostOpen 31 = .ok (.iconst 0, 1) := dk_3 (dk_at dksX0_mostOpen_1 8 rfl rfl)
theorem dX0_mostOpen_32 : decode cX0_mostOpen 32 = .ok (.istore 5, 2) := dk_54 5 (dk_at dksX0_mostOpen_1 9 rfl rfl)
theorem dX0_mostOpen_34 : decode cX0_mostOpen 34 = .ok (.iload 5, 2) := dk_21 5 (dk_at dksX0_mostOpen_1 11 rfl rfl)
theorem dX0_mostOpen_36 : decode cX0_mostOpen 36 = .ok (.aload_n 1, 1) := dk_43 (dk_at dksX0_mostOpen_1 13 rfl rfl)
theorem dX0_mostOpen_37 : decode cX0_mostOpen 37 = .ok (.invokevirtual 166, 3) := dk_182 0 166 (dk_at dksX0_mostOpen_1 14 rfl rfl)
theorem dX0_mostOpen_40 : decode cX0_mostOpen 40 = .ok (.if_icmp .ge 44, 3) := dk_162 0 44 (dk_at dksX0_mostOpen_1 17 rfl rfl)
theorem dX0_mostOpen_43 : decode cX0_mostOpen 43 = .ok (.aload_n 2, 1) := dk_44 (dk_at dksX0_mostOpen_1 20 rfl rfl)
theorem dX0_mostOpen_44 : decode cX0_mostOpen 44 = .ok (.iload 5, 2) := dk_21 5 (dk_at dksX0_mostOpen_1 21 rfl rfl)
theorem dX0_mostOpen_46 : decode cX0_mostOpen 46 = .ok (.invokevirtual 242, 3) := dk_182 0 242 (dk_at dksX0_mostOpen_2 0 rfl rfl)
theorem dX0_mostOpen_49 : decode cX0_mostOpen 49 = .ok (.iload 4, 2) := dk_21 4 (dk_at dksX0_mostOpen_2 3 rfl rfl)
theorem dX0_mostOpen_51 : decode cX0_mostOpen 51 = .ok (.bipush (-99), 2) := dk_16 157 (dk_at dksX0_mostOpen_2 5 rfl rfl)
theorem dX0_mostOpen_53 : decode cX0_mostOpen 53 = .ok (.if_icmp .ne 7, 3) := dk_160 0 7 (dk_at dksX0_mostOpen_2 7 rfl rfl)
theorem dX0_mostOpen_56 : decode cX0_mostOpen 56 = .ok (.iconst 1, 1) := dk_4 (dk_at dksX0_mostOpen_2 10 rfl rfl)
theorem dX0_mostOpen_57 : decode cX0_mostOpen 57 = .ok (.goto 9, 3) := dk_167 0 9 (dk_at dksX0_mostOpen_2 11 rfl rfl)
theorem dX0_mostOpen_60 : decode cX0_mostOpen 60 = .ok (.aload_n 2, 1) := dk_44 (dk_at dksX0_mostOpen_2 14 rfl rfl)
theorem dX0_mostOpen_61 : decode cX0_mostOpen 61 = .ok (.iload 4, 2) := dk_21 4 (dk_at dksX0_mostOpen_2 15 rfl rfl)
theorem dX0_mostOpen_63 : decode cX0_mostOpen 63 = .ok (.invokevirtual 242, 3) := dk_182 0 242 (dk_at dksX0_mostOpen_2 17 rfl rfl)
theorem dX0_mostOpen_66 : decode cX0_mostOpen 66 = .ok (.if_icmp .le 8, 3) := dk_164 0 8 (dk_at dksX0_mostOpen_2 20 rfl rfl)
theorem dX0_mostOpen_69 : decode cX0_mostOpen 69 = .ok (.iload 5, 2) := dk_21 5 (dk_at dksX0_mostOpen_3 0 rfl rfl)
theorem dX0_mostOpen_71 : decode cX0_mostOpen 71 = .ok (.goto 5, 3) := dk_167 0 5 (dk_at dksX0_mostOpen_3 2 rfl rfl)
theorem dX0_mostOpen_74 : decode cX0_mostOpen 74 = .ok (.iload 4, 2) := dk_21 4 (dk_at dksX0_mostOpen_3 5 rfl rfl)
theorem dX0_mostOpen_76 : decode cX0_mostOpen 76 = .ok (.istore 4, 2) := dk_54 4 (dk_at dksX0_mostOpen_3 7 rfl rfl)
theorem dX0_mostOpen_78 : decode cX0_mostOpen 78 = .ok (.iinc 5 1, 3) := dk_132 5 1 (dk_at dksX0_mostOpen_3 9 rfl rfl)
theorem dX0_mostOpen_81 : decode cX0_mostOpen 81 = .ok (.goto (-47), 3) := dk_167 255 209 (dk_at dksX0_mostOpen_3 12 rfl rfl)
theorem dX0_mostOpen_84 : decode cX0_mostOpen 84 = .ok (.iload 4, 2) := dk_21 4 (dk_at dksX0_mostOpen_3 15 rfl rfl)
theorem dX0_mostOpen_86 : decode cX0_mostOpen 86 = .ok (.ireturn, 1) := dk_172 (dk_at dksX0_mostOpen_3 17 rfl rfl)
abbrev cX0_allow : ByteArray := prog_1_method_30_code
def yX0_allow : MethodName := ⟨RX0, "allow", "(II)I"⟩
def dkwX0_allow_2 : List UInt8 := [130, 126, 181, 0, 187, 45, 180, 0, 187, 184, 0, 252, 172]
abbrev dktX0_allow_2 : List UInt8 := dkwX0_allow_2 ++ []
def dkwX0_allow_1 : List UInt8 := [28, 4, 160, 0, 14, 45, 180, 0, 187, 4, 27, 120, 128, 167, 0, 13, 45, 180, 0, 187, 4, 27, 120, 2]
abbrev dktX0_allow_1 : List UInt8 := dkwX0_allow_1 ++ dktX0_allow_2
def dkwX0_allow_0 : List UInt8 := [27, 184, 0, 249, 153, 0, 12, 28, 3, 4, 184, 0, 90, 154, 0, 5, 2, 172, 42, 182, 0, 104, 78, 45]
abbrev dktX0_allow_0 : List UInt8 := dkwX0_allow_0 ++ dktX0_allow_1
theorem dksX0_allow_0 : cX0_allow.data.toList.drop 0 = dktX0_allow_0 := by decide +kernel
theorem dksX0_allow_1 : cX0_allow.data.toList.drop 24 = dktX0_allow_1 := dk_seg dksX0_allow_0 24 rfl rfl
theorem dksX0_allow_2 : cX0_allow.data.toList.drop 48 = dktX0_allow_2 := dk_seg dksX0_allow_1 24 rfl rfl
theorem dX0_allow_0 : decode cX0_allow 0 = .ok (.iload_n 1, 1) := dk_27 (dk_at dksX0_allow_0 0 rfl rfl)
theorem dX0_allow_1 : decode cX0_allow 1 = .ok (.invokestatic 249, 3) := dk_184 0 249 (dk_at dksX0_allow_0 1 rfl rfl)
theorem dX0_allow_4 : decode cX0_allow 4 = .ok (.ifCond .eq 12, 3) := dk_153 0 12 (dk_at dksX0_allow_0 4 rfl rfl)
theorem dX0_allow_7 : decode cX0_allow 7 = .ok (.iload_n 2, 1) := dk_28 (dk_at dksX0_allow_0 7 rfl rfl)
theorem dX0_allow_8 : decode cX0_allow 8 = .ok (.iconst 0, 1) := dk_3 (dk_at dksX0_allow_0 8 rfl rfl)
theorem dX0_allow_9 : decode cX0_allow 9 = .ok (.iconst 1, 1) := dk_4 (dk_at dksX0_allow_0 9 rfl rfl)
theorem dX0_allow_10 : decode cX0_allow 10 = .ok (.invokestatic 90, 3) := dk_184 0 90 (dk_at dksX0_allow_0 10 rfl rfl)
theorem dX0_allow_13 : decode cX0_allow 13 = .ok (.ifCond .ne 5, 3) := dk_154 0 5 (dk_at dksX0_allow_0 13 rfl rfl)
theorem dX0_allow_16 : decode cX0_allow 16 = .ok (.iconst (-1), 1) := dk_2 (dk_at dksX0_allow_0 16 rfl rfl)
theorem dX0_allow_17 : decode cX0_allow 17 = .ok (.ireturn, 1) := dk_172 (dk_at dksX0_allow_0 17 rfl rfl)
theorem dX0_allow_18 : decode cX0_allow 18 = .ok (.aload_n 0, 1) := dk_42 (dk_at dksX0_allow_0 18 rfl rfl)
theorem dX0_allow_19 : decode cX0_allow 19 = .ok (.invokevirtual 104, 3) := dk_182 0 104 (dk_at dksX0_allow_0 19 rfl rfl)
theorem dX0_allow_22 : decode cX0_allow 22 = .ok (.astore_n 3, 1) := dk_78 (dk_at dksX0_allow_0 22 rfl rfl)
theorem dX0_allow_23 : decode cX0_allow 23 = .ok (.aload_n 3, 1) := dk_45 (dk_at dksX0_allow_0 23 rfl rfl)
theorem dX0_allow_24 : decode cX0_allow 24 = .ok (.iload_n 2, 1) := dk_28 (dk_at dksX0_allow_1 0 rfl rfl)
theorem dX0_allow_25 : decode cX0_allow 25 = .ok (.iconst 1, 1) := dk_4 (dk_at dksX0_allow_1 1 rfl rfl)
theorem dX0_allow_26 : decode cX0_allow 26 = .ok (.if_icmp .ne 14, 3) := dk_160 0 14 (dk_at dksX0_allow_1 2 rfl rfl)
theorem dX0_allow_29 : decode cX0_allow 29 = .ok (.aload_n 3, 1) := dk_45 (dk_at dksX0_allow_1 5 rfl rfl)
theorem dX0_allow_30 : decode cX0_allow 30 = .ok (.getfield 187, 3) := dk_180 0 187 (dk_at dksX0_allow_1 6 rfl rfl)
theorem dX0_allow_33 : decode cX0_allow 33 = .ok (.iconst 1, 1) := dk_4 (dk_at dksX0_allow_1 9 rfl rfl)
theorem dX0_allow_34 : decode cX0_allow 34 = .ok (.iload_n 1, 1) := dk_27 (dk_at dksX0_allow_1 10 rfl rfl)
theorem dX0_allow_35 : decode cX0_allow 35 = .ok (.ishl, 1) := dk_120 (dk_at dksX0_allow_1 11 rfl rfl)
theorem dX0_allow_36 : decode cX0_allow 36 = .ok (.ior, 1) := dk_128 (dk_at dksX0_allow_1 12 rfl rfl)
theorem dX0_allow_37 : decode cX0_allow 37 = .ok (.goto 13, 3) := dk_167 0 13 (dk_at dksX0_allow_1 13 rfl rfl)
theorem dX0_allow_40 : decode cX0_allow 40 = .ok (.aload_n 3, 1) := dk_45 (dk_at dksX0_allow_1 16 rfl rfl)
theorem dX0_allow_41 : decode cX0_allow 41 = .ok (.getfield 187, 3) := dk_180 0 187 (dk_at dksX0_allow_1 17 rfl rfl)
theorem dX0_allow_44 : decode cX0_allow 44 = .ok (.iconst 1, 1) := dk_4 (dk_at dksX0_allow_1 20 rfl rfl)
theorem dX0_allow_45 : decode cX0_allow 45 = .ok (.iload_n 1, 1) := dk_27 (dk_at dksX0_allow_1 21 rfl rfl)
theorem dX0_allow_46 : decode cX0_allow 46 = .ok (.ishl, 1) := dk_120 (dk_at dksX0_allow_1 22 rfl rfl)
theorem dX0_allow_47 : decode cX0_allow 47 = .ok (.iconst (-1), 1) := dk_2 (dk_at dksX0_allow_1 23 rfl rfl)
theorem dX0_allow_48 : decode cX0_allow 48 = .ok (.ixor, 1) := dk_130 (dk_at dksX0_allow_2 0 rfl rfl)
theorem dX0_allow_49 : decode cX0_allow 49 = .ok (.iand, 1) := dk_126 (dk_at dksX0_allow_2 1 rfl rfl)
theorem dX0_allow_50 : decode cX0_allow 50 = .ok (.putfield 187, 3) := dk_181 0 187 (dk_at dksX0_allow_2 2 rfl rfl)
theorem dX0_allow_53 : decode cX0_allow 53 = .ok (.aload_n 3, 1) := dk_45 (dk_at dksX0_allow_2 5 rfl rfl)
theorem dX0_allow_54 : decode cX0_allow 54 = .ok (.getfield 187, 3) := dk_180 0 187 (dk_at dksX0_allow_2 6 rfl rfl)
theorem dX0_allow_57 : decode cX0_allow 57 = .ok (.invokestatic 252, 3) := dk_184 0 252 (dk_at dksX0_allow_2 9 rfl rfl)
theorem dX0_allow_60 : decode cX0_allow 60 = .ok (.ireturn, 1) := dk_172 (dk_at dksX0_allow_2 12 rfl rfl)
abbrev cX0_isRule : ByteArray := prog_1_method_29_code
def yX0_isRule : MethodName := ⟨RX0, "isRule", "(I)Z"⟩
def dkwX0_isRule_0 : List UInt8 := [26, 3, 7, 184, 0, 90, 172]
abbrev dktX0_isRule_0 : List UInt8 := dkwX0_isRule_0 ++ []
theorem dksX0_isRule_0 : cX0_isRule.data.toList.drop 0 = dktX0_isRule_0 := by decide +kernel
theorem dX0_isRule_0 : decode cX0_isRule 0 = .ok (.iload_n 0, 1) := dk_26 (dk_at dksX0_isRule_0 0 rfl rfl)
theorem dX0_isRule_1 : decode cX0_isRule 1 = .ok (.iconst 0, 1) := dk_3 (dk_at dksX0_isRule_0 1 rfl rfl)
theorem dX0_isRule_2 : decode cX0_isRule 2 = .ok (.iconst 4, 1) := dk_7 (dk_at dksX0_isRule_0 2 rfl rfl)
theorem dX0_isRule_3 : decode cX0_isRule 3 = .ok (.invokestatic 90, 3) := dk_184 0 90 (dk_at dksX0_isRule_0 3 rfl rfl)
theorem dX0_isRule_6 : decode cX0_isRule 6 = .ok (.ireturn, 1) := dk_172 (dk_at dksX0_isRule_0 6 rfl rfl)
abbrev cX0_setCost : ByteArray := prog_1_method_31_code
def yX0_setCost : MethodName := ⟨RX0, "setCost", "(II)I"⟩
def dkwX0_setCost_1 : List UInt8 := [180, 0, 255, 27, 46, 62, 42, 182, 0, 104, 180, 0, 255, 27, 28, 79, 29, 172]
abbrev dktX0_setCost_1 : List UInt8 := dkwX0_setCost_1 ++ []
def dkwX0_setCost_0 : List UInt8 := [27, 184, 0, 249, 153, 0, 13, 28, 4, 16, 9, 184, 0, 90, 154, 0, 5, 2, 172, 42, 182, 0, 185]
abbrev dktX0_setCost_0 : List UInt8 := dkwX0_setCost_0 ++ dktX0_setCost_1
theorem dksX0_setCost_0 : cX0_setCost.data.toList.drop 0 = dktX0_setCost_0 := by decide +kernel
theorem dksX0_setCost_1 : cX0_setCost.data.toList.drop 23 = dktX0_setCost_1 := dk_seg dksX0_setCost_0 23 rfl rfl
theorem dX0_setCost_0 : decode cX0_setCost 0 = .ok (.iload_n 1, 1) := dk_27 (dk_at dksX0_setCost_0 0 rfl rfl)
theorem dX0_setCost_1 : decode cX0_setCost 1 = .ok (.invokestatic 249, 3) := dk_184 0 249 (dk_at dksX0_setCost_0 1 rfl rfl)
theorem dX0_setCost_4 : decode cX0_setCost 4 = .ok (.ifCond .eq 13, 3) := dk_153 0 13 (dk_at dksX0_setCost_0 4 rfl rfl)
theorem dX0_setCost_7 : decode cX0_setCost 7 = .ok (.iload_n 2, 1) := dk_28 (dk_at dksX0_setCost_0 7 rfl rfl)
theorem dX0_setCost_8 : decode cX0_setCost 8 = .ok (.iconst 1, 1) := dk_4 (dk_at dksX0_setCost_0 8 rfl rfl)
theorem dX0_setCost_9 : decode cX0_setCost 9 = .ok (.bipush 9, 2) := dk_16 9 (dk_at dksX0_setCost_0 9 rfl rfl)
theorem dX0_setCost_11 : decode cX0_setCost 11 = .ok (.invokestatic 90, 3) := dk_184 0 90 (dk_at dksX0_setCost_0 11 rfl rfl)
theorem dX0_setCost_14 : decode cX0_setCost 14 = .ok (.ifCond .ne 5, 3) := dk_154 0 5 (dk_at dksX0_setCost_0 14 rfl rfl)
theorem dX0_setCost_17 : decode cX0_setCost 17 = .ok (.iconst (-1), 1) := dk_2 (dk_at dksX0_setCost_0 17 rfl rfl)
theorem dX0_setCost_18 : decode cX0_setCost 18 = .ok (.ireturn, 1) := dk_172 (dk_at dksX0_setCost_0 18 rfl rfl)
theorem dX0_setCost_19 : decode cX0_setCost 19 = .ok (.aload_n 0, 1) := dk_42 (dk_at dksX0_setCost_0 19 rfl rfl)
theorem dX0_setCost_20 : decode cX0_setCost 20 = .ok (.invokevirtual 185, 3) := dk_182 0 185 (dk_at dksX0_setCost_0 20 rfl rfl)
theorem dX0_setCost_23 : decode cX0_setCost 23 = .ok (.getfield 255, 3) := dk_180 0 255 (dk_at dksX0_setCost_1 0 rfl rfl)
theorem dX0_setCost_26 : decode cX0_setCost 26 = .ok (.iload_n 1, 1) := dk_27 (dk_at dksX0_setCost_1 3 rfl rfl)
theorem dX0_setCost_27 : decode cX0_setCost 27 = .ok (.iaload, 1) := dk_46 (dk_at dksX0_setCost_1 4 rfl rfl)
theorem dX0_setCost_28 : decode cX0_setCost 28 = .ok (.istore_n 3, 1) := dk_62 (dk_at dksX0_setCost_1 5 rfl rfl)
theorem dX0_setCost_29 : decode cX0_setCost 29 = .ok (.aload_n 0, 1) := dk_42 (dk_at dksX0_setCost_1 6 rfl rfl)
theorem dX0_setCost_30 : decode cX0_setCost 30 = .ok (.invokevirtual 104, 3) := dk_182 0 104 (dk_at dksX0_setCost_1 7 rfl rfl)
theorem dX0_setCost_33 : decode cX0_setCost 33 = .ok (.getfield 255, 3) := dk_180 0 255 (dk_at dksX0_setCost_1 10 rfl rfl)
theorem dX0_setCost_36 : decode cX0_setCost 36 = .ok (.iload_n 1, 1) := dk_27 (dk_at dksX0_setCost_1 13 rfl rfl)
theorem dX0_setCost_37 : decode cX0_setCost 37 = .ok (.iload_n 2, 1) := dk_28 (dk_at dksX0_setCost_1 14 rfl rfl)
theorem dX0_setCost_38 : decode cX0_setCost 38 = .ok (.iastore, 1) := dk_79 (dk_at dksX0_setCost_1 15 rfl rfl)
theorem dX0_setCost_39 : decode cX0_setCost 39 = .ok (.iload_n 3, 1) := dk_29 (dk_at dksX0_setCost_1 16 rfl rfl)
theorem dX0_setCost_40 : decode cX0_setCost 40 = .ok (.ireturn, 1) := dk_172 (dk_at dksX0_setCost_1 17 rfl rfl)
abbrev cX0_strike : ByteArray := prog_1_method_34_code
def yX0_strike : MethodName := ⟨RX0, "strike", "(II)I"⟩
def dkwX0_strike_1 : List UInt8 := [182, 0, 104, 180, 0, 66, 27, 28, 182, 1, 15, 42, 180, 0, 54, 180, 1, 18, 172]
abbrev dktX0_strike_1 : List UInt8 := dkwX0_strike_1 ++ []
def dkwX0_strike_0 : List UInt8 := [42, 27, 28, 182, 1, 12, 154, 0, 5, 2, 172, 42, 27, 28, 182, 1, 13, 154, 0, 6, 16, 254, 172, 42]
abbrev dktX0_strike_0 : List UInt8 := dkwX0_strike_0 ++ dktX0_strike_1
theorem dksX0_strike_0 : cX0_strike.data.toList.drop 0 = dktX0_strike_0 := by decide +kernel
theorem dksX0_strike_1 : cX0_strike.data.toList.drop 24 = dktX0_strike_1 := dk_seg dksX0_strike_0 24 rfl rfl
theorem dX0_strike_0 : decode cX0_strike 0 = .ok (.aload_n 0, 1) := dk_42 (dk_at dksX0_strike_0 0 rfl rfl)
theorem dX0_strike_1 : decode cX0_strike 1 = .ok (.iload_n 1, 1) := dk_27 (dk_at dksX0_strike_0 1 rfl rfl)
theorem dX0_strike_2 : decode cX0_strike 2 = .ok (.iload_n 2, 1) := dk_28 (dk_at dksX0_strike_0 2 rfl rfl)
theorem dX0_strike_3 : decode cX0_strike 3 = .ok (.invokevirtual 268, 3) := dk_182 1 12 (dk_at dksX0_strike_0 3 rfl rfl)
theorem dX0_strike_6 : decode cX0_strike 6 = .ok (.ifCond .ne 5, 3) := dk_154 0 5 (dk_at dksX0_strike_0 6 rfl rfl)
theorem dX0_strike_9 : decode cX0_strike 9 = .ok (.iconst (-1), 1) := dk_2 (dk_at dksX0_strike_0 9 rfl rfl)
theorem dX0_strike_10 : decode cX0_strike 10 = .ok (.ireturn, 1) := dk_172 (dk_at dksX0_strike_0 10 rfl rfl)
theorem dX0_strike_11 : decode cX0_strike 11 = .ok (.aload_n 0, 1) := dk_42 (dk_at dksX0_strike_0 11 rfl rfl)
theorem dX0_strike_12 : decode cX0_strike 12 = .ok (.iload_n 1, 1) := dk_27 (dk_at dksX0_strike_0 12 rfl rfl)
theorem dX0_strike_13 : decode cX0_strike 13 = .ok (.iload_n 2, 1) := dk_28 (dk_at dksX0_strike_0 13 rfl rfl)
theorem dX0_strike_14 : decode cX0_strike 14 = .ok (.invokevirtual 269, 3) := dk_182 1 13 (dk_at dksX0_strike_0 14 rfl rfl)
theorem dX0_strike_17 : decode cX0_strike 17 = .ok (.ifCond .ne 6, 3) := dk_154 0 6 (dk_at dksX0_strike_0 17 rfl rfl)
theorem dX0_strike_20 : decode cX0_strike 20 = .ok (.bipush (-2), 2) := dk_16 254 (dk_at dksX0_strike_0 20 rfl rfl)
theorem dX0_strike_22 : decode cX0_strike 22 = .ok (.ireturn, 1) := dk_172 (dk_at dksX0_strike_0 22 rfl rfl)
theorem dX0_strike_23 : decode cX0_strike 23 = .ok (.aload_n 0, 1) := dk_42 (dk_at dksX0_strike_0 23 rfl rfl)
theorem dX0_strike_24 : decode cX0_strike 24 = .ok (.invokevirtual 104, 3) := dk_182 0 104 (dk_at dksX0_strike_1 0 rfl rfl)
theorem dX0_strike_27 : decode cX0_strike 27 = .ok (.getfield 66, 3) := dk_180 0 66 (dk_at dksX0_strike_1 3 rfl rfl)
theorem dX0_strike_30 : decode cX0_strike 30 = .ok (.iload_n 1, 1) := dk_27 (dk_at dksX0_strike_1 6 rfl rfl)
theorem dX0_strike_31 : decode cX0_strike 31 = .ok (.iload_n 2, 1) := dk_28 (dk_at dksX0_strike_1 7 rfl rfl)
theorem dX0_strike_32 : decode cX0_strike 32 = .ok (.invokevirtual 271, 3) := dk_182 1 15 (dk_at dksX0_strike_1 8 rfl rfl)
theorem dX0_strike_35 : decode cX0_strike 35 = .ok (.aload_n 0, 1) := dk_42 (dk_at dksX0_strike_1 11 rfl rfl)
theorem dX0_strike_36 : decode cX0_strike 36 = .ok (.getfield 54, 3) := dk_180 0 54 (dk_at dksX0_strike_1 12 rfl rfl)
theorem dX0_strike_39 : decode cX0_strike 39 = .ok (.getfield 274, 3) := dk_180 1 18 (dk_at dksX0_strike_1 15 rfl rfl)
theorem dX0_strike_42 : decode cX0_strike 42 = .ok (.ireturn, 1) := dk_172 (dk_at dksX0_strike_1 18 rfl rfl)
abbrev cX0_isNumber : ByteArray := prog_1_method_32_code
def yX0_isNumber : MethodName := ⟨RX0, "isNumber", "(II)Z"⟩
def dkwX0_isNumber_1 : List UInt8 := [167, 0, 4, 3, 172]
abbrev dktX0_isNumber_1 : List UInt8 := dkwX0_isNumber_1 ++ []
def dkwX0_isNumber_0 : List UInt8 := [42, 182, 0, 122, 27, 182, 0, 125, 153, 0, 19, 42, 182, 0, 122, 27, 28, 182, 0, 151, 153, 0, 7, 4]
abbrev dktX0_isNumber_0 : List UInt8 := dkwX0_isNumber_0 ++ dktX0_isNumber_1
theorem dksX0_isNumber_0 : cX0_isNumber.data.toList.drop 0 = dktX0_isNumber_0 := by decide +kernel
theorem dksX0_isNumber_1 : cX0_isNumber.data.toList.drop 24 = dktX0_isNumber_1 := dk_seg dksX0_isNumber_0 24 rfl rfl
theorem dX0_isNumber_0 : decode cX0_isNumber 0 = .ok (.aload_n 0, 1) := dk_42 (dk_at dksX0_isNumber_0 0 rfl rfl)
theorem dX0_isNumber_1 : decode cX0_isNumber 1 = .ok (.invokevirtual 122, 3) := dk_182 0 122 (dk_at dksX0_isNumber_0 1 rfl rfl)
theorem dX0_isNumber_4 : decode cX0_isNumber 4 = .ok (.iload_n 1, 1) := dk_27 (dk_at dksX0_isNumber_0 4 rfl rfl)
theorem dX0_isNumber_5 : decode cX0_isNumber 5 = .ok (.invokevirtual 125, 3) := dk_182 0 125 (dk_at dksX0_isNumber_0 5 rfl rfl)
theorem dX0_isNumber_8 : decode cX0_isNumber 8 = .ok (.ifCond .eq 19, 3) := dk_153 0 19 (dk_at dksX0_isNumber_0 8 rfl rfl)
theorem dX0_isNumber_11 : decode cX0_isNumber 11 = .ok (.aload_n 0, 1) := dk_42 (dk_at dksX0_isNumber_0 11 rfl rfl)
theorem dX0_isNumber_12 : decode cX0_isNumber 12 = .ok (.invokevirtual 122, 3) := dk_182 0 122 (dk_at dksX0_isNumber_0 12 rfl rfl)
theorem dX0_isNumber_15 : decode cX0_isNumber 15 = .ok (.iload_n 1, 1) := dk_27 (dk_at dksX0_isNumber_0 15 rfl rfl)
theorem dX0_isNumber_16 : decode cX0_isNumber 16 = .ok (.iload_n 2, 1) := dk_28 (dk_at dksX0_isNumber_0 16 rfl rfl)
theorem dX0_isNumber_17 : decode cX0_isNumber 17 = .ok (.invokevirtual 151, 3) := dk_182 0 151 (dk_at dksX0_isNumber_0 17 rfl rfl)
theorem dX0_isNumber_20 : decode cX0_isNumber 20 = .ok (.ifCond .eq 7, 3) := dk_153 0 7 (dk_at dksX0_isNumber_0 20 rfl rfl)
theorem dX0_isNumber_23 : decode cX0_isNumber 23 = .ok (.iconst 1, 1) := dk_4 (dk_at dksX0_isNumber_0 23 rfl rfl)
theorem dX0_isNumber_24 : decode cX0_isNumber 24 = .ok (.goto 4, 3) := dk_167 0 4 (dk_at dksX0_isNumber_1 0 rfl rfl)
theorem dX0_isNumber_27 : decode cX0_isNumber 27 = .ok (.iconst 0, 1) := dk_3 (dk_at dksX0_isNumber_1 3 rfl rfl)
theorem dX0_isNumber_28 : decode cX0_isNumber 28 = .ok (.ireturn, 1) := dk_172 (dk_at dksX0_isNumber_1 4 rfl rfl)
abbrev cX0_findRule : ByteArray := prog_1_method_33_code
def yX0_findRule : MethodName := ⟨RX0, "findRule", "(II)Z"⟩
def dkwX0_findRule_1 : List UInt8 := [180, 0, 187, 27, 28, 182, 1, 8, 153, 0, 7, 4, 167, 0, 4, 3, 172]
abbrev dktX0_findRule_1 : List UInt8 := dkwX0_findRule_1 ++ []
def dkwX0_findRule_0 : List UInt8 := [42, 182, 1, 2, 27, 28, 182, 1, 5, 153, 0, 30, 42, 180, 0, 54, 42, 182, 1, 2, 42, 182, 0, 185]
abbrev dktX0_findRule_0 : List UInt8 := dkwX0_findRule_0 ++ dktX0_findRule_1
theorem dksX0_findRule_0 : cX0_findRule.data.toList.drop 0 = dktX0_findRule_0 := by decide +kernel
theorem dksX0_findRule_1 : cX0_findRule.data.toList.drop 24 = dktX0_findRule_1 := dk_seg dksX0_findRule_0 24 rfl rfl
theorem dX0_findRule_0 : decode cX0_findRule 0 = .ok (.aload_n 0, 1) := dk_42 (dk_at dksX0_findRule_0 0 rfl rfl)
theorem dX0_findRule_1 : decode cX0_findRule 1 = .ok (.invokevirtual 258, 3) := dk_182 1 2 (dk_at dksX0_findRule_0 1 rfl rfl)
theorem dX0_findRule_4 : decode cX0_findRule 4 = .ok (.iload_n 1, 1) := dk_27 (dk_at dksX0_findRule_0 4 rfl rfl)
theorem dX0_findRule_5 : decode cX0_findRule 5 = .ok (.iload_n 2, 1) := dk_28 (dk_at dksX0_findRule_0 5 rfl rfl)
theorem dX0_findRule_6 : decode cX0_findRule 6 = .ok (.invokevirtual 261, 3) := dk_182 1 5 (dk_at dksX0_findRule_0 6 rfl rfl)
theorem dX0_findRule_9 : decode cX0_findRule 9 = .ok (.ifCond .eq 30, 3) := dk_153 0 30 (dk_at dksX0_findRule_0 9 rfl rfl)
theorem dX0_findRule_12 : decode cX0_findRule 12 = .ok (.aload_n 0, 1) := dk_42 (dk_at dksX0_findRule_0 12 rfl rfl)
theorem dX0_findRule_13 : decode cX0_findRule 13 = .ok (.getfield 54, 3) := dk_180 0 54 (dk_at dksX0_findRule_0 13 rfl rfl)
theorem dX0_findRule_16 : decode cX0_findRule 16 = .ok (.aload_n 0, 1) := dk_42 (dk_at dksX0_findRule_0 16 rfl rfl)
theorem dX0_findRule_17 : decode cX0_findRule 17 = .ok (.invokevirtual 258, 3) := dk_182 1 2 (dk_at dksX0_findRule_0 17 rfl rfl)
theorem dX0_findRule_20 : decode cX0_findRule 20 = .ok (.aload_n 0, 1) := dk_42 (dk_at dksX0_findRule_0 20 rfl rfl)
theorem dX0_findRule_21 : decode cX0_findRule 21 = .ok (.invokevirtual 185, 3) := dk_182 0 185 (dk_at dksX0_findRule_0 21 rfl rfl)
theorem dX0_findRule_24 : decode cX0_findRule 24 = .ok (.getfield 187, 3) := dk_180 0 187 (dk_at dksX0_findRule_1 0 rfl rfl)
theorem dX0_findRule_27 : decode cX0_findRule 27 = .ok (.iload_n 1, 1) := dk_27 (dk_at dksX0_findRule_1 3 rfl rfl)
theorem dX0_findRule_28 : decode cX0_findRule 28 = .ok (.iload_n 2, 1) := dk_28 (dk_at dksX0_findRule_1 4 rfl rfl)
theorem dX0_findRule_29 : decode cX0_findRule 29 = .ok (.invokevirtual 264, 3) := dk_182 1 8 (dk_at dksX0_findRule_1 5 rfl rfl)
theorem dX0_findRule_32 : decode cX0_findRule 32 = .ok (.ifCond .eq 7, 3) := dk_153 0 7 (dk_at dksX0_findRule_1 8 rfl rfl)
theorem dX0_findRule_35 : decode cX0_findRule 35 = .ok (.iconst 1, 1) := dk_4 (dk_at dksX0_findRule_1 11 rfl rfl)
theorem dX0_findRule_36 : decode cX0_findRule 36 = .ok (.goto 4, 3) := dk_167 0 4 (dk_at dksX0_findRule_1 12 rfl rfl)
theorem dX0_findRule_39 : decode cX0_findRule 39 = .ok (.iconst 0, 1) := dk_3 (dk_at dksX0_findRule_1 15 rfl rfl)
theorem dX0_findRule_40 : decode cX0_findRule 40 = .ok (.ireturn, 1) := dk_172 (dk_at dksX0_findRule_1 16 rfl rfl)
abbrev cX0_board : ByteArray := prog_1_method_8_code
def yX0_board : MethodName := ⟨RX0, "board", "()LEdgeSums$Board;"⟩
def dkwX0_board_0 : List UInt8 := [42, 180, 0, 33, 180, 0, 58, 180, 0, 66, 176]
abbrev dktX0_board_0 : List UInt8 := dkwX0_board_0 ++ []
theorem dksX0_board_0 : cX0_board.data.toList.drop 0 = dktX0_board_0 := by decide +kernel
theorem dX0_board_0 : decode cX0_board 0 = .ok (.aload_n 0, 1) := dk_42 (dk_at dksX0_board_0 0 rfl rfl)
theorem dX0_board_1 : decode cX0_board 1 = .ok (.getfield 33, 3) := dk_180 0 33 (dk_at dksX0_board_0 1 rfl rfl)
theorem dX0_board_4 : decode cX0_board 4 = .ok (.getfield 58, 3) := dk_180 0 58 (dk_at dksX0_board_0 4 rfl rfl)
theorem dX0_board_7 : decode cX0_board 7 = .ok (.getfield 66, 3) := dk_180 0 66 (dk_at dksX0_board_0 7 rfl rfl)
theorem dX0_board_10 : decode cX0_board 10 = .ok (.areturn, 1) := dk_176 (dk_at dksX0_board_0 10 rfl rfl)
abbrev cX0_advance : ByteArray := prog_1_method_35_code
def yX0_advance : MethodName := ⟨RX0, "advance", "(I)I"⟩
def dkwX0_advance_2 : List UInt8 := [180, 0, 66, 44, 180, 0, 187, 27, 182, 0, 238, 172]
abbrev dktX0_advance_2 : List UInt8 := dkwX0_advance_2 ++ []
def dkwX0_advance_1 : List UInt8 := [180, 0, 187, 182, 1, 21, 154, 0, 6, 16, 254, 172, 42, 182, 0, 104, 77, 42, 180, 0, 54, 44]
abbrev dktX0_advance_1 : List UInt8 := dkwX0_advance_1 ++ dktX0_advance_2
def dkwX0_advance_0 : List UInt8 := [27, 4, 16, 99, 184, 0, 90, 154, 0, 5, 2, 172, 42, 180, 0, 54, 42, 182, 1, 2, 42, 182, 0, 185]
abbrev dktX0_advance_0 : List UInt8 := dkwX0_advance_0 ++ dktX0_advance_1
theorem dksX0_advance_0 : cX0_advance.data.toList.drop 0 = dktX0_advance_0 := by decide +kernel
theorem dksX0_advance_1 : cX0_advance.data.toList.drop 24 = dktX0_advance_1 := dk_seg dksX0_advance_0 24 rfl rfl
theorem dksX0_advance_2 : cX0_advance.data.toList.drop 46 = dktX0_advance_2 := dk_seg dksX0_advance_1 22 rfl rfl
theorem dX0_advance_0 : decode cX0_advance 0 = .ok (.iload_n 1, 1) := dk_27 (dk_at dksX0_advance_0 0 rfl rfl)
theorem dX0_advance_1 : decode cX0_advance 1 = .ok (.iconst 1, 1) := dk_4 (dk_at dksX0_advance_0 1 rfl rfl)
theorem dX0_advance_2 : decode cX0_advance 2 = .ok (.bipush 99, 2) := dk_16 99 (dk_at dksX0_advance_0 2 rfl rfl)
theorem dX0_advance_4 : decode cX0_advance 4 = .ok (.invokestatic 90, 3) := dk_184 0 90 (dk_at dksX0_advance_0 4 rfl rfl)
theorem dX0_advance_7 : decode cX0_advance 7 = .ok (.ifCond .ne 5, 3) := dk_154 0 5 (dk_at dksX0_advance_0 7 rfl rfl)
theorem dX0_advance_10 : decode cX0_advance 10 = .ok (.iconst (-1), 1) := dk_2 (dk_at dksX0_advance_0 10 rfl rfl)
theorem dX0_advance_11 : decode cX0_advance 11 = .ok (.ireturn, 1) := dk_172 (dk_at dksX0_advance_0 11 rfl rfl)
theorem dX0_advance_12 : decode cX0_advance 12 = .ok (.aload_n 0, 1) := dk_42 (dk_at dksX0_advance_0 12 rfl rfl)
theorem dX0_advance_13 : decode cX0_advance 13 = .ok (.getfield 54, 3) := dk_180 0 54 (dk_at dksX0_advance_0 13 rfl rfl)
theorem dX0_advance_16 : decode cX0_advance 16 = .ok (.aload_n 0, 1) := dk_42 (dk_at dksX0_advance_0 16 rfl rfl)
theorem dX0_advance_17 : decode cX0_advance 17 = .ok (.invokevirtual 258, 3) := dk_182 1 2 (dk_at dksX0_advance_0 17 rfl rfl)
theorem dX0_advance_20 : decode cX0_advance 20 = .ok (.aload_n 0, 1) := dk_42 (dk_at dksX0_advance_0 20 rfl rfl)
theorem dX0_advance_21 : decode cX0_advance 21 = .ok (.invokevirtual 185, 3) := dk_182 0 185 (dk_at dksX0_advance_0 21 rfl rfl)
theorem dX0_advance_24 : decode cX0_advance 24 = .ok (.getfield 187, 3) := dk_180 0 187 (dk_at dksX0_advance_1 0 rfl rfl)
theorem dX0_advance_27 : decode cX0_advance 27 = .ok (.invokevirtual 277, 3) := dk_182 1 21 (dk_at dksX0_advance_1 3 rfl rfl)
theorem dX0_advance_30 : decode cX0_advance 30 = .ok (.ifCond .ne 6, 3) := dk_154 0 6 (dk_at dksX0_advance_1 6 rfl rfl)
theorem dX0_advance_33 : decode cX0_advance 33 = .ok (.bipush (-2), 2) := dk_16 254 (dk_at dksX0_advance_1 9 rfl rfl)
theorem dX0_advance_35 : decode cX0_advance 35 = .ok (.ireturn, 1) := dk_172 (dk_at dksX0_advance_1 11 rfl rfl)
theorem dX0_advance_36 : decode cX0_advance 36 = .ok (.aload_n 0, 1) := dk_42 (dk_at dksX0_advance_1 12 rfl rfl)
theorem dX0_advance_37 : decode cX0_advance 37 = .ok (.invokevirtual 104, 3) := dk_182 0 104 (dk_at dksX0_advance_1 13 rfl rfl)
theorem dX0_advance_40 : decode cX0_advance 40 = .ok (.astore_n 2, 1) := dk_77 (dk_at dksX0_advance_1 16 rfl rfl)
theorem dX0_advance_41 : decode cX0_advance 41 = .ok (.aload_n 0, 1) := dk_42 (dk_at dksX0_advance_1 17 rfl rfl)
theorem dX0_advance_42 : decode cX0_advance 42 = .ok (.getfield 54, 3) := dk_180 0 54 (dk_at dksX0_advance_1 18 rfl rfl)
theorem dX0_advance_45 : decode cX0_advance 45 = .ok (.aload_n 2, 1) := dk_44 (dk_at dksX0_advance_1 21 rfl rfl)
theorem dX0_advance_46 : decode cX0_advance 46 = .ok (.getfield 66, 3) := dk_180 0 66 (dk_at dksX0_advance_2 0 rfl rfl)
theorem dX0_advance_49 : decode cX0_advance 49 = .ok (.aload_n 2, 1) := dk_44 (dk_at dksX0_advance_2 3 rfl rfl)
theorem dX0_advance_50 : decode cX0_advance 50 = .ok (.getfield 187, 3) := dk_180 0 187 (dk_at dksX0_advance_2 4 rfl rfl)
theorem dX0_advance_53 : decode cX0_advance 53 = .ok (.iload_n 1, 1) := dk_27 (dk_at dksX0_advance_2 7 rfl rfl)
theorem dX0_advance_54 : decode cX0_advance 54 = .ok (.invokevirtual 238, 3) := dk_182 0 238 (dk_at dksX0_advance_2 8 rfl rfl)
theorem dX0_advance_57 : decode cX0_advance 57 = .ok (.ireturn, 1) := dk_172 (dk_at dksX0_advance_2 11 rfl rfl)
abbrev cX0_restart : ByteArray := prog_1_method_36_code
def yX0_restart : MethodName := ⟨RX0, "restart", "()I"⟩
def dkwX0_restart_0 : List UInt8 := [42, 182, 0, 104, 182, 0, 94, 42, 182, 1, 2, 182, 1, 25, 172]
abbrev dktX0_restart_0 : List UInt8 := dkwX0_restart_0 ++ []
theorem dksX0_restart_0 : cX0_restart.data.toList.drop 0 = dktX0_restart_0 := by decide +kernel
theorem dX0_restart_0 : decode cX0_restart 0 = .ok (.aload_n 0, 1) := dk_42 (dk_at dksX0_restart_0 0 rfl rfl)
theorem dX0_restart_1 : decode cX0_restart 1 = .ok (.invokevirtual 104, 3) := dk_182 0 104 (dk_at dksX0_restart_0 1 rfl rfl)
theorem dX0_restart_4 : decode cX0_restart 4 = .ok (.invokevirtual 94, 3) := dk_182 0 94 (dk_at dksX0_restart_0 4 rfl rfl)
theorem dX0_restart_7 : decode cX0_restart 7 = .ok (.aload_n 0, 1) := dk_42 (dk_at dksX0_restart_0 7 rfl rfl)
theorem dX0_restart_8 : decode cX0_restart 8 = .ok (.invokevirtual 258, 3) := dk_182 1 2 (dk_at dksX0_restart_0 8 rfl rfl)
theorem dX0_restart_11 : decode cX0_restart 11 = .ok (.invokevirtual 281, 3) := dk_182 1 25 (dk_at dksX0_restart_0 11 rfl rfl)
theorem dX0_restart_14 : decode cX0_restart 14 = .ok (.ireturn, 1) := dk_172 (dk_at dksX0_restart_0 14 rfl rfl)
abbrev cX0_take : ByteArray := prog_1_method_38_code
def yX0_take : MethodName := ⟨RX0, "take", "(I)I"⟩
def dkwX0_take_1 : List UInt8 := [182, 1, 34, 83, 44, 180, 0, 62, 182, 1, 36, 172]
abbrev dktX0_take_1 : List UInt8 := dkwX0_take_1 ++ []
def dkwX0_take_0 : List UInt8 := [27, 184, 1, 27, 154, 0, 5, 2, 172, 42, 182, 0, 104, 77, 42, 180, 0, 33, 180, 1, 30, 27, 44]
abbrev dktX0_take_0 : List UInt8 := dkwX0_take_0 ++ dktX0_take_1
theorem dksX0_take_0 : cX0_take.data.toList.drop 0 = dktX0_take_0 := by decide +kernel
theorem dksX0_take_1 : cX0_take.data.toList.drop 23 = dktX0_take_1 := dk_seg dksX0_take_0 23 rfl rfl
theorem dX0_take_0 : decode cX0_take 0 = .ok (.iload_n 1, 1) := dk_27 (dk_at dksX0_take_0 0 rfl rfl)
theorem dX0_take_1 : decode cX0_take 1 = .ok (.invokestatic 283, 3) := dk_184 1 27 (dk_at dksX0_take_0 1 rfl rfl)
theorem dX0_take_4 : decode cX0_take 4 = .ok (.ifCond .ne 5, 3) := dk_154 0 5 (dk_at dksX0_take_0 4 rfl rfl)
theorem dX0_take_7 : decode cX0_take 7 = .ok (.iconst (-1), 1) := dk_2 (dk_at dksX0_take_0 7 rfl rfl)
theorem dX0_take_8 : decode cX0_take 8 = .ok (.ireturn, 1) := dk_172 (dk_at dksX0_take_0 8 rfl rfl)
theorem dX0_take_9 : decode cX0_take 9 = .ok (.aload_n 0, 1) := dk_42 (dk_at dksX0_take_0 9 rfl rfl)
theorem dX0_take_10 : decode cX0_take 10 = .ok (.invokevirtual 104, 3) := dk_182 0 104 (dk_at dksX0_take_0 10 rfl rfl)
theorem dX0_take_13 : decode cX0_take 13 = .ok (.astore_n 2, 1) := dk_77 (dk_at dksX0_take_0 13 rfl rfl)
theorem dX0_take_14 : decode cX0_take 14 = .ok (.aload_n 0, 1) := dk_42 (dk_at dksX0_take_0 14 rfl rfl)
theorem dX0_take_15 : decode cX0_take 15 = .ok (.getfield 33, 3) := dk_180 0 33 (dk_at dksX0_take_0 15 rfl rfl)
theorem dX0_take_18 : decode cX0_take 18 = .ok (.getfield 286, 3) := dk_180 1 30 (dk_at dksX0_take_0 18 rfl rfl)
theorem dX0_take_21 : decode cX0_take 21 = .ok (.iload_n 1, 1) := dk_27 (dk_at dksX0_take_0 21 rfl rfl)
theorem dX0_take_22 : decode cX0_take 22 = .ok (.aload_n 2, 1) := dk_44 (dk_at dksX0_take_0 22 rfl rfl)
theorem dX0_take_23 : decode cX0_take 23 = .ok (.invokevirtual 290, 3) := dk_182 1 34 (dk_at dksX0_take_1 0 rfl rfl)
theorem dX0_take_26 : decode cX0_take 26 = .ok (.aastore, 1) := dk_83 (dk_at dksX0_take_1 3 rfl rfl)
theorem dX0_take_27 : decode cX0_take 27 = .ok (.aload_n 2, 1) := dk_44 (dk_at dksX0_take_1 4 rfl rfl)
theorem dX0_take_28 : decode cX0_take 28 = .ok (.getfield 62, 3) := dk_180 0 62 (dk_at dksX0_take_1 5 rfl rfl)
theorem dX0_take_31 : decode cX0_take 31 = .ok (.invokevirtual 292, 3) := dk_182 1 36 (dk_at dksX0_take_1 8 rfl rfl)
theorem dX0_take_34 : decode cX0_take 34 = .ok (.ireturn, 1) := dk_172 (dk_at dksX0_take_1 11 rfl rfl)
abbrev cX0_isSlot : ByteArray := prog_1_method_37_code
def yX0_isSlot : MethodName := ⟨RX0, "isSlot", "(I)Z"⟩
def dkwX0_isSlot_0 : List UInt8 := [26, 3, 4, 184, 0, 90, 172]
abbrev dktX0_isSlot_0 : List UInt8 := dkwX0_isSlot_0 ++ []
theorem dksX0_isSlot_0 : cX0_isSlot.data.toList.drop 0 = dktX0_isSlot_0 := by decide +kernel
theorem dX0_isSlot_0 : decode cX0_isSlot 0 = .ok (.iload_n 0, 1) := dk_26 (dk_at dksX0_isSlot_0 0 rfl rfl)
theorem dX0_isSlot_1 : decode cX0_isSlot 1 = .ok (.iconst 0, 1) := dk_3 (dk_at dksX0_isSlot_0 1 rfl rfl)
theorem dX0_isSlot_2 : decode cX0_isSlot 2 = .ok (.iconst 1, 1) := dk_4 (dk_at dksX0_isSlot_0 2 rfl rfl)
theorem dX0_isSlot_3 : decode cX0_isSlot 3 = .ok (.invokestatic 90, 3) := dk_184 0 90 (dk_at dksX0_isSlot_0 3 rfl rfl)
theorem dX0_isSlot_6 : decode cX0_isSlot 6 = .ok (.ireturn, 1) := dk_172 (dk_at dksX0_isSlot_0 6 rfl rfl)
abbrev cX0_restore : ByteArray := prog_1_method_39_code
def yX0_restore : MethodName := ⟨RX0, "restore", "(I)I"⟩
def dkwX0_restore_2 : List UInt8 := [42, 182, 0, 122, 182, 1, 36, 172]
abbrev dktX0_restore_2 : List UInt8 := dkwX0_restore_2 ++ []
def dkwX0_restore_1 : List UInt8 := [42, 182, 0, 104, 77, 42, 180, 0, 33, 42, 180, 0, 33, 180, 1, 30, 27, 50, 182, 1, 34, 181, 0, 58]
abbrev dktX0_restore_1 : List UInt8 := dkwX0_restore_1 ++ dktX0_restore_2
def dkwX0_restore_0 : List UInt8 := [27, 184, 1, 27, 154, 0, 5, 2, 172, 42, 180, 0, 33, 180, 1, 30, 27, 50, 199, 0, 6, 16, 254, 172]
abbrev dktX0_restore_0 : List UInt8 := dkwX0_restore_0 ++ dktX0_restore_1
theorem dksX0_restore_0 : cX0_restore.data.toList.drop 0 = dktX0_restore_0 := by decide +kernel
theorem dksX0_restore_1 : cX0_restore.data.toList.drop 24 = dktX0_restore_1 := dk_seg dksX0_restore_0 24 rfl rfl
theorem dksX0_restore_2 : cX0_restore.data.toList.drop 48 = dktX0_restore_2 := dk_seg dksX0_restore_1 24 rfl rfl
theorem dX0_restore_0 : decode cX0_restore 0 = .ok (.iload_n 1, 1) := dk_27 (dk_at dksX0_restore_0 0 rfl rfl)
theorem dX0_restore_1 : decode cX0_restore 1 = .ok (.invokestatic 283, 3) := dk_184 1 27 (dk_at dksX0_restore_0 1 rfl rfl)
theorem dX0_restore_4 : decode cX0_restore 4 = .ok (.ifCond .ne 5, 3) := dk_154 0 5 (dk_at dksX0_restore_0 4 rfl rfl)
theorem dX0_restore_7 : decode cX0_restore 7 = .ok (.iconst (-1), 1) := dk_2 (dk_at dksX0_restore_0 7 rfl rfl)
theorem dX0_restore_8 : decode cX0_restore 8 = .ok (.ireturn, 1) := dk_172 (dk_at dksX0_restore_0 8 rfl rfl)
theorem dX0_restore_9 : decode cX0_restore 9 = .ok (.aload_n 0, 1) := dk_42 (dk_at dksX0_restore_0 9 rfl rfl)
theorem dX0_restore_10 : decode cX0_restore 10 = .ok (.getfield 33, 3) := dk_180 0 33 (dk_at dksX0_restore_0 10 rfl rfl)
theorem dX0_restore_13 : decode cX0_restore 13 = .ok (.getfield 286, 3) := dk_180 1 30 (dk_at dksX0_restore_0 13 rfl rfl)
theorem dX0_restore_16 : decode cX0_restore 16 = .ok (.iload_n 1, 1) := dk_27 (dk_at dksX0_restore_0 16 rfl rfl)
theorem dX0_restore_17 : decode cX0_restore 17 = .ok (.aaload, 1) := dk_50 (dk_at dksX0_restore_0 17 rfl rfl)
theorem dX0_restore_18 : decode cX0_restore 18 = .ok (.ifnonnull 6, 3) := dk_199 0 6 (dk_at dksX0_restore_0 18 rfl rfl)
theorem dX0_restore_21 : decode cX0_restore 21 = .ok (.bipush (-2), 2) := dk_16 254 (dk_at dksX0_restore_0 21 rfl rfl)
theorem dX0_restore_23 : decode cX0_restore 23 = .ok (.ireturn, 1) := dk_172 (dk_at dksX0_restore_0 23 rfl rfl)
theorem dX0_restore_24 : decode cX0_restore 24 = .ok (.aload_n 0, 1) := dk_42 (dk_at dksX0_restore_1 0 rfl rfl)
theorem dX0_restore_25 : decode cX0_restore 25 = .ok (.invokevirtual 104, 3) := dk_182 0 104 (dk_at dksX0_restore_1 1 rfl rfl)
theorem dX0_restore_28 : decode cX0_restore 28 = .ok (.astore_n 2, 1) := dk_77 (dk_at dksX0_restore_1 4 rfl rfl)
theorem dX0_restore_29 : decode cX0_restore 29 = .ok (.aload_n 0, 1) := dk_42 (dk_at dksX0_restore_1 5 rfl rfl)
theorem dX0_restore_30 : decode cX0_restore 30 = .ok (.getfield 33, 3) := dk_180 0 33 (dk_at dksX0_restore_1 6 rfl rfl)
theorem dX0_restore_33 : decode cX0_restore 33 = .ok (.aload_n 0, 1) := dk_42 (dk_at dksX0_restore_1 9 rfl rfl)
theorem dX0_restore_34 : decode cX0_restore 34 = .ok (.getfield 33, 3) := dk_180 0 33 (dk_at dksX0_restore_1 10 rfl rfl)
theorem dX0_restore_37 : decode cX0_restore 37 = .ok (.getfield 286, 3) := dk_180 1 30 (dk_at dksX0_restore_1 13 rfl rfl)
theorem dX0_restore_40 : decode cX0_restore 40 = .ok (.iload_n 1, 1) := dk_27 (dk_at dksX0_restore_1 16 rfl rfl)
theorem dX0_restore_41 : decode cX0_restore 41 = .ok (.aaload, 1) := dk_50 (dk_at dksX0_restore_1 17 rfl rfl)
theorem dX0_restore_42 : decode cX0_restore 42 = .ok (.invokevirtual 290, 3) := dk_182 1 34 (dk_at dksX0_restore_1 18 rfl rfl)
theorem dX0_restore_45 : decode cX0_restore 45 = .ok (.putfield 58, 3) := dk_181 0 58 (dk_at dksX0_restore_1 21 rfl rfl)
theorem dX0_restore_48 : decode cX0_restore 48 = .ok (.aload_n 0, 1) := dk_42 (dk_at dksX0_restore_2 0 rfl rfl)
theorem dX0_restore_49 : decode cX0_restore 49 = .ok (.invokevirtual 122, 3) := dk_182 0 122 (dk_at dksX0_restore_2 1 rfl rfl)
theorem dX0_restore_52 : decode cX0_restore 52 = .ok (.invokevirtual 292, 3) := dk_182 1 36 (dk_at dksX0_restore_2 4 rfl rfl)
theorem dX0_restore_55 : decode cX0_restore 55 = .ok (.ireturn, 1) := dk_172 (dk_at dksX0_restore_2 7 rfl rfl)
abbrev cX0_undo : ByteArray := prog_1_method_40_code
def yX0_undo : MethodName := ⟨RX0, "undo", "()I"⟩
def dkwX0_undo_1 : List UInt8 := [181, 0, 33, 42, 180, 0, 40, 182, 0, 70, 172]
abbrev dktX0_undo_1 : List UInt8 := dkwX0_undo_1 ++ []
def dkwX0_undo_0 : List UInt8 := [42, 180, 0, 40, 182, 1, 38, 153, 0, 6, 16, 254, 172, 42, 42, 180, 0, 40, 182, 1, 39, 192, 0, 18]
abbrev dktX0_undo_0 : List UInt8 := dkwX0_undo_0 ++ dktX0_undo_1
theorem dksX0_undo_0 : cX0_undo.data.toList.drop 0 = dktX0_undo_0 := by decide +kernel
theorem dksX0_undo_1 : cX0_undo.data.toList.drop 24 = dktX0_undo_1 := dk_seg dksX0_undo_0 24 rfl rfl
theorem dX0_undo_0 : decode cX0_undo 0 = .ok (.aload_n 0, 1) := dk_42 (dk_at dksX0_undo_0 0 rfl rfl)
theorem dX0_undo_1 : decode cX0_undo 1 = .ok (.getfield 40, 3) := dk_180 0 40 (dk_at dksX0_undo_0 1 rfl rfl)
theorem dX0_undo_4 : decode cX0_undo 4 = .ok (.invokevirtual 294, 3) := dk_182 1 38 (dk_at dksX0_undo_0 4 rfl rfl)
theorem dX0_undo_7 : decode cX0_undo 7 = .ok (.ifCond .eq 6, 3) := dk_153 0 6 (dk_at dksX0_undo_0 7 rfl rfl)
theorem dX0_undo_10 : decode cX0_undo 10 = .ok (.bipush (-2), 2) := dk_16 254 (dk_at dksX0_undo_0 10 rfl rfl)
theorem dX0_undo_12 : decode cX0_undo 12 = .ok (.ireturn, 1) := dk_172 (dk_at dksX0_undo_0 12 rfl rfl)
theorem dX0_undo_13 : decode cX0_undo 13 = .ok (.aload_n 0, 1) := dk_42 (dk_at dksX0_undo_0 13 rfl rfl)
theorem dX0_undo_14 : decode cX0_undo 14 = .ok (.aload_n 0, 1) := dk_42 (dk_at dksX0_undo_0 14 rfl rfl)
theorem dX0_undo_15 : decode cX0_undo 15 = .ok (.getfield 40, 3) := dk_180 0 40 (dk_at dksX0_undo_0 15 rfl rfl)
theorem dX0_undo_18 : decode cX0_undo 18 = .ok (.invokevirtual 295, 3) := dk_182 1 39 (dk_at dksX0_undo_0 18 rfl rfl)
theorem dX0_undo_21 : decode cX0_undo 21 = .ok (.checkcast 18, 3) := dk_192 0 18 (dk_at dksX0_undo_0 21 rfl rfl)
theorem dX0_undo_24 : decode cX0_undo 24 = .ok (.putfield 33, 3) := dk_181 0 33 (dk_at dksX0_undo_1 0 rfl rfl)
theorem dX0_undo_27 : decode cX0_undo 27 = .ok (.aload_n 0, 1) := dk_42 (dk_at dksX0_undo_1 3 rfl rfl)
theorem dX0_undo_28 : decode cX0_undo 28 = .ok (.getfield 40, 3) := dk_180 0 40 (dk_at dksX0_undo_1 4 rfl rfl)
theorem dX0_undo_31 : decode cX0_undo 31 = .ok (.invokevirtual 70, 3) := dk_182 0 70 (dk_at dksX0_undo_1 7 rfl rfl)
theorem dX0_undo_34 : decode cX0_undo 34 = .ok (.ireturn, 1) := dk_172 (dk_at dksX0_undo_1 10 rfl rfl)
abbrev cX0_append : ByteArray := prog_1_method_41_code
def yX0_append : MethodName := ⟨RX0, "append", "(I)I"⟩
def dkwX0_append_1 : List UInt8 := [160, 0, 6, 16, 253, 172, 42, 180, 0, 47, 27, 146, 182, 1, 45, 87, 42, 180, 0, 47, 182, 1, 42, 172]
abbrev dktX0_append_1 : List UInt8 := dkwX0_append_1 ++ []
def dkwX0_append_0 : List UInt8 := [27, 4, 17, 0, 255, 184, 0, 90, 154, 0, 5, 2, 172, 42, 180, 0, 47, 182, 1, 42, 17, 0, 140]
abbrev dktX0_append_0 : List UInt8 := dkwX0_append_0 ++ dktX0_append_1
theorem dksX0_append_0 : cX0_append.data.toList.drop 0 = dktX0_append_0 := by decide +kernel
theorem dksX0_append_1 : cX0_append.data.toList.drop 23 = dktX0_append_1 := dk_seg dksX0_append_0 23 rfl rfl
theorem dX0_append_0 : decode cX0_append 0 = .ok (.iload_n 1, 1) := dk_27 (dk_at dksX0_append_0 0 rfl rfl)
theorem dX0_append_1 : decode cX0_append 1 = .ok (.iconst 1, 1) := dk_4 (dk_at dksX0_append_0 1 rfl rfl)
theorem dX0_append_2 : decode cX0_append 2 = .ok (.sipush 255, 3) := dk_17 0 255 (dk_at dksX0_append_0 2 rfl rfl)
theorem dX0_append_5 : decode cX0_append 5 = .ok (.invokestatic 90, 3) := dk_184 0 90 (dk_at dksX0_append_0 5 rfl rfl)
theorem dX0_append_8 : decode cX0_append 8 = .ok (.ifCond .ne 5, 3) := dk_154 0 5 (dk_at dksX0_append_0 8 rfl rfl)
theorem dX0_append_11 : decode cX0_append 11 = .ok (.iconst (-1), 1) := dk_2 (dk_at dksX0_append_0 11 rfl rfl)
theorem dX0_append_12 : decode cX0_append 12 = .ok (.ireturn, 1) := dk_172 (dk_at dksX0_append_0 12 rfl rfl)
theorem dX0_append_13 : decode cX0_append 13 = .ok (.aload_n 0, 1) := dk_42 (dk_at dksX0_append_0 13 rfl rfl)
theorem dX0_append_14 : decode cX0_append 14 = .ok (.getfield 47, 3) := dk_180 0 47 (dk_at dksX0_append_0 14 rfl rfl)
theorem dX0_append_17 : decode cX0_append 17 = .ok (.invokevirtual 298, 3) := dk_182 1 42 (dk_at dksX0_append_0 17 rfl rfl)
theorem dX0_append_20 : decode cX0_append 20 = .ok (.sipush 140, 3) := dk_17 0 140 (dk_at dksX0_append_0 20 rfl rfl)
theorem dX0_append_23 : decode cX0_append 23 = .ok (.if_icmp .ne 6, 3) := dk_160 0 6 (dk_at dksX0_append_1 0 rfl rfl)
theorem dX0_append_26 : decode cX0_append 26 = .ok (.bipush (-3), 2) := dk_16 253 (dk_at dksX0_append_1 3 rfl rfl)
theorem dX0_append_28 : decode cX0_append 28 = .ok (.ireturn, 1) := dk_172 (dk_at dksX0_append_1 5 rfl rfl)
theorem dX0_append_29 : decode cX0_append 29 = .ok (.aload_n 0, 1) := dk_42 (dk_at dksX0_append_1 6 rfl rfl)
theorem dX0_append_30 : decode cX0_append 30 = .ok (.getfield 47, 3) := dk_180 0 47 (dk_at dksX0_append_1 7 rfl rfl)
theorem dX0_append_33 : decode cX0_append 33 = .ok (.iload_n 1, 1) := dk_27 (dk_at dksX0_append_1 10 rfl rfl)
theorem dX0_append_34 : decode cX0_append 34 = .ok (.i2c, 1) := dk_146 (dk_at dksX0_append_1 11 rfl rfl)
theorem dX0_append_35 : decode cX0_append 35 = .ok (.invokevirtual 301, 3) := dk_182 1 45 (dk_at dksX0_append_1 12 rfl rfl)
theorem dX0_append_38 : decode cX0_append 38 = .ok (.pop, 1) := dk_87 (dk_at dksX0_append_1 15 rfl rfl)
theorem dX0_append_39 : decode cX0_append 39 = .ok (.aload_n 0, 1) := dk_42 (dk_at dksX0_append_1 16 rfl rfl)
theorem dX0_append_40 : decode cX0_append 40 = .ok (.getfield 47, 3) := dk_180 0 47 (dk_at dksX0_append_1 17 rfl rfl)
theorem dX0_append_43 : decode cX0_append 43 = .ok (.invokevirtual 298, 3) := dk_182 1 42 (dk_at dksX0_append_1 20 rfl rfl)
theorem dX0_append_46 : decode cX0_append 46 = .ok (.ireturn, 1) := dk_172 (dk_at dksX0_append_1 23 rfl rfl)
abbrev cX0_clearText : ByteArray := prog_1_method_42_code
def yX0_clearText : MethodName := ⟨RX0, "clearText", "()I"⟩
def dkwX0_clearText_0 : List UInt8 := [42, 180, 0, 47, 182, 1, 42, 60, 42, 180, 0, 47, 3, 182, 1, 49, 27, 172]
abbrev dktX0_clearText_0 : List UInt8 := dkwX0_clearText_0 ++ []
theorem dksX0_clearText_0 : cX0_clearText.data.toList.drop 0 = dktX0_clearText_0 := by decide +kernel
theorem dX0_clearText_0 : decode cX0_clearText 0 = .ok (.aload_n 0, 1) := dk_42 (dk_at dksX0_clearText_0 0 rfl rfl)
theorem dX0_clearText_1 : decode cX0_clearText 1 = .ok (.getfield 47, 3) := dk_180 0 47 (dk_at dksX0_clearText_0 1 rfl rfl)
theorem dX0_clearText_4 : decode cX0_clearText 4 = .ok (.invokevirtual 298, 3) := dk_182 1 42 (dk_at dksX0_clearText_0 4 rfl rfl)
theorem dX0_clearText_7 : decode cX0_clearText 7 = .ok (.istore_n 1, 1) := dk_60 (dk_at dksX0_clearText_0 7 rfl rfl)
theorem dX0_clearText_8 : decode cX0_clearText 8 = .ok (.aload_n 0, 1) := dk_42 (dk_at dksX0_clearText_0 8 rfl rfl)
theorem dX0_clearText_9 : decode cX0_clearText 9 = .ok (.getfield 47, 3) := dk_180 0 47 (dk_at dksX0_clearText_0 9 rfl rfl)
theorem dX0_clearText_12 : decode cX0_clearText 12 = .ok (.iconst 0, 1) := dk_3 (dk_at dksX0_clearText_0 12 rfl rfl)
theorem dX0_clearText_13 : decode cX0_clearText 13 = .ok (.invokevirtual 305, 3) := dk_182 1 49 (dk_at dksX0_clearText_0 13 rfl rfl)
theorem dX0_clearText_16 : decode cX0_clearText 16 = .ok (.iload_n 1, 1) := dk_27 (dk_at dksX0_clearText_0 16 rfl rfl)
theorem dX0_clearText_17 : decode cX0_clearText 17 = .ok (.ireturn, 1) := dk_172 (dk_at dksX0_clearText_0 17 rfl rfl)
abbrev cX0_load : ByteArray := prog_1_method_43_code
def yX0_load : MethodName := ⟨RX0, "load", "()I"⟩
def dkwX0_load_1 : List UInt8 := [180, 1, 62, 100, 172, 42, 43, 180, 1, 65, 182, 0, 86, 42, 180, 0, 47, 3, 182, 1, 49, 28, 172]
abbrev dktX0_load_1 : List UInt8 := dkwX0_load_1 ++ []
def dkwX0_load_0 : List UInt8 := [187, 1, 52, 89, 42, 183, 1, 54, 76, 43, 182, 1, 57, 61, 167, 0, 13, 78, 17, 252, 24, 45]
abbrev dktX0_load_0 : List UInt8 := dkwX0_load_0 ++ dktX0_load_1
theorem dksX0_load_0 : cX0_load.data.toList.drop 0 = dktX0_load_0 := by decide +kernel
theorem dksX0_load_1 : cX0_load.data.toList.drop 22 = dktX0_load_1 := dk_seg dksX0_load_0 22 rfl rfl
theorem dX0_load_0 : decode cX0_load 0 = .ok (.new 308, 3) := dk_187 1 52 (dk_at dksX0_load_0 0 rfl rfl)
theorem dX0_load_3 : decode cX0_load 3 = .ok (.dup, 1) := dk_89 (dk_at dksX0_load_0 3 rfl rfl)
theorem dX0_load_4 : decode cX0_load 4 = .ok (.aload_n 0, 1) := dk_42 (dk_at dksX0_load_0 4 rfl rfl)
theorem dX0_load_5 : decode cX0_load 5 = .ok (.invokespecial 310, 3) := dk_183 1 54 (dk_at dksX0_load_0 5 rfl rfl)
theorem dX0_load_8 : decode cX0_load 8 = .ok (.astore_n 1, 1) := dk_76 (dk_at dksX0_load_0 8 rfl rfl)
theorem dX0_load_9 : decode cX0_load 9 = .ok (.aload_n 1, 1) := dk_43 (dk_at dksX0_load_0 9 rfl rfl)
theorem dX0_load_10 : decode cX0_load 10 = .ok (.invokevirtual 313, 3) := dk_182 1 57 (dk_at dksX0_load_0 10 rfl rfl)
theorem dX0_load_13 : decode cX0_load 13 = .ok (.istore_n 2, 1) := dk_61 (dk_at dksX0_load_0 13 rfl rfl)
theorem dX0_load_14 : decode cX0_load 14 = .ok (.goto 13, 3) := dk_167 0 13 (dk_at dksX0_load_0 14 rfl rfl)
theorem dX0_load_17 : decode cX0_load 17 = .ok (.astore_n 3, 1) := dk_78 (dk_at dksX0_load_0 17 rfl rfl)
theorem dX0_load_18 : decode cX0_load 18 = .ok (.sipush (-1000), 3) := dk_17 252 24 (dk_at dksX0_load_0 18 rfl rfl)
theorem dX0_load_21 : decode cX0_load 21 = .ok (.aload_n 3, 1) := dk_45 (dk_at dksX0_load_0 21 rfl rfl)
theorem dX0_load_22 : decode cX0_load 22 = .ok (.getfield 318, 3) := dk_180 1 62 (dk_at dksX0_load_1 0 rfl rfl)
theorem dX0_load_25 : decode cX0_load 25 = .ok (.isub, 1) := dk_100 (dk_at dksX0_load_1 3 rfl rfl)
theorem dX0_load_26 : decode cX0_load 26 = .ok (.ireturn, 1) := dk_172 (dk_at dksX0_load_1 4 rfl rfl)
theorem dX0_load_27 : decode cX0_load 27 = .ok (.aload_n 0, 1) := dk_42 (dk_at dksX0_load_1 5 rfl rfl)
theorem dX0_load_28 : decode cX0_load 28 = .ok (.aload_n 1, 1) := dk_43 (dk_at dksX0_load_1 6 rfl rfl)
theorem dX0_load_29 : decode cX0_load 29 = .ok (.getfield 321, 3) := dk_180 1 65 (dk_at dksX0_load_1 7 rfl rfl)
theorem dX0_load_32 : decode cX0_load 32 = .ok (.invokevirtual 86, 3) := dk_182 0 86 (dk_at dksX0_load_1 10 rfl rfl)
theorem dX0_load_35 : decode cX0_load 35 = .ok (.aload_n 0, 1) := dk_42 (dk_at dksX0_load_1 13 rfl rfl)
theorem dX0_load_36 : decode cX0_load 36 = .ok (.getfield 47, 3) := dk_180 0 47 (dk_at dksX0_load_1 14 rfl rfl)
theorem dX0_load_39 : decode cX0_load 39 = .ok (.iconst 0, 1) := dk_3 (dk_at dksX0_load_1 17 rfl rfl)
theorem dX0_load_40 : decode cX0_load 40 = .ok (.invokevirtual 305, 3) := dk_182 1 49 (dk_at dksX0_load_1 18 rfl rfl)
theorem dX0_load_43 : decode cX0_load 43 = .ok (.iload_n 2, 1) := dk_28 (dk_at dksX0_load_1 21 rfl rfl)
theorem dX0_load_44 : decode cX0_load 44 = .ok (.ireturn, 1) := dk_172 (dk_at dksX0_load_1 22 rfl rfl)
abbrev cX0_count : ByteArray := prog_1_method_45_code
def yX0_count : MethodName := ⟨RX0, "count", "(I)I"⟩
def dkwX0_count_5 : List UInt8 := [42, 182, 1, 74, 172, 42, 180, 0, 40, 182, 0, 70, 172, 42, 180, 0, 47, 182, 1, 42, 172, 2, 172]
abbrev dktX0_count_5 : List UInt8 := dkwX0_count_5 ++ []
def dkwX0_count_4 : List UInt8 := [180, 0, 187, 184, 0, 252, 172, 42, 182, 1, 2, 182, 1, 25, 172, 42, 182, 1, 2, 4, 182, 1, 71, 172]
abbrev dktX0_count_4 : List UInt8 := dkwX0_count_4 ++ dktX0_count_5
def dkwX0_count_3 : List UInt8 := [42, 182, 0, 122, 182, 0, 163, 172, 42, 182, 0, 122, 27, 7, 100, 182, 0, 179, 172, 42, 182, 0, 185]
abbrev dktX0_count_3 : List UInt8 := dkwX0_count_3 ++ dktX0_count_4
def dkwX0_count_2 : List UInt8 := [42, 182, 0, 122, 180, 0, 147, 172, 42, 182, 0, 122, 180, 1, 68, 172, 42, 182, 0, 122, 182, 0, 97, 172]
abbrev dktX0_count_2 : List UInt8 := dkwX0_count_2 ++ dktX0_count_3
def dkwX0_count_1 : List UInt8 := [170, 0, 0, 0, 0, 0, 155, 0, 0, 0, 0, 0, 0, 0, 11, 0, 0, 0, 63, 0, 0, 0, 71, 0, 0, 0, 79, 0, 0, 0, 87, 0, 0, 0, 95, 0, 0, 0, 95, 0, 0, 0, 106, 0, 0, 0, 117, 0, 0, 0, 125, 0, 0, 0, 134, 0, 0, 0, 139, 0, 0, 0, 147]
abbrev dktX0_count_1 : List UInt8 := dkwX0_count_1 ++ dktX0_count_2
def dkwX0_count_0 : List UInt8 := [27]
abbrev dktX0_count_0 : List UInt8 := dkwX0_count_0 ++ dktX0_count_1
theorem dksX0_count_0 : cX0_count.data.toList.drop 0 = dktX0_count_0 := by decide +kernel
theorem dksX0_count_1 : cX0_count.data.toList.drop 1 = dktX0_count_1 := dk_seg dksX0_count_0 1 rfl rfl
theorem dksX0_count_2 : cX0_count.data.toList.drop 64 = dktX0_count_2 := dk_seg dksX0_count_1 63 rfl rfl
theorem dksX0_count_3 : cX0_count.data.toList.drop 88 = dktX0_count_3 := dk_seg dksX0_count_2 24 rfl rfl
theorem dksX0_count_4 : cX0_count.data.toList.drop 111 = dktX0_count_4 := dk_seg dksX0_count_3 23 rfl rfl
theorem dksX0_count_5 : cX0_count.data.toList.drop 135 = dktX0_count_5 := dk_seg dksX0_count_4 24 rfl rfl
theorem dX0_count_0 : decode cX0_count 0 = .ok (.iload_n 1, 1) := dk_27 (dk_at dksX0_count_0 0 rfl rfl)
theorem dX0_count_1 : decode cX0_count 1 = .ok (.tableswitch 155 0 11 #[63, 71, 79, 87, 95, 95, 106, 117, 125, 134, 139, 147], 63) := by decide +kernel
theorem dX0_count_64 : decode cX0_count 64 = .ok (.aload_n 0, 1) := dk_42 (dk_at dksX0_count_2 0 rfl rfl)
theorem dX0_count_65 : decode cX0_count 65 = .ok (.invokevirtual 122, 3) := dk_182 0 122 (dk_at dksX0_count_2 1 rfl rfl)
theorem dX0_count_68 : decode cX0_count 68 = .ok (.getfield 147, 3) := dk_180 0 147 (dk_at dksX0_count_2 4 rfl rfl)
theorem dX0_count_71 : decode cX0_count 71 = .ok (.ireturn, 1) := dk_172 (dk_at dksX0_count_2 7 rfl rfl)
theorem dX0_count_72 : decode cX0_count 72 = .ok (.aload_n 0, 1) := dk_42 (dk_at dksX0_count_2 8 rfl rfl)
theorem dX0_count_73 : decode cX0_count 73 = .ok (.invokevirtual 122, 3) := dk_182 0 122 (dk_at dksX0_count_2 9 rfl rfl)
theorem dX0_count_76 : decode cX0_count 76 = .ok (.getfield 324, 3) := dk_180 1 68 (dk_at dksX0_count_2 12 rfl rfl)
theorem dX0_count_79 : decode cX0_count 79 = .ok (.ireturn, 1) := dk_172 (dk_at dksX0_count_2 15 rfl rfl)
theorem dX0_count_80 : decode cX0_count 80 = .ok (.aload_n 0, 1) := dk_42 (dk_at dksX0_count_2 16 rfl rfl)
theorem dX0_count_81 : decode cX0_count 81 = .ok (.invokevirtual 122, 3) := dk_182 0 122 (dk_at dksX0_count_2 17 rfl rfl)
theorem dX0_count_84 : decode cX0_count 84 = .ok (.invokevirtual 97, 3) := dk_182 0 97 (dk_at dksX0_count_2 20 rfl rfl)
theorem dX0_count_87 : decode cX0_count 87 = .ok (.ireturn, 1) := dk_172 (dk_at dksX0_count_2 23 rfl rfl)
theorem dX0_count_88 : decode cX0_count 88 = .ok (.aload_n 0, 1) := dk_42 (dk_at dksX0_count_3 0 rfl rfl)
theorem dX0_count_89 : decode cX0_count 89 = .ok (.invokevirtual 122, 3) := dk_182 0 122 (dk_at dksX0_count_3 1 rfl rfl)
theorem dX0_count_92 : decode cX0_count 92 = .ok (.invokevirtual 163, 3) := dk_182 0 163 (dk_at dksX0_count_3 4 rfl rfl)
theorem dX0_count_95 : decode cX0_count 95 = .ok (.ireturn, 1) := dk_172 (dk_at dksX0_count_3 7 rfl rfl)
theorem dX0_count_96 : decode cX0_count 96 = .ok (.aload_n 0, 1) := dk_42 (dk_at dksX0_count_3 8 rfl rfl)
theorem dX0_count_97 : decode cX0_count 97 = .ok (.invokevirtual 122, 3) := dk_182 0 122 (dk_at dksX0_count_3 9 rfl rfl)
theorem dX0_count_100 : decode cX0_count 100 = .ok (.iload_n 1, 1) := dk_27 (dk_at dksX0_count_3 12 rfl rfl)
theorem dX0_count_101 : decode cX0_count 101 = .ok (.iconst 4, 1) := dk_7 (dk_at dksX0_count_3 13 rfl rfl)
theorem dX0_count_102 : decode cX0_count 102 = .ok (.isub, 1) := dk_100 (dk_at dksX0_count_3 14 rfl rfl)
theorem dX0_count_103 : decode cX0_count 103 = .ok (.invokevirtual 179, 3) := dk_182 0 179 (dk_at dksX0_count_3 15 rfl rfl)
theorem dX0_count_106 : decode cX0_count 106 = .ok (.ireturn, 1) := dk_172 (dk_at dksX0_count_3 18 rfl rfl)
theorem dX0_count_107 : decode cX0_count 107 = .ok (.aload_n 0, 1) := dk_42 (dk_at dksX0_count_3 19 rfl rfl)
theorem dX0_count_108 : decode cX0_count 108 = .ok (.invokevirtual 185, 3) := dk_182 0 185 (dk_at dksX0_count_3 20 rfl rfl)
theorem dX0_count_111 : decode cX0_count 111 = .ok (.getfield 187, 3) := dk_180 0 187 (dk_at dksX0_count_4 0 rfl rfl)
theorem dX0_count_114 : decode cX0_count 114 = .ok (.invokestatic 252, 3) := dk_184 0 252 (dk_at dksX0_count_4 3 rfl rfl)
theorem dX0_count_117 : decode cX0_count 117 = .ok (.ireturn, 1) := dk_172 (dk_at dksX0_count_4 6 rfl rfl)
theorem dX0_count_118 : decode cX0_count 118 = .ok (.aload_n 0, 1) := dk_42 (dk_at dksX0_count_4 7 rfl rfl)
theorem dX0_count_119 : decode cX0_count 119 = .ok (.invokevirtual 258, 3) := dk_182 1 2 (dk_at dksX0_count_4 8 rfl rfl)
theorem dX0_count_122 : decode cX0_count 122 = .ok (.invokevirtual 281, 3) := dk_182 1 25 (dk_at dksX0_count_4 11 rfl rfl)
theorem dX0_count_125 : decode cX0_count 125 = .ok (.ireturn, 1) := dk_172 (dk_at dksX0_count_4 14 rfl rfl)
theorem dX0_count_126 : decode cX0_count 126 = .ok (.aload_n 0, 1) := dk_42 (dk_at dksX0_count_4 15 rfl rfl)
theorem dX0_count_127 : decode cX0_count 127 = .ok (.invokevirtual 258, 3) := dk_182 1 2 (dk_at dksX0_count_4 16 rfl rfl)
theorem dX0_count_130 : decode cX0_count 130 = .ok (.iconst 1, 1) := dk_4 (dk_at dksX0_count_4 19 rfl rfl)
theorem dX0_count_131 : decode cX0_count 131 = .ok (.invokevirtual 327, 3) := dk_182 1 71 (dk_at dksX0_count_4 20 rfl rfl)
theorem dX0_count_134 : decode cX0_count 134 = .ok (.ireturn, 1) := dk_172 (dk_at dksX0_count_4 23 rfl rfl)
theorem dX0_count_135 : decode cX0_count 135 = .ok (.aload_n 0, 1) := dk_42 (dk_at dksX0_count_5 0 rfl rfl)
theorem dX0_count_136 : decode cX0_count 136 = .ok (.invokevirtual 330, 3) := dk_182 1 74 (dk_at dksX0_count_5 1 rfl rfl)
theorem dX0_count_139 : decode cX0_count 139 = .ok (.ireturn, 1) := dk_172 (dk_at dksX0_count_5 4 rfl rfl)
theorem dX0_count_140 : decode cX0_count 140 = .ok (.aload_n 0, 1) := dk_42 (dk_at dksX0_count_5 5 rfl rfl)
theorem dX0_count_141 : decode cX0_count 141 = .ok (.getfield 40, 3) := dk_180 0 40 (dk_at dksX0_count_5 6 rfl rfl)
theorem dX0_count_144 : decode cX0_count 144 = .ok (.invokevirtual 70, 3) := dk_182 0 70 (dk_at dksX0_count_5 9 rfl rfl)
theorem dX0_count_147 : decode cX0_count 147 = .ok (.ireturn, 1) := dk_172 (dk_at dksX0_count_5 12 rfl rfl)
theorem dX0_count_148 : decode cX0_count 148 = .ok (.aload_n 0, 1) := dk_42 (dk_at dksX0_count_5 13 rfl rfl)
theorem dX0_count_149 : decode cX0_count 149 = .ok (.getfield 47, 3) := dk_180 0 47 (dk_at dksX0_count_5 14 rfl rfl)
theorem dX0_count_152 : decode cX0_count 152 = .ok (.invokevirtual 298, 3) := dk_182 1 42 (dk_at dksX0_count_5 17 rfl rfl)
theorem dX0_count_155 : decode cX0_count 155 = .ok (.ireturn, 1) := dk_172 (dk_at dksX0_count_5 20 rfl rfl)
theorem dX0_count_156 : decode cX0_count 156 = .ok (.iconst (-1), 1) := dk_2 (dk_at dksX0_count_5 21 rfl rfl)
theorem dX0_count_157 : decode cX0_count 157 = .ok (.ireturn, 1) := dk_172 (dk_at dksX0_count_5 22 rfl rfl)
abbrev cX0_snapshots : ByteArray := prog_1_method_44_code
def yX0_snapshots : MethodName := ⟨RX0, "snapshots", "()I"⟩
def dkwX0_snapshots_2 : List UInt8 := [27, 172]
abbrev dktX0_snapshots_2 : List UInt8 := dkwX0_snapshots_2 ++ []
def dkwX0_snapshots_1 : List UInt8 := [21, 4, 50, 58, 5, 27, 25, 5, 199, 0, 7, 3, 167, 0, 4, 4, 96, 60, 132, 4, 1, 167, 255, 228]
abbrev dktX0_snapshots_1 : List UInt8 := dkwX0_snapshots_1 ++ dktX0_snapshots_2
def dkwX0_snapshots_0 : List UInt8 := [3, 60, 42, 180, 0, 33, 180, 1, 30, 77, 44, 190, 62, 3, 54, 4, 21, 4, 29, 162, 0, 28, 44]
abbrev dktX0_snapshots_0 : List UInt8 := dkwX0_snapshots_0 ++ dktX0_snapshots_1
theorem dksX0_snapshots_0 : cX0_snapshots.data.toList.drop 0 = dktX0_snapshots_0 := by decide +kernel
theorem dksX0_snapshots_1 : cX0_snapshots.data.toList.drop 23 = dktX0_snapshots_1 := dk_seg dksX0_snapshots_0 23 rfl rfl
theorem dksX0_snapshots_2 : cX0_snapshots.data.toList.drop 47 = dktX0_snapshots_2 := dk_seg dksX0_snapshots_1 24 rfl rfl
theorem dX0_snapshots_0 : decode cX0_snapshots 0 = .ok (.iconst 0, 1) := dk_3 (dk_at dksX0_snapshots_0 0 rfl rfl)
theorem dX0_snapshots_1 : decode cX0_snapshots 1 = .ok (.istore_n 1, 1) := dk_60 (dk_at dksX0_snapshots_0 1 rfl rfl)
theorem dX0_snapshots_2 : decode cX0_snapshots 2 = .ok (.aload_n 0, 1) := dk_42 (dk_at dksX0_snapshots_0 2 rfl rfl)
theorem dX0_snapshots_3 : decode cX0_snapshots 3 = .ok (.getfield 33, 3) := dk_180 0 33 (dk_at dksX0_snapshots_0 3 rfl rfl)
theorem dX0_snapshots_6 : decode cX0_snapshots 6 = .ok (.getfield 286, 3) := dk_180 1 30 (dk_at dksX0_snapshots_0 6 rfl rfl)
theorem dX0_snapshots_9 : decode cX0_snapshots 9 = .ok (.astore_n 2, 1) := dk_77 (dk_at dksX0_snapshots_0 9 rfl rfl)
theorem dX0_snapshots_10 : decode cX0_snapshots 10 = .ok (.aload_n 2, 1) := dk_44 (dk_at dksX0_snapshots_0 10 rfl rfl)
theorem dX0_snapshots_11 : decode cX0_snapshots 11 = .ok (.arraylength, 1) := dk_190 (dk_at dksX0_snapshots_0 11 rfl rfl)
theorem dX0_snapshots_12 : decode cX0_snapshots 12 = .ok (.istore_n 3, 1) := dk_62 (dk_at dksX0_snapshots_0 12 rfl rfl)
theorem dX0_snapshots_13 : decode cX0_snapshots 13 = .ok (.iconst 0, 1) := dk_3 (dk_at dksX0_snapshots_0 13 rfl rfl)
theorem dX0_snapshots_14 : decode cX0_snapshots 14 = .ok (.istore 4, 2) := dk_54 4 (dk_at dksX0_snapshots_0 14 rfl rfl)
theorem dX0_snapshots_16 : decode cX0_snapshots 16 = .ok (.iload 4, 2) := dk_21 4 (dk_at dksX0_snapshots_0 16 rfl rfl)
theorem dX0_snapshots_18 : decode cX0_snapshots 18 = .ok (.iload_n 3, 1) := dk_29 (dk_at dksX0_snapshots_0 18 rfl rfl)
theorem dX0_snapshots_19 : decode cX0_snapshots 19 = .ok (.if_icmp .ge 28, 3) := dk_162 0 28 (dk_at dksX0_snapshots_0 19 rfl rfl)
theorem dX0_snapshots_22 : decode cX0_snapshots 22 = .ok (.aload_n 2, 1) := dk_44 (dk_at dksX0_snapshots_0 22 rfl rfl)
theorem dX0_snapshots_23 : decode cX0_snapshots 23 = .ok (.iload 4, 2) := dk_21 4 (dk_at dksX0_snapshots_1 0 rfl rfl)
theorem dX0_snapshots_25 : decode cX0_snapshots 25 = .ok (.aaload, 1) := dk_50 (dk_at dksX0_snapshots_1 2 rfl rfl)
theorem dX0_snapshots_26 : decode cX0_snapshots 26 = .ok (.astore 5, 2) := dk_58 5 (dk_at dksX0_snapshots_1 3 rfl rfl)
theorem dX0_snapshots_28 : decode cX0_snapshots 28 = .ok (.iload_n 1, 1) := dk_27 (dk_at dksX0_snapshots_1 5 rfl rfl)
theorem dX0_snapshots_29 : decode cX0_snapshots 29 = .ok (.aload 5, 2) := dk_25 5 (dk_at dksX0_snapshots_1 6 rfl rfl)
theorem dX0_snapshots_31 : decode cX0_snapshots 31 = .ok (.ifnonnull 7, 3) := dk_199 0 7 (dk_at dksX0_snapshots_1 8 rfl rfl)
theorem dX0_snapshots_34 : decode cX0_snapshots 34 = .ok (.iconst 0, 1) := dk_3 (dk_at dksX0_snapshots_1 11 rfl rfl)
theorem dX0_snapshots_35 : decode cX0_snapshots 35 = .ok (.goto 4, 3) := dk_167 0 4 (dk_at dksX0_snapshots_1 12 rfl rfl)
theorem dX0_snapshots_38 : decode cX0_snapshots 38 = .ok (.iconst 1, 1) := dk_4 (dk_at dksX0_snapshots_1 15 rfl rfl)
theorem dX0_snapshots_39 : decode cX0_snapshots 39 = .ok (.iadd, 1) := dk_96 (dk_at dksX0_snapshots_1 16 rfl rfl)
theorem dX0_snapshots_40 : decode cX0_snapshots 40 = .ok (.istore_n 1, 1) := dk_60 (dk_at dksX0_snapshots_1 17 rfl rfl)
theorem dX0_snapshots_41 : decode cX0_snapshots 41 = .ok (.iinc 4 1, 3) := dk_132 4 1 (dk_at dksX0_snapshots_1 18 rfl rfl)
theorem dX0_snapshots_44 : decode cX0_snapshots 44 = .ok (.goto (-28), 3) := dk_167 255 228 (dk_at dksX0_snapshots_1 21 rfl rfl)
theorem dX0_snapshots_47 : decode cX0_snapshots 47 = .ok (.iload_n 1, 1) := dk_27 (dk_at dksX0_snapshots_2 0 rfl rfl)
theorem dX0_snapshots_48 : decode cX0_snapshots 48 = .ok (.ireturn, 1) := dk_172 (dk_at dksX0_snapshots_2 1 rfl rfl)
abbrev cX0_cell : ByteArray := prog_1_method_47_code
def yX0_cell : MethodName := ⟨RX0, "cell", "(II)I"⟩
def dkwX0_cell_5 : List UInt8 := [167, 0, 5, 16, 157, 172, 42, 27, 182, 1, 87, 172, 2, 172]
abbrev dktX0_cell_5 : List UInt8 := dkwX0_cell_5 ++ []
def dkwX0_cell_4 : List UInt8 := [182, 1, 2, 27, 182, 0, 242, 4, 160, 0, 18, 42, 182, 1, 2, 180, 1, 81, 27, 46, 184, 1, 84]
abbrev dktX0_cell_4 : List UInt8 := dkwX0_cell_4 ++ dktX0_cell_5
def dkwX0_cell_3 : List UInt8 := [180, 1, 77, 27, 51, 153, 0, 7, 4, 167, 0, 4, 3, 172, 42, 182, 1, 2, 27, 182, 0, 242, 172, 42]
abbrev dktX0_cell_3 : List UInt8 := dkwX0_cell_3 ++ dktX0_cell_4
def dkwX0_cell_2 : List UInt8 := [42, 182, 0, 122, 180, 0, 112, 27, 46, 172, 42, 182, 0, 122, 180, 0, 157, 27, 46, 172, 42, 182, 0, 122]
abbrev dktX0_cell_2 : List UInt8 := dkwX0_cell_2 ++ dktX0_cell_3
def dkwX0_cell_1 : List UInt8 := [170, 0, 0, 0, 0, 121, 0, 0, 0, 0, 0, 0, 0, 5, 0, 0, 0, 38, 0, 0, 0, 48, 0, 0, 0, 58, 0, 0, 0, 76, 0, 0, 0, 85, 0, 0, 0, 115]
abbrev dktX0_cell_1 : List UInt8 := dkwX0_cell_1 ++ dktX0_cell_2
def dkwX0_cell_0 : List UInt8 := [42, 182, 0, 122, 27, 182, 0, 125, 154, 0, 5, 2, 172, 28]
abbrev dktX0_cell_0 : List UInt8 := dkwX0_cell_0 ++ dktX0_cell_1
theorem dksX0_cell_0 : cX0_cell.data.toList.drop 0 = dktX0_cell_0 := by decide +kernel
theorem dksX0_cell_1 : cX0_cell.data.toList.drop 14 = dktX0_cell_1 := dk_seg dksX0_cell_0 14 rfl rfl
theorem dksX0_cell_2 : cX0_cell.data.toList.drop 52 = dktX0_cell_2 := dk_seg dksX0_cell_1 38 rfl rfl
theorem dksX0_cell_3 : cX0_cell.data.toList.drop 76 = dktX0_cell_3 := dk_seg dksX0_cell_2 24 rfl rfl
theorem dksX0_cell_4 : cX0_cell.data.toList.drop 100 = dktX0_cell_4 := dk_seg dksX0_cell_3 24 rfl rfl
theorem dksX0_cell_5 : cX0_cell.data.toList.drop 123 = dktX0_cell_5 := dk_seg dksX0_cell_4 23 rfl rfl
theorem dX0_cell_0 : decode cX0_cell 0 = .ok (.aload_n 0, 1) := dk_42 (dk_at dksX0_cell_0 0 rfl rfl)
theorem dX0_cell_1 : decode cX0_cell 1 = .ok (.invokevirtual 122, 3) := dk_182 0 122 (dk_at dksX0_cell_0 1 rfl rfl)
theorem dX0_cell_4 : decode cX0_cell 4 = .ok (.iload_n 1, 1) := dk_27 (dk_at dksX0_cell_0 4 rfl rfl)
theorem dX0_cell_5 : decode cX0_cell 5 = .ok (.invokevirtual 125, 3) := dk_182 0 125 (dk_at dksX0_cell_0 5 rfl rfl)
theorem dX0_cell_8 : decode cX0_cell 8 = .ok (.ifCond .ne 5, 3) := dk_154 0 5 (dk_at dksX0_cell_0 8 rfl rfl)
theorem dX0_cell_11 : decode cX0_cell 11 = .ok (.iconst (-1), 1) := dk_2 (dk_at dksX0_cell_0 11 rfl rfl)
theorem dX0_cell_12 : decode cX0_cell 12 = .ok (.ireturn, 1) := dk_172 (dk_at dksX0_cell_0 12 rfl rfl)
theorem dX0_cell_13 : decode cX0_cell 13 = .ok (.iload_n 2, 1) := dk_28 (dk_at dksX0_cell_0 13 rfl rfl)
theorem dX0_cell_14 : decode cX0_cell 14 = .ok (.tableswitch 121 0 5 #[38, 48, 58, 76, 85, 115], 38) := by decide +kernel
theorem dX0_cell_52 : decode cX0_cell 52 = .ok (.aload_n 0, 1) := dk_42 (dk_at dksX0_cell_2 0 rfl rfl)
theorem dX0_cell_53 : decode cX0_cell 53 = .ok (.invokevirtual 122, 3) := dk_182 0 122 (dk_at dksX0_cell_2 1 rfl rfl)
theorem dX0_cell_56 : decode cX0_cell 56 = .ok (.getfield 112, 3) := dk_180 0 112 (dk_at dksX0_cell_2 4 rfl rfl)
theorem dX0_cell_59 : decode cX0_cell 59 = .ok (.iload_n 1, 1) := dk_27 (dk_at dksX0_cell_2 7 rfl rfl)
theorem dX0_cell_60 : decode cX0_cell 60 = .ok (.iaload, 1) := dk_46 (dk_at dksX0_cell_2 8 rfl rfl)
theorem dX0_cell_61 : decode cX0_cell 61 = .ok (.ireturn, 1) := dk_172 (dk_at dksX0_cell_2 9 rfl rfl)
theorem dX0_cell_62 : decode cX0_cell 62 = .ok (.aload_n 0, 1) := dk_42 (dk_at dksX0_cell_2 10 rfl rfl)
theorem dX0_cell_63 : decode cX0_cell 63 = .ok (.invokevirtual 122, 3) := dk_182 0 122 (dk_at dksX0_cell_2 11 rfl rfl)
theorem dX0_cell_66 : decode cX0_cell 66 = .ok (.getfield 157, 3) := dk_180 0 157 (dk_at dksX0_cell_2 14 rfl rfl)
theorem dX0_cell_69 : decode cX0_cell 69 = .ok (.iload_n 1, 1) := dk_27 (dk_at dksX0_cell_2 17 rfl rfl)
theorem dX0_cell_70 : decode cX0_cell 70 = .ok (.iaload, 1) := dk_46 (dk_at dksX0_cell_2 18 rfl rfl)
theorem dX0_cell_71 : decode cX0_cell 71 = .ok (.ireturn, 1) := dk_172 (dk_at dksX0_cell_2 19 rfl rfl)
theorem dX0_cell_72 : decode cX0_cell 72 = .ok (.aload_n 0, 1) := dk_42 (dk_at dksX0_cell_2 20 rfl rfl)
theorem dX0_cell_73 : decode cX0_cell 73 = .ok (.invokevirtual 122, 3) := dk_182 0 122 (dk_at dksX0_cell_2 21 rfl rfl)
theorem dX0_cell_76 : decode cX0_cell 76 = .ok (.getfield 333, 3) := dk_180 1 77 (dk_at dksX0_cell_3 0 rfl rfl)
theorem dX0_cell_79 : decode cX0_cell 79 = .ok (.iload_n 1, 1) := dk_27 (dk_at dksX0_cell_3 3 rfl rfl)
theorem dX0_cell_80 : decode cX0_cell 80 = .ok (.baload, 1) := dk_51 (dk_at dksX0_cell_3 4 rfl rfl)
theorem dX0_cell_81 : decode cX0_cell 81 = .ok (.ifCond .eq 7, 3) := dk_153 0 7 (dk_at dksX0_cell_3 5 rfl rfl)
theorem dX0_cell_84 : decode cX0_cell 84 = .ok (.iconst 1, 1) := dk_4 (dk_at dksX0_cell_3 8 rfl rfl)
theorem dX0_cell_85 : decode cX0_cell 85 = .ok (.goto 4, 3) := dk_167 0 4 (dk_at dksX0_cell_3 9 rfl rfl)
theorem dX0_cell_88 : decode cX0_cell 88 = .ok (.iconst 0, 1) := dk_3 (dk_at dksX0_cell_3 12 rfl rfl)
theorem dX0_cell_89 : decode cX0_cell 89 = .ok (.ireturn, 1) := dk_172 (dk_at dksX0_cell_3 13 rfl rfl)
theorem dX0_cell_90 : decode cX0_cell 90 = .ok (.aload_n 0, 1) := dk_42 (dk_at dksX0_cell_3 14 rfl rfl)
theorem dX0_cell_91 : decode cX0_cell 91 = .ok (.invokevirtual 258, 3) := dk_182 1 2 (dk_at dksX0_cell_3 15 rfl rfl)
theorem dX0_cell_94 : decode cX0_cell 94 = .ok (.iload_n 1, 1) := dk_27 (dk_at dksX0_cell_3 18 rfl rfl)
theorem dX0_cell_95 : decode cX0_cell 95 = .ok (.invokevirtual 242, 3) := dk_182 0 242 (dk_at dksX0_cell_3 19 rfl rfl)
theorem dX0_cell_98 : decode cX0_cell 98 = .ok (.ireturn, 1) := dk_172 (dk_at dksX0_cell_3 22 rfl rfl)
theorem dX0_cell_99 : decode cX0_cell 99 = .ok (.aload_n 0, 1) := dk_42 (dk_at dksX0_cell_3 23 rfl rfl)
theorem dX0_cell_100 : decode cX0_cell 100 = .ok (.invokevirtual 258, 3) := dk_182 1 2 (dk_at dksX0_cell_4 0 rfl rfl)
theorem dX0_cell_103 : decode cX0_cell 103 = .ok (.iload_n 1, 1) := dk_27 (dk_at dksX0_cell_4 3 rfl rfl)
theorem dX0_cell_104 : decode cX0_cell 104 = .ok (.invokevirtual 242, 3) := dk_182 0 242 (dk_at dksX0_cell_4 4 rfl rfl)
theorem dX0_cell_107 : decode cX0_cell 107 = .ok (.iconst 1, 1) := dk_4 (dk_at dksX0_cell_4 7 rfl rfl)
theorem dX0_cell_108 : decode cX0_cell 108 = .ok (.if_icmp .ne 18, 3) := dk_160 0 18 (dk_at dksX0_cell_4 8 rfl rfl)
theorem dX0_cell_111 : decode cX0_cell 111 = .ok (.aload_n 0, 1) := dk_42 (dk_at dksX0_cell_4 11 rfl rfl)
theorem dX0_cell_112 : decode cX0_cell 112 = .ok (.invokevirtual 258, 3) := dk_182 1 2 (dk_at dksX0_cell_4 12 rfl rfl)
theorem dX0_cell_115 : decode cX0_cell 115 = .ok (.getfield 337, 3) := dk_180 1 81 (dk_at dksX0_cell_4 15 rfl rfl)
theorem dX0_cell_118 : decode cX0_cell 118 = .ok (.iload_n 1, 1) := dk_27 (dk_at dksX0_cell_4 18 rfl rfl)
theorem dX0_cell_119 : decode cX0_cell 119 = .ok (.iaload, 1) := dk_46 (dk_at dksX0_cell_4 19 rfl rfl)
theorem dX0_cell_120 : decode cX0_cell 120 = .ok (.invokestatic 340, 3) := dk_184 1 84 (dk_at dksX0_cell_4 20 rfl rfl)
theorem dX0_cell_123 : decode cX0_cell 123 = .ok (.goto 5, 3) := dk_167 0 5 (dk_at dksX0_cell_5 0 rfl rfl)
theorem dX0_cell_126 : decode cX0_cell 126 = .ok (.bipush (-99), 2) := dk_16 157 (dk_at dksX0_cell_5 3 rfl rfl)
theorem dX0_cell_128 : decode cX0_cell 128 = .ok (.ireturn, 1) := dk_172 (dk_at dksX0_cell_5 5 rfl rfl)
theorem dX0_cell_129 : decode cX0_cell 129 = .ok (.aload_n 0, 1) := dk_42 (dk_at dksX0_cell_5 6 rfl rfl)
theorem dX0_cell_130 : decode cX0_cell 130 = .ok (.iload_n 1, 1) := dk_27 (dk_at dksX0_cell_5 7 rfl rfl)
theorem dX0_cell_131 : decode cX0_cell 131 = .ok (.invokevirtual 343, 3) := dk_182 1 87 (dk_at dksX0_cell_5 8 rfl rfl)
theorem dX0_cell_134 : decode cX0_cell 134 = .ok (.ireturn, 1) := dk_172 (dk_at dksX0_cell_5 11 rfl rfl)
theorem dX0_cell_135 : decode cX0_cell 135 = .ok (.iconst (-1), 1) := dk_2 (dk_at dksX0_cell_5 12 rfl rfl)
theorem dX0_cell_136 : decode cX0_cell 136 = .ok (.ireturn, 1) := dk_172 (dk_at dksX0_cell_5 13 rfl rfl)
abbrev cX0_strangers : ByteArray := prog_1_method_46_code
def yX0_strangers : MethodName := ⟨RX0, "strangers", "(I)I"⟩
def dkwX0_strangers_2 : List UInt8 := [159, 0, 7, 4, 167, 0, 4, 3, 96, 61, 132, 3, 1, 167, 255, 201, 28, 172]
abbrev dktX0_strangers_2 : List UInt8 := dkwX0_strangers_2 ++ []
def dkwX0_strangers_1 : List UInt8 := [182, 0, 128, 153, 0, 28, 42, 182, 0, 122, 180, 0, 112, 27, 46, 42, 182, 0, 122, 180, 0, 112, 29, 46]
abbrev dktX0_strangers_1 : List UInt8 := dkwX0_strangers_1 ++ dktX0_strangers_2
def dkwX0_strangers_0 : List UInt8 := [3, 61, 3, 62, 29, 42, 182, 0, 122, 182, 0, 166, 162, 0, 50, 28, 42, 182, 0, 122, 27, 29]
abbrev dktX0_strangers_0 : List UInt8 := dkwX0_strangers_0 ++ dktX0_strangers_1
theorem dksX0_strangers_0 : cX0_strangers.data.toList.drop 0 = dktX0_strangers_0 := by decide +kernel
theorem dksX0_strangers_1 : cX0_strangers.data.toList.drop 22 = dktX0_strangers_1 := dk_seg dksX0_strangers_0 22 rfl rfl
theorem dksX0_strangers_2 : cX0_strangers.data.toList.drop 46 = dktX0_strangers_2 := dk_seg dksX0_strangers_1 24 rfl rfl
theorem dX0_strangers_0 : decode cX0_strangers 0 = .ok (.iconst 0, 1) := dk_3 (dk_at dksX0_strangers_0 0 rfl rfl)
theorem dX0_strangers_1 : decode cX0_strangers 1 = .ok (.istore_n 2, 1) := dk_61 (dk_at dksX0_strangers_0 1 rfl rfl)
theorem dX0_strangers_2 : decode cX0_strangers 2 = .ok (.iconst 0, 1) := dk_3 (dk_at dksX0_strangers_0 2 rfl rfl)
theorem dX0_strangers_3 : decode cX0_strangers 3 = .ok (.istore_n 3, 1) := dk_62 (dk_at dksX0_strangers_0 3 rfl rfl)
theorem dX0_strangers_4 : decode cX0_strangers 4 = .ok (.iload_n 3, 1) := dk_29 (dk_at dksX0_strangers_0 4 rfl rfl)
theorem dX0_strangers_5 : decode cX0_strangers 5 = .ok (.aload_n 0, 1) := dk_42 (dk_at dksX0_strangers_0 5 rfl rfl)
theorem dX0_strangers_6 : decode cX0_strangers 6 = .ok (.invokevirtual 122, 3) := dk_182 0 122 (dk_at dksX0_strangers_0 6 rfl rfl)
theorem dX0_strangers_9 : decode cX0_strangers 9 = .ok (.invokevirtual 166, 3) := dk_182 0 166 (dk_at dksX0_strangers_0 9 rfl rfl)
theorem dX0_strangers_12 : decode cX0_strangers 12 = .ok (.if_icmp .ge 50, 3) := dk_162 0 50 (dk_at dksX0_strangers_0 12 rfl rfl)
theorem dX0_strangers_15 : decode cX0_strangers 15 = .ok (.iload_n 2, 1) := dk_28 (dk_at dksX0_strangers_0 15 rfl rfl)
theorem dX0_strangers_16 : decode cX0_strangers 16 = .ok (.aload_n 0, 1) := dk_42 (dk_at dksX0_strangers_0 16 rfl rfl)
theorem dX0_strangers_17 : decode cX0_strangers 17 = .ok (.invokevirtual 122, 3) := dk_182 0 122 (dk_at dksX0_strangers_0 17 rfl rfl)
theorem dX0_strangers_20 : decode cX0_strangers 20 = .ok (.iload_n 1, 1) := dk_27 (dk_at dksX0_strangers_0 20 rfl rfl)
theorem dX0_strangers_21 : decode cX0_strangers 21 = .ok (.iload_n 3, 1) := dk_29 (dk_at dksX0_strangers_0 21 rfl rfl)
theorem dX0_strangers_22 : decode cX0_strangers 22 = .ok (.invokevirtual 128, 3) := dk_182 0 128 (dk_at dksX0_strangers_1 0 rfl rfl)
theorem dX0_strangers_25 : decode cX0_strangers 25 = .ok (.ifCond .eq 28, 3) := dk_153 0 28 (dk_at dksX0_strangers_1 3 rfl rfl)
theorem dX0_strangers_28 : decode cX0_strangers 28 = .ok (.aload_n 0, 1) := dk_42 (dk_at dksX0_strangers_1 6 rfl rfl)
theorem dX0_strangers_29 : decode cX0_strangers 29 = .ok (.invokevirtual 122, 3) := dk_182 0 122 (dk_at dksX0_strangers_1 7 rfl rfl)
theorem dX0_strangers_32 : decode cX0_strangers 32 = .ok (.getfield 112, 3) := dk_180 0 112 (dk_at dksX0_strangers_1 10 rfl rfl)
theorem dX0_strangers_35 : decode cX0_strangers 35 = .ok (.iload_n 1, 1) := dk_27 (dk_at dksX0_strangers_1 13 rfl rfl)
theorem dX0_strangers_36 : decode cX0_strangers 36 = .ok (.iaload, 1) := dk_46 (dk_at dksX0_strangers_1 14 rfl rfl)
theorem dX0_strangers_37 : decode cX0_strangers 37 = .ok (.aload_n 0, 1) := dk_42 (dk_at dksX0_strangers_1 15 rfl rfl)
theorem dX0_strangers_38 : decode cX0_strangers 38 = .ok (.invokevirtual 122, 3) := dk_182 0 122 (dk_at dksX0_strangers_1 16 rfl rfl)
theorem dX0_strangers_41 : decode cX0_strangers 41 = .ok (.getfield 112, 3) := dk_180 0 112 (dk_at dksX0_strangers_1 19 rfl rfl)
theorem dX0_strangers_44 : decode cX0_strangers 44 = .ok (.iload_n 3, 1) := dk_29 (dk_at dksX0_strangers_1 22 rfl rfl)
theorem dX0_strangers_45 : decode cX0_strangers 45 = .ok (.iaload, 1) := dk_46 (dk_at dksX0_strangers_1 23 rfl rfl)
theorem dX0_strangers_46 : decode cX0_strangers 46 = .ok (.if_icmp .eq 7, 3) := dk_159 0 7 (dk_at dksX0_strangers_2 0 rfl rfl)
theorem dX0_strangers_49 : decode cX0_strangers 49 = .ok (.iconst 1, 1) := dk_4 (dk_at dksX0_strangers_2 3 rfl rfl)
theorem dX0_strangers_50 : decode cX0_strangers 50 = .ok (.goto 4, 3) := dk_167 0 4 (dk_at dksX0_strangers_2 4 rfl rfl)
theorem dX0_strangers_53 : decode cX0_strangers 53 = .ok (.iconst 0, 1) := dk_3 (dk_at dksX0_strangers_2 7 rfl rfl)
theorem dX0_strangers_54 : decode cX0_strangers 54 = .ok (.iadd, 1) := dk_96 (dk_at dksX0_strangers_2 8 rfl rfl)
theorem dX0_strangers_55 : decode cX0_strangers 55 = .ok (.istore_n 2, 1) := dk_61 (dk_at dksX0_strangers_2 9 rfl rfl)
theorem dX0_strangers_56 : decode cX0_strangers 56 = .ok (.iinc 3 1, 3) := dk_132 3 1 (dk_at dksX0_strangers_2 10 rfl rfl)
theorem dX0_strangers_59 : decode cX0_strangers 59 = .ok (.goto (-55), 3) := dk_167 255 201 (dk_at dksX0_strangers_2 13 rfl rfl)
theorem dX0_strangers_62 : decode cX0_strangers 62 = .ok (.iload_n 2, 1) := dk_28 (dk_at dksX0_strangers_2 16 rfl rfl)
theorem dX0_strangers_63 : decode cX0_strangers 63 = .ok (.ireturn, 1) := dk_172 (dk_at dksX0_strangers_2 17 rfl rfl)
abbrev cX0_line : ByteArray := prog_1_method_48_code
def yX0_line : MethodName := ⟨RX0, "line", "(II)I"⟩
def dkwX0_line_5 : List UInt8 := [16, 157, 167, 0, 7, 29, 184, 1, 102, 172, 29, 184, 0, 252, 172, 2, 172]
abbrev dktX0_line_5 : List UInt8 := dkwX0_line_5 ++ []
def dkwX0_line_4 : List UInt8 := [167, 0, 4, 3, 172, 29, 154, 0, 8, 16, 157, 167, 0, 7, 29, 184, 1, 84, 172, 29, 154, 0, 8]
abbrev dktX0_line_4 : List UInt8 := dkwX0_line_4 ++ dktX0_line_5
def dkwX0_line_3 : List UInt8 := [42, 182, 0, 122, 27, 182, 1, 96, 172, 42, 182, 0, 122, 180, 1, 99, 27, 51, 153, 0, 7, 4]
abbrev dktX0_line_3 : List UInt8 := dkwX0_line_3 ++ dktX0_line_4
def dkwX0_line_2 : List UInt8 := [170, 0, 0, 0, 0, 0, 95, 0, 0, 0, 0, 0, 0, 0, 4, 0, 0, 0, 35, 0, 0, 0, 44, 0, 0, 0, 62, 0, 0, 0, 76, 0, 0, 0, 90]
abbrev dktX0_line_2 : List UInt8 := dkwX0_line_2 ++ dktX0_line_3
def dkwX0_line_1 : List UInt8 := [28]
abbrev dktX0_line_1 : List UInt8 := dkwX0_line_1 ++ dktX0_line_2
def dkwX0_line_0 : List UInt8 := [42, 182, 0, 122, 27, 182, 1, 90, 154, 0, 5, 2, 172, 42, 182, 1, 2, 27, 16, 157, 182, 1, 93, 62]
abbrev dktX0_line_0 : List UInt8 := dkwX0_line_0 ++ dktX0_line_1
theorem dksX0_line_0 : cX0_line.data.toList.drop 0 = dktX0_line_0 := by decide +kernel
theorem dksX0_line_1 : cX0_line.data.toList.drop 24 = dktX0_line_1 := dk_seg dksX0_line_0 24 rfl rfl
theorem dksX0_line_2 : cX0_line.data.toList.drop 25 = dktX0_line_2 := dk_seg dksX0_line_1 1 rfl rfl
theorem dksX0_line_3 : cX0_line.data.toList.drop 60 = dktX0_line_3 := dk_seg dksX0_line_2 35 rfl rfl
theorem dksX0_line_4 : cX0_line.data.toList.drop 82 = dktX0_line_4 := dk_seg dksX0_line_3 22 rfl rfl
theorem dksX0_line_5 : cX0_line.data.toList.drop 105 = dktX0_line_5 := dk_seg dksX0_line_4 23 rfl rfl
theorem dX0_line_0 : decode cX0_line 0 = .ok (.aload_n 0, 1) := dk_42 (dk_at dksX0_line_0 0 rfl rfl)
theorem dX0_line_1 : decode cX0_line 1 = .ok (.invokevirtual 122, 3) := dk_182 0 122 (dk_at dksX0_line_0 1 rfl rfl)
theorem dX0_line_4 : decode cX0_line 4 = .ok (.iload_n 1, 1) := dk_27 (dk_at dksX0_line_0 4 rfl rfl)
theorem dX0_line_5 : decode cX0_line 5 = .ok (.invokevirtual 346, 3) := dk_182 1 90 (dk_at dksX0_line_0 5 rfl rfl)
theorem dX0_line_8 : decode cX0_line 8 = .ok (.ifCond .ne 5, 3) := dk_154 0 5 (dk_at dksX0_line_0 8 rfl rfl)
theorem dX0_line_11 : decode cX0_line 11 = .ok (.iconst (-1), 1) := dk_2 (dk_at dksX0_line_0 11 rfl rfl)
theorem dX0_line_12 : decode cX0_line 12 = .ok (.ireturn, 1) := dk_172 (dk_at dksX0_line_0 12 rfl rfl)
theorem dX0_line_13 : decode cX0_line 13 = .ok (.aload_n 0, 1) := dk_42 (dk_at dksX0_line_0 13 rfl rfl)
theorem dX0_line_14 : decode cX0_line 14 = .ok (.invokevirtual 258, 3) := dk_182 1 2 (dk_at dksX0_line_0 14 rfl rfl)
theorem dX0_line_17 : decode cX0_line 17 = .ok (.iload_n 1, 1) := dk_27 (dk_at dksX0_line_0 17 rfl rfl)
theorem dX0_line_18 : decode cX0_line 18 = .ok (.bipush (-99), 2) := dk_16 157 (dk_at dksX0_line_0 18 rfl rfl)
theorem dX0_line_20 : decode cX0_line 20 = .ok (.invokevirtual 349, 3) := dk_182 1 93 (dk_at dksX0_line_0 20 rfl rfl)
theorem dX0_line_23 : decode cX0_line 23 = .ok (.istore_n 3, 1) := dk_62 (dk_at dksX0_line_0 23 rfl rfl)
theorem dX0_line_24 : decode cX0_line 24 = .ok (.iload_n 2, 1) := dk_28 (dk_at dksX0_line_1 0 rfl rfl)
theorem dX0_line_25 : decode cX0_line 25 = .ok (.tableswitch 95 0 4 #[35, 44, 62, 76, 90], 35) := by decide +kernel
theorem dX0_line_60 : decode cX0_line 60 = .ok (.aload_n 0, 1) := dk_42 (dk_at dksX0_line_3 0 rfl rfl)
theorem dX0_line_61 : decode cX0_line 61 = .ok (.invokevirtual 122, 3) := dk_182 0 122 (dk_at dksX0_line_3 1 rfl rfl)
theorem dX0_line_64 : decode cX0_line 64 = .ok (.iload_n 1, 1) := dk_27 (dk_at dksX0_line_3 4 rfl rfl)
theorem dX0_line_65 : decode cX0_line 65 = .ok (.invokevirtual 352, 3) := dk_182 1 96 (dk_at dksX0_line_3 5 rfl rfl)
theorem dX0_line_68 : decode cX0_line 68 = .ok (.ireturn, 1) := dk_172 (dk_at dksX0_line_3 8 rfl rfl)
theorem dX0_line_69 : decode cX0_line 69 = .ok (.aload_n 0, 1) := dk_42 (dk_at dksX0_line_3 9 rfl rfl)
theorem dX0_line_70 : decode cX0_line 70 = .ok (.invokevirtual 122, 3) := dk_182 0 122 (dk_at dksX0_line_3 10 rfl rfl)
theorem dX0_line_73 : decode cX0_line 73 = .ok (.getfield 355, 3) := dk_180 1 99 (dk_at dksX0_line_3 13 rfl rfl)
theorem dX0_line_76 : decode cX0_line 76 = .ok (.iload_n 1, 1) := dk_27 (dk_at dksX0_line_3 16 rfl rfl)
theorem dX0_line_77 : decode cX0_line 77 = .ok (.baload, 1) := dk_51 (dk_at dksX0_line_3 17 rfl rfl)
theorem dX0_line_78 : decode cX0_line 78 = .ok (.ifCond .eq 7, 3) := dk_153 0 7 (dk_at dksX0_line_3 18 rfl rfl)
theorem dX0_line_81 : decode cX0_line 81 = .ok (.iconst 1, 1) := dk_4 (dk_at dksX0_line_3 21 rfl rfl)
theorem dX0_line_82 : decode cX0_line 82 = .ok (.goto 4, 3) := dk_167 0 4 (dk_at dksX0_line_4 0 rfl rfl)
theorem dX0_line_85 : decode cX0_line 85 = .ok (.iconst 0, 1) := dk_3 (dk_at dksX0_line_4 3 rfl rfl)
theorem dX0_line_86 : decode cX0_line 86 = .ok (.ireturn, 1) := dk_172 (dk_at dksX0_line_4 4 rfl rfl)
theorem dX0_line_87 : decode cX0_line 87 = .ok (.iload_n 3, 1) := dk_29 (dk_at dksX0_line_4 5 rfl rfl)
theorem dX0_line_88 : decode cX0_line 88 = .ok (.ifCond .ne 8, 3) := dk_154 0 8 (dk_at dksX0_line_4 6 rfl rfl)
theorem dX0_line_91 : decode cX0_line 91 = .ok (.bipush (-99), 2) := dk_16 157 (dk_at dksX0_line_4 9 rfl rfl)
theorem dX0_line_93 : decode cX0_line 93 = .ok (.goto 7, 3) := dk_167 0 7 (dk_at dksX0_line_4 11 rfl rfl)
theorem dX0_line_96 : decode cX0_line 96 = .ok (.iload_n 3, 1) := dk_29 (dk_at dksX0_line_4 14 rfl rfl)
theorem dX0_line_97 : decode cX0_line 97 = .ok (.invokestatic 340, 3) := dk_184 1 84 (dk_at dksX0_line_4 15 rfl rfl)
theorem dX0_line_100 : decode cX0_line 100 = .ok (.ireturn, 1) := dk_172 (dk_at dksX0_line_4 18 rfl rfl)
theorem dX0_line_101 : decode cX0_line 101 = .ok (.iload_n 3, 1) := dk_29 (dk_at dksX0_line_4 19 rfl rfl)
theorem dX0_line_102 : decode cX0_line 102 = .ok (.ifCond .ne 8, 3) := dk_154 0 8 (dk_at dksX0_line_4 20 rfl rfl)
theorem dX0_line_105 : decode cX0_line 105 = .ok (.bipush (-99), 2) := dk_16 157 (dk_at dksX0_line_5 0 rfl rfl)
theorem dX0_line_107 : decode cX0_line 107 = .ok (.goto 7, 3) := dk_167 0 7 (dk_at dksX0_line_5 2 rfl rfl)
theorem dX0_line_110 : decode cX0_line 110 = .ok (.iload_n 3, 1) := dk_29 (dk_at dksX0_line_5 5 rfl rfl)
theorem dX0_line_111 : decode cX0_line 111 = .ok (.invokestatic 358, 3) := dk_184 1 102 (dk_at dksX0_line_5 6 rfl rfl)
theorem dX0_line_114 : decode cX0_line 114 = .ok (.ireturn, 1) := dk_172 (dk_at dksX0_line_5 9 rfl rfl)
theorem dX0_line_115 : decode cX0_line 115 = .ok (.iload_n 3, 1) := dk_29 (dk_at dksX0_line_5 10 rfl rfl)
theorem dX0_line_116 : decode cX0_line 116 = .ok (.invokestatic 252, 3) := dk_184 0 252 (dk_at dksX0_line_5 11 rfl rfl)
theorem dX0_line_119 : decode cX0_line 119 = .ok (.ireturn, 1) := dk_172 (dk_at dksX0_line_5 14 rfl rfl)
theorem dX0_line_120 : decode cX0_line 120 = .ok (.iconst (-1), 1) := dk_2 (dk_at dksX0_line_5 15 rfl rfl)
theorem dX0_line_121 : decode cX0_line 121 = .ok (.ireturn, 1) := dk_172 (dk_at dksX0_line_5 16 rfl rfl)
abbrev cX0_block : ByteArray := prog_1_method_50_code
def yX0_block : MethodName := ⟨RX0, "block", "(II)I"⟩
def dkwX0_block_8 : List UInt8 := [182, 1, 109, 184, 0, 252, 172]
abbrev dktX0_block_8 : List UInt8 := dkwX0_block_8 ++ []
def dkwX0_block_7 : List UInt8 := [45, 190, 167, 0, 27, 45, 3, 46, 167, 0, 21, 21, 4, 167, 0, 16, 21, 5, 167, 0, 11, 42, 27]
abbrev dktX0_block_7 : List UInt8 := dkwX0_block_7 ++ dktX0_block_8
def dkwX0_block_6 : List UInt8 := [170, 0, 0, 0, 0, 51, 0, 0, 0, 0, 0, 0, 0, 3, 0, 0, 0, 30, 0, 0, 0, 35, 0, 0, 0, 41, 0, 0, 0, 46]
abbrev dktX0_block_6 : List UInt8 := dkwX0_block_6 ++ dktX0_block_7
def dkwX0_block_5 : List UInt8 := [167, 255, 193, 28]
abbrev dktX0_block_5 : List UInt8 := dkwX0_block_5 ++ dktX0_block_6
def dkwX0_block_4 : List UInt8 := [182, 1, 2, 21, 9, 182, 0, 242, 4, 160, 0, 7, 4, 167, 0, 4, 3, 96, 54, 5, 132, 8, 1]
abbrev dktX0_block_4 : List UInt8 := dkwX0_block_4 ++ dktX0_block_5
def dkwX0_block_3 : List UInt8 := [42, 182, 0, 122, 180, 1, 77, 21, 9, 51, 153, 0, 7, 4, 167, 0, 4, 3, 96, 54, 4, 21, 5, 42]
abbrev dktX0_block_3 : List UInt8 := dkwX0_block_3 ++ dktX0_block_4
def dkwX0_block_2 : List UInt8 := [25, 6, 190, 54, 7, 3, 54, 8, 21, 8, 21, 7, 162, 0, 62, 25, 6, 21, 8, 46, 54, 9, 21, 4]
abbrev dktX0_block_2 : List UInt8 := dkwX0_block_2 ++ dktX0_block_3
def dkwX0_block_1 : List UInt8 := [154, 0, 5, 2, 172, 42, 182, 0, 122, 180, 1, 105, 27, 50, 78, 3, 54, 4, 3, 54, 5, 45, 58, 6]
abbrev dktX0_block_1 : List UInt8 := dkwX0_block_1 ++ dktX0_block_2
def dkwX0_block_0 : List UInt8 := [27, 3, 42, 182, 0, 122, 182, 0, 97, 4, 100, 184, 0, 90, 153, 0, 12, 28, 3, 7, 184, 0, 90]
abbrev dktX0_block_0 : List UInt8 := dkwX0_block_0 ++ dktX0_block_1
theorem dksX0_block_0 : cX0_block.data.toList.drop 0 = dktX0_block_0 := by decide +kernel
theorem dksX0_block_1 : cX0_block.data.toList.drop 23 = dktX0_block_1 := dk_seg dksX0_block_0 23 rfl rfl
theorem dksX0_block_2 : cX0_block.data.toList.drop 47 = dktX0_block_2 := dk_seg dksX0_block_1 24 rfl rfl
theorem dksX0_block_3 : cX0_block.data.toList.drop 71 = dktX0_block_3 := dk_seg dksX0_block_2 24 rfl rfl
theorem dksX0_block_4 : cX0_block.data.toList.drop 95 = dktX0_block_4 := dk_seg dksX0_block_3 24 rfl rfl
theorem dksX0_block_5 : cX0_block.data.toList.drop 118 = dktX0_block_5 := dk_seg dksX0_block_4 23 rfl rfl
theorem dksX0_block_6 : cX0_block.data.toList.drop 122 = dktX0_block_6 := dk_seg dksX0_block_5 4 rfl rfl
theorem dksX0_block_7 : cX0_block.data.toList.drop 152 = dktX0_block_7 := dk_seg dksX0_block_6 30 rfl rfl
theorem dksX0_block_8 : cX0_block.data.toList.drop 175 = dktX0_block_8 := dk_seg dksX0_block_7 23 rfl rfl
theorem dX0_block_0 : decode cX0_block 0 = .ok (.iload_n 1, 1) := dk_27 (dk_at dksX0_block_0 0 rfl rfl)
theorem dX0_block_1 : decode cX0_block 1 = .ok (.iconst 0, 1) := dk_3 (dk_at dksX0_block_0 1 rfl rfl)
theorem dX0_block_2 : decode cX0_block 2 = .ok (.aload_n 0, 1) := dk_42 (dk_at dksX0_block_0 2 rfl rfl)
theorem dX0_block_3 : decode cX0_block 3 = .ok (.invokevirtual 122, 3) := dk_182 0 122 (dk_at dksX0_block_0 3 rfl rfl)
theorem dX0_block_6 : decode cX0_block 6 = .ok (.invokevirtual 97, 3) := dk_182 0 97 (dk_at dksX0_block_0 6 rfl rfl)
theorem dX0_block_9 : decode cX0_block 9 = .ok (.iconst 1, 1) := dk_4 (dk_at dksX0_block_0 9 rfl rfl)
theorem dX0_block_10 : decode cX0_block 10 = .ok (.isub, 1) := dk_100 (dk_at dksX0_block_0 10 rfl rfl)
theorem dX0_block_11 : decode cX0_block 11 = .ok (.invokestatic 90, 3) := dk_184 0 90 (dk_at dksX0_block_0 11 rfl rfl)
theorem dX0_block_14 : decode cX0_block 14 = .ok (.ifCond .eq 12, 3) := dk_153 0 12 (dk_at dksX0_block_0 14 rfl rfl)
theorem dX0_block_17 : decode cX0_block 17 = .ok (.iload_n 2, 1) := dk_28 (dk_at dksX0_block_0 17 rfl rfl)
theorem dX0_block_18 : decode cX0_block 18 = .ok (.iconst 0, 1) := dk_3 (dk_at dksX0_block_0 18 rfl rfl)
theorem dX0_block_19 : decode cX0_block 19 = .ok (.iconst 4, 1) := dk_7 (dk_at dksX0_block_0 19 rfl rfl)
theorem dX0_block_20 : decode cX0_block 20 = .ok (.invokestatic 90, 3) := dk_184 0 90 (dk_at dksX0_block_0 20 rfl rfl)
theorem dX0_block_23 : decode cX0_block 23 = .ok (.ifCond .ne 5, 3) := dk_154 0 5 (dk_at dksX0_block_1 0 rfl rfl)
theorem dX0_block_26 : decode cX0_block 26 = .ok (.iconst (-1), 1) := dk_2 (dk_at dksX0_block_1 3 rfl rfl)
theorem dX0_block_27 : decode cX0_block 27 = .ok (.ireturn, 1) := dk_172 (dk_at dksX0_block_1 4 rfl rfl)
theorem dX0_block_28 : decode cX0_block 28 = .ok (.aload_n 0, 1) := dk_42 (dk_at dksX0_block_1 5 rfl rfl)
theorem dX0_block_29 : decode cX0_block 29 = .ok (.invokevirtual 122, 3) := dk_182 0 122 (dk_at dksX0_block_1 6 rfl rfl)
theorem dX0_block_32 : decode cX0_block 32 = .ok (.getfield 361, 3) := dk_180 1 105 (dk_at dksX0_block_1 9 rfl rfl)
theorem dX0_block_35 : decode cX0_block 35 = .ok (.iload_n 1, 1) := dk_27 (dk_at dksX0_block_1 12 rfl rfl)
theorem dX0_block_36 : decode cX0_block 36 = .ok (.aaload, 1) := dk_50 (dk_at dksX0_block_1 13 rfl rfl)
theorem dX0_block_37 : decode cX0_block 37 = .ok (.astore_n 3, 1) := dk_78 (dk_at dksX0_block_1 14 rfl rfl)
theorem dX0_block_38 : decode cX0_block 38 = .ok (.iconst 0, 1) := dk_3 (dk_at dksX0_block_1 15 rfl rfl)
theorem dX0_block_39 : decode cX0_block 39 = .ok (.istore 4, 2) := dk_54 4 (dk_at dksX0_block_1 16 rfl rfl)
theorem dX0_block_41 : decode cX0_block 41 = .ok (.iconst 0, 1) := dk_3 (dk_at dksX0_block_1 18 rfl rfl)
theorem dX0_block_42 : decode cX0_block 42 = .ok (.istore 5, 2) := dk_54 5 (dk_at dksX0_block_1 19 rfl rfl)
theorem dX0_block_44 : decode cX0_block 44 = .ok (.aload_n 3, 1) := dk_45 (dk_at dksX0_block_1 21 rfl rfl)
theorem dX0_block_45 : decode cX0_block 45 = .ok (.astore 6, 2) := dk_58 6 (dk_at dksX0_block_1 22 rfl rfl)
theorem dX0_block_47 : decode cX0_block 47 = .ok (.aload 6, 2) := dk_25 6 (dk_at dksX0_block_2 0 rfl rfl)
theorem dX0_block_49 : decode cX0_block 49 = .ok (.arraylength, 1) := dk_190 (dk_at dksX0_block_2 2 rfl rfl)
theorem dX0_block_50 : decode cX0_block 50 = .ok (.istore 7, 2) := dk_54 7 (dk_at dksX0_block_2 3 rfl rfl)
theorem dX0_block_52 : decode cX0_block 52 = .ok (.iconst 0, 1) := dk_3 (dk_at dksX0_block_2 5 rfl rfl)
theorem dX0_block_53 : decode cX0_block 53 = .ok (.istore 8, 2) := dk_54 8 (dk_at dksX0_block_2 6 rfl rfl)
theorem dX0_block_55 : decode cX0_block 55 = .ok (.iload 8, 2) := dk_21 8 (dk_at dksX0_block_2 8 rfl rfl)
theorem dX0_block_57 : decode cX0_block 57 = .ok (.iload 7, 2) := dk_21 7 (dk_at dksX0_block_2 10 rfl rfl)
theorem dX0_block_59 : decode cX0_block 59 = .ok (.if_icmp .ge 62, 3) := dk_162 0 62 (dk_at dksX0_block_2 12 rfl rfl)
theorem dX0_block_62 : decode cX0_block 62 = .ok (.aload 6, 2) := dk_25 6 (dk_at dksX0_block_2 15 rfl rfl)
theorem dX0_block_64 : decode cX0_block 64 = .ok (.iload 8, 2) := dk_21 8 (dk_at dksX0_block_2 17 rfl rfl)
theorem dX0_block_66 : decode cX0_block 66 = .ok (.iaload, 1) := dk_46 (dk_at dksX0_block_2 19 rfl rfl)
theorem dX0_block_67 : decode cX0_block 67 = .ok (.istore 9, 2) := dk_54 9 (dk_at dksX0_block_2 20 rfl rfl)
theorem dX0_block_69 : decode cX0_block 69 = .ok (.iload 4, 2) := dk_21 4 (dk_at dksX0_block_2 22 rfl rfl)
theorem dX0_block_71 : decode cX0_block 71 = .ok (.aload_n 0, 1) := dk_42 (dk_at dksX0_block_3 0 rfl rfl)
theorem dX0_block_72 : decode cX0_block 72 = .ok (.invokevirtual 122, 3) := dk_182 0 122 (dk_at dksX0_block_3 1 rfl rfl)
theorem dX0_block_75 : decode cX0_block 75 = .ok (.getfield 333, 3) := dk_180 1 77 (dk_at dksX0_block_3 4 rfl rfl)
theorem dX0_block_78 : decode cX0_block 78 = .ok (.iload 9, 2) := dk_21 9 (dk_at dksX0_block_3 7 rfl rfl)
theorem dX0_block_80 : decode cX0_block 80 = .ok (.baload, 1) := dk_51 (dk_at dksX0_block_3 9 rfl rfl)
theorem dX0_block_81 : decode cX0_block 81 = .ok (.ifCond .eq 7, 3) := dk_153 0 7 (dk_at dksX0_block_3 10 rfl rfl)
theorem dX0_block_84 : decode cX0_block 84 = .ok (.iconst 1, 1) := dk_4 (dk_at dksX0_block_3 13 rfl rfl)
theorem dX0_block_85 : decode cX0_block 85 = .ok (.goto 4, 3) := dk_167 0 4 (dk_at dksX0_block_3 14 rfl rfl)
theorem dX0_block_88 : decode cX0_block 88 = .ok (.iconst 0, 1) := dk_3 (dk_at dksX0_block_3 17 rfl rfl)
theorem dX0_block_89 : decode cX0_block 89 = .ok (.iadd, 1) := dk_96 (dk_at dksX0_block_3 18 rfl rfl)
theorem dX0_block_90 : decode cX0_block 90 = .ok (.istore 4, 2) := dk_54 4 (dk_at dksX0_block_3 19 rfl rfl)
theorem dX0_block_92 : decode cX0_block 92 = .ok (.iload 5, 2) := dk_21 5 (dk_at dksX0_block_3 21 rfl rfl)
theorem dX0_block_94 : decode cX0_block 94 = .ok (.aload_n 0, 1) := dk_42 (dk_at dksX0_block_3 23 rfl rfl)
theorem dX0_block_95 : decode cX0_block 95 = .ok (.invokevirtual 258, 3) := dk_182 1 2 (dk_at dksX0_block_4 0 rfl rfl)
theorem dX0_block_98 : decode cX0_block 98 = .ok (.iload 9, 2) := dk_21 9 (dk_at dksX0_block_4 3 rfl rfl)
theorem dX0_block_100 : decode cX0_block 100 = .ok (.invokevirtual 242, 3) := dk_182 0 242 (dk_at dksX0_block_4 5 rfl rfl)
theorem dX0_block_103 : decode cX0_block 103 = .ok (.iconst 1, 1) := dk_4 (dk_at dksX0_block_4 8 rfl rfl)
theorem dX0_block_104 : decode cX0_block 104 = .ok (.if_icmp .ne 7, 3) := dk_160 0 7 (dk_at dksX0_block_4 9 rfl rfl)
theorem dX0_block_107 : decode cX0_block 107 = .ok (.iconst 1, 1) := dk_4 (dk_at dksX0_block_4 12 rfl rfl)
theorem dX0_block_108 : decode cX0_block 108 = .ok (.goto 4, 3) := dk_167 0 4 (dk_at dksX0_block_4 13 rfl rfl)
theorem dX0_block_111 : decode cX0_block 111 = .ok (.iconst 0, 1) := dk_3 (dk_at dksX0_block_4 16 rfl rfl)
theorem dX0_block_112 : decode cX0_block 112 = .ok (.iadd, 1) := dk_96 (dk_at dksX0_block_4 17 rfl rfl)
theorem dX0_block_113 : decode cX0_block 113 = .ok (.istore 5, 2) := dk_54 5 (dk_at dksX0_block_4 18 rfl rfl)
theorem dX0_block_115 : decode cX0_block 115 = .ok (.iinc 8 1, 3) := dk_132 8 1 (dk_at dksX0_block_4 20 rfl rfl)
theorem dX0_block_118 : decode cX0_block 118 = .ok (.goto (-63), 3) := dk_167 255 193 (dk_at dksX0_block_5 0 rfl rfl)
theorem dX0_block_121 : decode cX0_block 121 = .ok (.iload_n 2, 1) := dk_28 (dk_at dksX0_block_5 3 rfl rfl)
theorem dX0_block_122 : decode cX0_block 122 = .ok (.tableswitch 51 0 3 #[30, 35, 41, 46], 30) := by decide +kernel
theorem dX0_block_152 : decode cX0_block 152 = .ok (.aload_n 3, 1) := dk_45 (dk_at dksX0_block_7 0 rfl rfl)
theorem dX0_block_153 : decode cX0_block 153 = .ok (.arraylength, 1) := dk_190 (dk_at dksX0_block_7 1 rfl rfl)
theorem dX0_block_154 : decode cX0_block 154 = .ok (.goto 27, 3) := dk_167 0 27 (dk_at dksX0_block_7 2 rfl rfl)
theorem dX0_block_157 : decode cX0_block 157 = .ok (.aload_n 3, 1) := dk_45 (dk_at dksX0_block_7 5 rfl rfl)
theorem dX0_block_158 : decode cX0_block 158 = .ok (.iconst 0, 1) := dk_3 (dk_at dksX0_block_7 6 rfl rfl)
theorem dX0_block_159 : decode cX0_block 159 = .ok (.iaload, 1) := dk_46 (dk_at dksX0_block_7 7 rfl rfl)
theorem dX0_block_160 : decode cX0_block 160 = .ok (.goto 21, 3) := dk_167 0 21 (dk_at dksX0_block_7 8 rfl rfl)
theorem dX0_block_163 : decode cX0_block 163 = .ok (.iload 4, 2) := dk_21 4 (dk_at dksX0_block_7 11 rfl rfl)
theorem dX0_block_165 : decode cX0_block 165 = .ok (.goto 16, 3) := dk_167 0 16 (dk_at dksX0_block_7 13 rfl rfl)
theorem dX0_block_168 : decode cX0_block 168 = .ok (.iload 5, 2) := dk_21 5 (dk_at dksX0_block_7 16 rfl rfl)
theorem dX0_block_170 : decode cX0_block 170 = .ok (.goto 11, 3) := dk_167 0 11 (dk_at dksX0_block_7 18 rfl rfl)
theorem dX0_block_173 : decode cX0_block 173 = .ok (.aload_n 0, 1) := dk_42 (dk_at dksX0_block_7 21 rfl rfl)
theorem dX0_block_174 : decode cX0_block 174 = .ok (.iload_n 1, 1) := dk_27 (dk_at dksX0_block_7 22 rfl rfl)
theorem dX0_block_175 : decode cX0_block 175 = .ok (.invokevirtual 365, 3) := dk_182 1 109 (dk_at dksX0_block_8 0 rfl rfl)
theorem dX0_block_178 : decode cX0_block 178 = .ok (.invokestatic 252, 3) := dk_184 0 252 (dk_at dksX0_block_8 3 rfl rfl)
theorem dX0_block_181 : decode cX0_block 181 = .ok (.ireturn, 1) := dk_172 (dk_at dksX0_block_8 6 rfl rfl)
abbrev cX0_beside : ByteArray := prog_1_method_49_code
def yX0_beside : MethodName := ⟨RX0, "beside", "(I)I"⟩
def dkwX0_beside_4 : List UInt8 := [27, 120, 2, 130, 126, 172]
abbrev dktX0_beside_4 : List UInt8 := dkwX0_beside_4 ++ []
def dkwX0_beside_3 : List UInt8 := [21, 7, 46, 120, 167, 0, 4, 3, 128, 61, 132, 7, 1, 167, 255, 208, 132, 5, 1, 167, 255, 186, 28, 4]
abbrev dktX0_beside_3 : List UInt8 := dkwX0_beside_3 ++ dktX0_beside_4
def dkwX0_beside_2 : List UInt8 := [28, 42, 182, 0, 122, 21, 6, 21, 7, 182, 0, 128, 153, 0, 18, 4, 42, 182, 0, 122, 180, 0, 112]
abbrev dktX0_beside_2 : List UInt8 := dkwX0_beside_2 ++ dktX0_beside_3
def dkwX0_beside_1 : List UInt8 := [162, 0, 69, 45, 21, 5, 46, 54, 6, 3, 54, 7, 21, 7, 42, 182, 0, 122, 182, 0, 166, 162, 0, 42]
abbrev dktX0_beside_1 : List UInt8 := dkwX0_beside_1 ++ dktX0_beside_2
def dkwX0_beside_0 : List UInt8 := [3, 61, 42, 182, 0, 122, 180, 1, 105, 27, 50, 78, 45, 190, 54, 4, 3, 54, 5, 21, 5, 21, 4]
abbrev dktX0_beside_0 : List UInt8 := dkwX0_beside_0 ++ dktX0_beside_1
theorem dksX0_beside_0 : cX0_beside.data.toList.drop 0 = dktX0_beside_0 := by decide +kernel
theorem dksX0_beside_1 : cX0_beside.data.toList.drop 23 = dktX0_beside_1 := dk_seg dksX0_beside_0 23 rfl rfl
theorem dksX0_beside_2 : cX0_beside.data.toList.drop 47 = dktX0_beside_2 := dk_seg dksX0_beside_1 24 rfl rfl
theorem dksX0_beside_3 : cX0_beside.data.toList.drop 70 = dktX0_beside_3 := dk_seg dksX0_beside_2 23 rfl rfl
theorem dksX0_beside_4 : cX0_beside.data.toList.drop 94 = dktX0_beside_4 := dk_seg dksX0_beside_3 24 rfl rfl
theorem dX0_beside_0 : decode cX0_beside 0 = .ok (.iconst 0, 1) := dk_3 (dk_at dksX0_beside_0 0 rfl rfl)
theorem dX0_beside_1 : decode cX0_beside 1 = .ok (.istore_n 2, 1) := dk_61 (dk_at dksX0_beside_0 1 rfl rfl)
theorem dX0_beside_2 : decode cX0_beside 2 = .ok (.aload_n 0, 1) := dk_42 (dk_at dksX0_beside_0 2 rfl rfl)
theorem dX0_beside_3 : decode cX0_beside 3 = .ok (.invokevirtual 122, 3) := dk_182 0 122 (dk_at dksX0_beside_0 3 rfl rfl)
theorem dX0_beside_6 : decode cX0_beside 6 = .ok (.getfield 361, 3) := dk_180 1 105 (dk_at dksX0_beside_0 6 rfl rfl)
theorem dX0_beside_9 : decode cX0_beside 9 = .ok (.iload_n 1, 1) := dk_27 (dk_at dksX0_beside_0 9 rfl rfl)
theorem dX0_beside_10 : decode cX0_beside 10 = .ok (.aaload, 1) := dk_50 (dk_at dksX0_beside_0 10 rfl rfl)
theorem dX0_beside_11 : decode cX0_beside 11 = .ok (.astore_n 3, 1) := dk_78 (dk_at dksX0_beside_0 11 rfl rfl)
theorem dX0_beside_12 : decode cX0_beside 12 = .ok (.aload_n 3, 1) := dk_45 (dk_at dksX0_beside_0 12 rfl rfl)
theorem dX0_beside_13 : decode cX0_beside 13 = .ok (.arraylength, 1) := dk_190 (dk_at dksX0_beside_0 13 rfl rfl)
theorem dX0_beside_14 : decode cX0_beside 14 = .ok (.istore 4, 2) := dk_54 4 (dk_at dksX0_beside_0 14 rfl rfl)
theorem dX0_beside_16 : decode cX0_beside 16 = .ok (.iconst 0, 1) := dk_3 (dk_at dksX0_beside_0 16 rfl rfl)
theorem dX0_beside_17 : decode cX0_beside 17 = .ok (.istore 5, 2) := dk_54 5 (dk_at dksX0_beside_0 17 rfl rfl)
theorem dX0_beside_19 : decode cX0_beside 19 = .ok (.iload 5, 2) := dk_21 5 (dk_at dksX0_beside_0 19 rfl rfl)
theorem dX0_beside_21 : decode cX0_beside 21 = .ok (.iload 4, 2) := dk_21 4 (dk_at dksX0_beside_0 21 rfl rfl)
theorem dX0_beside_23 : decode cX0_beside 23 = .ok (.if_icmp .ge 69, 3) := dk_162 0 69 (dk_at dksX0_beside_1 0 rfl rfl)
theorem dX0_beside_26 : decode cX0_beside 26 = .ok (.aload_n 3, 1) := dk_45 (dk_at dksX0_beside_1 3 rfl rfl)
theorem dX0_beside_27 : decode cX0_beside 27 = .ok (.iload 5, 2) := dk_21 5 (dk_at dksX0_beside_1 4 rfl rfl)
theorem dX0_beside_29 : decode cX0_beside 29 = .ok (.iaload, 1) := dk_46 (dk_at dksX0_beside_1 6 rfl rfl)
theorem dX0_beside_30 : decode cX0_beside 30 = .ok (.istore 6, 2) := dk_54 6 (dk_at dksX0_beside_1 7 rfl rfl)
theorem dX0_beside_32 : decode cX0_beside 32 = .ok (.iconst 0, 1) := dk_3 (dk_at dksX0_beside_1 9 rfl rfl)
theorem dX0_beside_33 : decode cX0_beside 33 = .ok (.istore 7, 2) := dk_54 7 (dk_at dksX0_beside_1 10 rfl rfl)
theorem dX0_beside_35 : decode cX0_beside 35 = .ok (.iload 7, 2) := dk_21 7 (dk_at dksX0_beside_1 12 rfl rfl)
theorem dX0_beside_37 : decode cX0_beside 37 = .ok (.aload_n 0, 1) := dk_42 (dk_at dksX0_beside_1 14 rfl rfl)
theorem dX0_beside_38 : decode cX0_beside 38 = .ok (.invokevirtual 122, 3) := dk_182 0 122 (dk_at dksX0_beside_1 15 rfl rfl)
theorem dX0_beside_41 : decode cX0_beside 41 = .ok (.invokevirtual 166, 3) := dk_182 0 166 (dk_at dksX0_beside_1 18 rfl rfl)
theorem dX0_beside_44 : decode cX0_beside 44 = .ok (.if_icmp .ge 42, 3) := dk_162 0 42 (dk_at dksX0_beside_1 21 rfl rfl)
theorem dX0_beside_47 : decode cX0_beside 47 = .ok (.iload_n 2, 1) := dk_28 (dk_at dksX0_beside_2 0 rfl rfl)
theorem dX0_beside_48 : decode cX0_beside 48 = .ok (.aload_n 0, 1) := dk_42 (dk_at dksX0_beside_2 1 rfl rfl)
theorem dX0_beside_49 : decode cX0_beside 49 = .ok (.invokevirtual 122, 3) := dk_182 0 122 (dk_at dksX0_beside_2 2 rfl rfl)
theorem dX0_beside_52 : decode cX0_beside 52 = .ok (.iload 6, 2) := dk_21 6 (dk_at dksX0_beside_2 5 rfl rfl)
theorem dX0_beside_54 : decode cX0_beside 54 = .ok (.iload 7, 2) := dk_21 7 (dk_at dksX0_beside_2 7 rfl rfl)
theorem dX0_beside_56 : decode cX0_beside 56 = .ok (.invokevirtual 128, 3) := dk_182 0 128 (dk_at dksX0_beside_2 9 rfl rfl)
theorem dX0_beside_59 : decode cX0_beside 59 = .ok (.ifCond .eq 18, 3) := dk_153 0 18 (dk_at dksX0_beside_2 12 rfl rfl)
theorem dX0_beside_62 : decode cX0_beside 62 = .ok (.iconst 1, 1) := dk_4 (dk_at dksX0_beside_2 15 rfl rfl)
theorem dX0_beside_63 : decode cX0_beside 63 = .ok (.aload_n 0, 1) := dk_42 (dk_at dksX0_beside_2 16 rfl rfl)
theorem dX0_beside_64 : decode cX0_beside 64 = .ok (.invokevirtual 122, 3) := dk_182 0 122 (dk_at dksX0_beside_2 17 rfl rfl)
theorem dX0_beside_67 : decode cX0_beside 67 = .ok (.getfield 112, 3) := dk_180 0 112 (dk_at dksX0_beside_2 20 rfl rfl)
theorem dX0_beside_70 : decode cX0_beside 70 = .ok (.iload 7, 2) := dk_21 7 (dk_at dksX0_beside_3 0 rfl rfl)
theorem dX0_beside_72 : decode cX0_beside 72 = .ok (.iaload, 1) := dk_46 (dk_at dksX0_beside_3 2 rfl rfl)
theorem dX0_beside_73 : decode cX0_beside 73 = .ok (.ishl, 1) := dk_120 (dk_at dksX0_beside_3 3 rfl rfl)
theorem dX0_beside_74 : decode cX0_beside 74 = .ok (.goto 4, 3) := dk_167 0 4 (dk_at dksX0_beside_3 4 rfl rfl)
theorem dX0_beside_77 : decode cX0_beside 77 = .ok (.iconst 0, 1) := dk_3 (dk_at dksX0_beside_3 7 rfl rfl)
theorem dX0_beside_78 : decode cX0_beside 78 = .ok (.ior, 1) := dk_128 (dk_at dksX0_beside_3 8 rfl rfl)
theorem dX0_beside_79 : decode cX0_beside 79 = .ok (.istore_n 2, 1) := dk_61 (dk_at dksX0_beside_3 9 rfl rfl)
theorem dX0_beside_80 : decode cX0_beside 80 = .ok (.iinc 7 1, 3) := dk_132 7 1 (dk_at dksX0_beside_3 10 rfl rfl)
theorem dX0_beside_83 : decode cX0_beside 83 = .ok (.goto (-48), 3) := dk_167 255 208 (dk_at dksX0_beside_3 13 rfl rfl)
theorem dX0_beside_86 : decode cX0_beside 86 = .ok (.iinc 5 1, 3) := dk_132 5 1 (dk_at dksX0_beside_3 16 rfl rfl)
theorem dX0_beside_89 : decode cX0_beside 89 = .ok (.goto (-70), 3) := dk_167 255 186 (dk_at dksX0_beside_3 19 rfl rfl)
theorem dX0_beside_92 : decode cX0_beside 92 = .ok (.iload_n 2, 1) := dk_28 (dk_at dksX0_beside_3 22 rfl rfl)
theorem dX0_beside_93 : decode cX0_beside 93 = .ok (.iconst 1, 1) := dk_4 (dk_at dksX0_beside_3 23 rfl rfl)
theorem dX0_beside_94 : decode cX0_beside 94 = .ok (.iload_n 1, 1) := dk_27 (dk_at dksX0_beside_4 0 rfl rfl)
theorem dX0_beside_95 : decode cX0_beside 95 = .ok (.ishl, 1) := dk_120 (dk_at dksX0_beside_4 1 rfl rfl)
theorem dX0_beside_96 : decode cX0_beside 96 = .ok (.iconst (-1), 1) := dk_2 (dk_at dksX0_beside_4 2 rfl rfl)
theorem dX0_beside_97 : decode cX0_beside 97 = .ok (.ixor, 1) := dk_130 (dk_at dksX0_beside_4 3 rfl rfl)
theorem dX0_beside_98 : decode cX0_beside 98 = .ok (.iand, 1) := dk_126 (dk_at dksX0_beside_4 4 rfl rfl)
theorem dX0_beside_99 : decode cX0_beside 99 = .ok (.ireturn, 1) := dk_172 (dk_at dksX0_beside_4 5 rfl rfl)
abbrev cX0_rule : ByteArray := prog_1_method_51_code
def yX0_rule : MethodName := ⟨RX0, "rule", "(II)I"⟩
def dkwX0_rule_4 : List UInt8 := [180, 1, 121, 27, 50, 42, 182, 1, 2, 185, 1, 125, 2, 0, 172, 2, 172]
abbrev dktX0_rule_4 : List UInt8 := dkwX0_rule_4 ++ []
def dkwX0_rule_3 : List UInt8 := [180, 0, 255, 27, 46, 172, 187, 1, 115, 89, 42, 183, 1, 117, 27, 182, 1, 118, 172, 42, 180, 0, 54]
abbrev dktX0_rule_3 : List UInt8 := dkwX0_rule_3 ++ dktX0_rule_4
def dkwX0_rule_2 : List UInt8 := [42, 182, 0, 185, 180, 0, 187, 27, 184, 1, 112, 153, 0, 7, 4, 167, 0, 4, 3, 172, 42, 182, 0, 185]
abbrev dktX0_rule_2 : List UInt8 := dkwX0_rule_2 ++ dktX0_rule_3
def dkwX0_rule_1 : List UInt8 := [170, 0, 0, 0, 0, 92, 0, 0, 0, 0, 0, 0, 0, 3, 0, 0, 0, 30, 0, 0, 0, 50, 0, 0, 0, 60, 0, 0, 0, 73]
abbrev dktX0_rule_1 : List UInt8 := dkwX0_rule_1 ++ dktX0_rule_2
def dkwX0_rule_0 : List UInt8 := [27, 184, 0, 249, 154, 0, 5, 2, 172, 28]
abbrev dktX0_rule_0 : List UInt8 := dkwX0_rule_0 ++ dktX0_rule_1
theorem dksX0_rule_0 : cX0_rule.data.toList.drop 0 = dktX0_rule_0 := by decide +kernel
theorem dksX0_rule_1 : cX0_rule.data.toList.drop 10 = dktX0_rule_1 := dk_seg dksX0_rule_0 10 rfl rfl
theorem dksX0_rule_2 : cX0_rule.data.toList.drop 40 = dktX0_rule_2 := dk_seg dksX0_rule_1 30 rfl rfl
theorem dksX0_rule_3 : cX0_rule.data.toList.drop 64 = dktX0_rule_3 := dk_seg dksX0_rule_2 24 rfl rfl
theorem dksX0_rule_4 : cX0_rule.data.toList.drop 87 = dktX0_rule_4 := dk_seg dksX0_rule_3 23 rfl rfl
theorem dX0_rule_0 : decode cX0_rule 0 = .ok (.iload_n 1, 1) := dk_27 (dk_at dksX0_rule_0 0 rfl rfl)
theorem dX0_rule_1 : decode cX0_rule 1 = .ok (.invokestatic 249, 3) := dk_184 0 249 (dk_at dksX0_rule_0 1 rfl rfl)
theorem dX0_rule_4 : decode cX0_rule 4 = .ok (.ifCond .ne 5, 3) := dk_154 0 5 (dk_at dksX0_rule_0 4 rfl rfl)
theorem dX0_rule_7 : decode cX0_rule 7 = .ok (.iconst (-1), 1) := dk_2 (dk_at dksX0_rule_0 7 rfl rfl)
theorem dX0_rule_8 : decode cX0_rule 8 = .ok (.ireturn, 1) := dk_172 (dk_at dksX0_rule_0 8 rfl rfl)
theorem dX0_rule_9 : decode cX0_rule 9 = .ok (.iload_n 2, 1) := dk_28 (dk_at dksX0_rule_0 9 rfl rfl)
theorem dX0_rule_10 : decode cX0_rule 10 = .ok (.tableswitch 92 0 3 #[30, 50, 60, 73], 30) := by decide +kernel
theorem dX0_rule_40 : decode cX0_rule 40 = .ok (.aload_n 0, 1) := dk_42 (dk_at dksX0_rule_2 0 rfl rfl)
theorem dX0_rule_41 : decode cX0_rule 41 = .ok (.invokevirtual 185, 3) := dk_182 0 185 (dk_at dksX0_rule_2 1 rfl rfl)
theorem dX0_rule_44 : decode cX0_rule 44 = .ok (.getfield 187, 3) := dk_180 0 187 (dk_at dksX0_rule_2 4 rfl rfl)
theorem dX0_rule_47 : decode cX0_rule 47 = .ok (.iload_n 1, 1) := dk_27 (dk_at dksX0_rule_2 7 rfl rfl)
theorem dX0_rule_48 : decode cX0_rule 48 = .ok (.invokestatic 368, 3) := dk_184 1 112 (dk_at dksX0_rule_2 8 rfl rfl)
theorem dX0_rule_51 : decode cX0_rule 51 = .ok (.ifCond .eq 7, 3) := dk_153 0 7 (dk_at dksX0_rule_2 11 rfl rfl)
theorem dX0_rule_54 : decode cX0_rule 54 = .ok (.iconst 1, 1) := dk_4 (dk_at dksX0_rule_2 14 rfl rfl)
theorem dX0_rule_55 : decode cX0_rule 55 = .ok (.goto 4, 3) := dk_167 0 4 (dk_at dksX0_rule_2 15 rfl rfl)
theorem dX0_rule_58 : decode cX0_rule 58 = .ok (.iconst 0, 1) := dk_3 (dk_at dksX0_rule_2 18 rfl rfl)
theorem dX0_rule_59 : decode cX0_rule 59 = .ok (.ireturn, 1) := dk_172 (dk_at dksX0_rule_2 19 rfl rfl)
theorem dX0_rule_60 : decode cX0_rule 60 = .ok (.aload_n 0, 1) := dk_42 (dk_at dksX0_rule_2 20 rfl rfl)
theorem dX0_rule_61 : decode cX0_rule 61 = .ok (.invokevirtual 185, 3) := dk_182 0 185 (dk_at dksX0_rule_2 21 rfl rfl)
theorem dX0_rule_64 : decode cX0_rule 64 = .ok (.getfield 255, 3) := dk_180 0 255 (dk_at dksX0_rule_3 0 rfl rfl)
theorem dX0_rule_67 : decode cX0_rule 67 = .ok (.iload_n 1, 1) := dk_27 (dk_at dksX0_rule_3 3 rfl rfl)
theorem dX0_rule_68 : decode cX0_rule 68 = .ok (.iaload, 1) := dk_46 (dk_at dksX0_rule_3 4 rfl rfl)
theorem dX0_rule_69 : decode cX0_rule 69 = .ok (.ireturn, 1) := dk_172 (dk_at dksX0_rule_3 5 rfl rfl)
theorem dX0_rule_70 : decode cX0_rule 70 = .ok (.new 371, 3) := dk_187 1 115 (dk_at dksX0_rule_3 6 rfl rfl)
theorem dX0_rule_73 : decode cX0_rule 73 = .ok (.dup, 1) := dk_89 (dk_at dksX0_rule_3 9 rfl rfl)
theorem dX0_rule_74 : decode cX0_rule 74 = .ok (.aload_n 0, 1) := dk_42 (dk_at dksX0_rule_3 10 rfl rfl)
theorem dX0_rule_75 : decode cX0_rule 75 = .ok (.invokespecial 373, 3) := dk_183 1 117 (dk_at dksX0_rule_3 11 rfl rfl)
theorem dX0_rule_78 : decode cX0_rule 78 = .ok (.iload_n 1, 1) := dk_27 (dk_at dksX0_rule_3 14 rfl rfl)
theorem dX0_rule_79 : decode cX0_rule 79 = .ok (.invokevirtual 374, 3) := dk_182 1 118 (dk_at dksX0_rule_3 15 rfl rfl)
theorem dX0_rule_82 : decode cX0_rule 82 = .ok (.ireturn, 1) := dk_172 (dk_at dksX0_rule_3 18 rfl rfl)
theorem dX0_rule_83 : decode cX0_rule 83 = .ok (.aload_n 0, 1) := dk_42 (dk_at dksX0_rule_3 19 rfl rfl)
theorem dX0_rule_84 : decode cX0_rule 84 = .ok (.getfield 54, 3) := dk_180 0 54 (dk_at dksX0_rule_3 20 rfl rfl)
theorem dX0_rule_87 : decode cX0_rule 87 = .ok (.getfield 377, 3) := dk_180 1 121 (dk_at dksX0_rule_4 0 rfl rfl)
theorem dX0_rule_90 : decode cX0_rule 90 = .ok (.iload_n 1, 1) := dk_27 (dk_at dksX0_rule_4 3 rfl rfl)
theorem dX0_rule_91 : decode cX0_rule 91 = .ok (.aaload, 1) := dk_50 (dk_at dksX0_rule_4 4 rfl rfl)
theorem dX0_rule_92 : decode cX0_rule 92 = .ok (.aload_n 0, 1) := dk_42 (dk_at dksX0_rule_4 5 rfl rfl)
theorem dX0_rule_93 : decode cX0_rule 93 = .ok (.invokevirtual 258, 3) := dk_182 1 2 (dk_at dksX0_rule_4 6 rfl rfl)
theorem dX0_rule_96 : decode cX0_rule 96 = .ok (.invokeinterface 381 2, 5) := by decide +kernel
theorem dX0_rule_101 : decode cX0_rule 101 = .ok (.ireturn, 1) := dk_172 (dk_at dksX0_rule_4 14 rfl rfl)
theorem dX0_rule_102 : decode cX0_rule 102 = .ok (.iconst (-1), 1) := dk_2 (dk_at dksX0_rule_4 15 rfl rfl)
theorem dX0_rule_103 : decode cX0_rule 103 = .ok (.ireturn, 1) := dk_172 (dk_at dksX0_rule_4 16 rfl rfl)
abbrev cX0_possible : ByteArray := prog_1_method_52_code
def yX0_possible : MethodName := ⟨RX0, "possible", "(II)I"⟩
def dkwX0_possible_1 : List UInt8 := [167, 0, 8, 3, 167, 0, 4, 2, 172]
abbrev dktX0_possible_1 : List UInt8 := dkwX0_possible_1 ++ []
def dkwX0_possible_0 : List UInt8 := [42, 27, 28, 182, 1, 12, 153, 0, 23, 42, 182, 1, 2, 27, 28, 182, 1, 5, 153, 0, 7, 4]
abbrev dktX0_possible_0 : List UInt8 := dkwX0_possible_0 ++ dktX0_possible_1
theorem dksX0_possible_0 : cX0_possible.data.toList.drop 0 = dktX0_possible_0 := by decide +kernel
theorem dksX0_possible_1 : cX0_possible.data.toList.drop 22 = dktX0_possible_1 := dk_seg dksX0_possible_0 22 rfl rfl
theorem dX0_possible_0 : decode cX0_possible 0 = .ok (.aload_n 0, 1) := dk_42 (dk_at dksX0_possible_0 0 rfl rfl)
theorem dX0_possible_1 : decode cX0_possible 1 = .ok (.iload_n 1, 1) := dk_27 (dk_at dksX0_possible_0 1 rfl rfl)
theorem dX0_possible_2 : decode cX0_possible 2 = .ok (.iload_n 2, 1) := dk_28 (dk_at dksX0_possible_0 2 rfl rfl)
theorem dX0_possible_3 : decode cX0_possible 3 = .ok (.invokevirtual 268, 3) := dk_182 1 12 (dk_at dksX0_possible_0 3 rfl rfl)
theorem dX0_possible_6 : decode cX0_possible 6 = .ok (.ifCond .eq 23, 3) := dk_153 0 23 (dk_at dksX0_possible_0 6 rfl rfl)
theorem dX0_possible_9 : decode cX0_possible 9 = .ok (.aload_n 0, 1) := dk_42 (dk_at dksX0_possible_0 9 rfl rfl)
theorem dX0_possible_10 : decode cX0_possible 10 = .ok (.invokevirtual 258, 3) := dk_182 1 2 (dk_at dksX0_possible_0 10 rfl rfl)
theorem dX0_possible_13 : decode cX0_possible 13 = .ok (.iload_n 1, 1) := dk_27 (dk_at dksX0_possible_0 13 rfl rfl)
theorem dX0_possible_14 : decode cX0_possible 14 = .ok (.iload_n 2, 1) := dk_28 (dk_at dksX0_possible_0 14 rfl rfl)
theorem dX0_possible_15 : decode cX0_possible 15 = .ok (.invokevirtual 261, 3) := dk_182 1 5 (dk_at dksX0_possible_0 15 rfl rfl)
theorem dX0_possible_18 : decode cX0_possible 18 = .ok (.ifCond .eq 7, 3) := dk_153 0 7 (dk_at dksX0_possible_0 18 rfl rfl)
theorem dX0_possible_21 : decode cX0_possible 21 = .ok (.iconst 1, 1) := dk_4 (dk_at dksX0_possible_0 21 rfl rfl)
theorem dX0_possible_22 : decode cX0_possible 22 = .ok (.goto 8, 3) := dk_167 0 8 (dk_at dksX0_possible_1 0 rfl rfl)
theorem dX0_possible_25 : decode cX0_possible 25 = .ok (.iconst 0, 1) := dk_3 (dk_at dksX0_possible_1 3 rfl rfl)
theorem dX0_possible_26 : decode cX0_possible 26 = .ok (.goto 4, 3) := dk_167 0 4 (dk_at dksX0_possible_1 4 rfl rfl)
theorem dX0_possible_29 : decode cX0_possible 29 = .ok (.iconst (-1), 1) := dk_2 (dk_at dksX0_possible_1 7 rfl rfl)
theorem dX0_possible_30 : decode cX0_possible 30 = .ok (.ireturn, 1) := dk_172 (dk_at dksX0_possible_1 8 rfl rfl)
abbrev cX0_why : ByteArray := prog_1_method_53_code
def yX0_why : MethodName := ⟨RX0, "why", "(III)I"⟩
def dkwX0_why_2 : List UInt8 := [180, 0, 54, 180, 1, 131, 172]
abbrev dktX0_why_2 : List UInt8 := dkwX0_why_2 ++ []
def dkwX0_why_1 : List UInt8 := [182, 1, 13, 154, 0, 6, 16, 157, 172, 29, 154, 0, 13, 42, 180, 0, 54, 180, 1, 18, 167, 0, 10, 42]
abbrev dktX0_why_1 : List UInt8 := dkwX0_why_1 ++ dktX0_why_2
def dkwX0_why_0 : List UInt8 := [42, 27, 28, 182, 1, 12, 153, 0, 12, 29, 3, 4, 184, 0, 90, 154, 0, 5, 2, 172, 42, 27, 28]
abbrev dktX0_why_0 : List UInt8 := dkwX0_why_0 ++ dktX0_why_1
theorem dksX0_why_0 : cX0_why.data.toList.drop 0 = dktX0_why_0 := by decide +kernel
theorem dksX0_why_1 : cX0_why.data.toList.drop 23 = dktX0_why_1 := dk_seg dksX0_why_0 23 rfl rfl
theorem dksX0_why_2 : cX0_why.data.toList.drop 47 = dktX0_why_2 := dk_seg dksX0_why_1 24 rfl rfl
theorem dX0_why_0 : decode cX0_why 0 = .ok (.aload_n 0, 1) := dk_42 (dk_at dksX0_why_0 0 rfl rfl)
theorem dX0_why_1 : decode cX0_why 1 = .ok (.iload_n 1, 1) := dk_27 (dk_at dksX0_why_0 1 rfl rfl)
theorem dX0_why_2 : decode cX0_why 2 = .ok (.iload_n 2, 1) := dk_28 (dk_at dksX0_why_0 2 rfl rfl)
theorem dX0_why_3 : decode cX0_why 3 = .ok (.invokevirtual 268, 3) := dk_182 1 12 (dk_at dksX0_why_0 3 rfl rfl)
theorem dX0_why_6 : decode cX0_why 6 = .ok (.ifCond .eq 12, 3) := dk_153 0 12 (dk_at dksX0_why_0 6 rfl rfl)
theorem dX0_why_9 : decode cX0_why 9 = .ok (.iload_n 3, 1) := dk_29 (dk_at dksX0_why_0 9 rfl rfl)
theorem dX0_why_10 : decode cX0_why 10 = .ok (.iconst 0, 1) := dk_3 (dk_at dksX0_why_0 10 rfl rfl)
theorem dX0_why_11 : decode cX0_why 11 = .ok (.iconst 1, 1) := dk_4 (dk_at dksX0_why_0 11 rfl rfl)
theorem dX0_why_12 : decode cX0_why 12 = .ok (.invokestatic 90, 3) := dk_184 0 90 (dk_at dksX0_why_0 12 rfl rfl)
theorem dX0_why_15 : decode cX0_why 15 = .ok (.ifCond .ne 5, 3) := dk_154 0 5 (dk_at dksX0_why_0 15 rfl rfl)
theorem dX0_why_18 : decode cX0_why 18 = .ok (.iconst (-1), 1) := dk_2 (dk_at dksX0_why_0 18 rfl rfl)
theorem dX0_why_19 : decode cX0_why 19 = .ok (.ireturn, 1) := dk_172 (dk_at dksX0_why_0 19 rfl rfl)
theorem dX0_why_20 : decode cX0_why 20 = .ok (.aload_n 0, 1) := dk_42 (dk_at dksX0_why_0 20 rfl rfl)
theorem dX0_why_21 : decode cX0_why 21 = .ok (.iload_n 1, 1) := dk_27 (dk_at dksX0_why_0 21 rfl rfl)
theorem dX0_why_22 : decode cX0_why 22 = .ok (.iload_n 2, 1) := dk_28 (dk_at dksX0_why_0 22 rfl rfl)
theorem dX0_why_23 : decode cX0_why 23 = .ok (.invokevirtual 269, 3) := dk_182 1 13 (dk_at dksX0_why_1 0 rfl rfl)
theorem dX0_why_26 : decode cX0_why 26 = .ok (.ifCond .ne 6, 3) := dk_154 0 6 (dk_at dksX0_why_1 3 rfl rfl)
theorem dX0_why_29 : decode cX0_why 29 = .ok (.bipush (-99), 2) := dk_16 157 (dk_at dksX0_why_1 6 rfl rfl)
theorem dX0_why_31 : decode cX0_why 31 = .ok (.ireturn, 1) := dk_172 (dk_at dksX0_why_1 8 rfl rfl)
theorem dX0_why_32 : decode cX0_why 32 = .ok (.iload_n 3, 1) := dk_29 (dk_at dksX0_why_1 9 rfl rfl)
theorem dX0_why_33 : decode cX0_why 33 = .ok (.ifCond .ne 13, 3) := dk_154 0 13 (dk_at dksX0_why_1 10 rfl rfl)
theorem dX0_why_36 : decode cX0_why 36 = .ok (.aload_n 0, 1) := dk_42 (dk_at dksX0_why_1 13 rfl rfl)
theorem dX0_why_37 : decode cX0_why 37 = .ok (.getfield 54, 3) := dk_180 0 54 (dk_at dksX0_why_1 14 rfl rfl)
theorem dX0_why_40 : decode cX0_why 40 = .ok (.getfield 274, 3) := dk_180 1 18 (dk_at dksX0_why_1 17 rfl rfl)
theorem dX0_why_43 : decode cX0_why 43 = .ok (.goto 10, 3) := dk_167 0 10 (dk_at dksX0_why_1 20 rfl rfl)
theorem dX0_why_46 : decode cX0_why 46 = .ok (.aload_n 0, 1) := dk_42 (dk_at dksX0_why_1 23 rfl rfl)
theorem dX0_why_47 : decode cX0_why 47 = .ok (.getfield 54, 3) := dk_180 0 54 (dk_at dksX0_why_2 0 rfl rfl)
theorem dX0_why_50 : decode cX0_why 50 = .ok (.getfield 387, 3) := dk_180 1 131 (dk_at dksX0_why_2 3 rfl rfl)
theorem dX0_why_53 : decode cX0_why 53 = .ok (.ireturn, 1) := dk_172 (dk_at dksX0_why_2 6 rfl rfl)
abbrev cX0_next : ByteArray := prog_1_method_55_code
def yX0_next : MethodName := ⟨RX0, "next", "(I)I"⟩
def dkwX0_next_1 : List UInt8 := [182, 1, 21, 153, 0, 18, 42, 180, 0, 54, 182, 1, 137, 180, 1, 141, 27, 46, 167, 0, 5, 16, 157, 172]
abbrev dktX0_next_1 : List UInt8 := dkwX0_next_1 ++ []
def dkwX0_next_0 : List UInt8 := [27, 184, 1, 134, 154, 0, 5, 2, 172, 42, 180, 0, 54, 42, 182, 1, 2, 42, 182, 0, 185, 180, 0, 187]
abbrev dktX0_next_0 : List UInt8 := dkwX0_next_0 ++ dktX0_next_1
theorem dksX0_next_0 : cX0_next.data.toList.drop 0 = dktX0_next_0 := by decide +kernel
theorem dksX0_next_1 : cX0_next.data.toList.drop 24 = dktX0_next_1 := dk_seg dksX0_next_0 24 rfl rfl
theorem dX0_next_0 : decode cX0_next 0 = .ok (.iload_n 1, 1) := dk_27 (dk_at dksX0_next_0 0 rfl rfl)
theorem dX0_next_1 : decode cX0_next 1 = .ok (.invokestatic 390, 3) := dk_184 1 134 (dk_at dksX0_next_0 1 rfl rfl)
theorem dX0_next_4 : decode cX0_next 4 = .ok (.ifCond .ne 5, 3) := dk_154 0 5 (dk_at dksX0_next_0 4 rfl rfl)
theorem dX0_next_7 : decode cX0_next 7 = .ok (.iconst (-1), 1) := dk_2 (dk_at dksX0_next_0 7 rfl rfl)
theorem dX0_next_8 : decode cX0_next 8 = .ok (.ireturn, 1) := dk_172 (dk_at dksX0_next_0 8 rfl rfl)
theorem dX0_next_9 : decode cX0_next 9 = .ok (.aload_n 0, 1) := dk_42 (dk_at dksX0_next_0 9 rfl rfl)
theorem dX0_next_10 : decode cX0_next 10 = .ok (.getfield 54, 3) := dk_180 0 54 (dk_at dksX0_next_0 10 rfl rfl)
theorem dX0_next_13 : decode cX0_next 13 = .ok (.aload_n 0, 1) := dk_42 (dk_at dksX0_next_0 13 rfl rfl)
theorem dX0_next_14 : decode cX0_next 14 = .ok (.invokevirtual 258, 3) := dk_182 1 2 (dk_at dksX0_next_0 14 rfl rfl)
theorem dX0_next_17 : decode cX0_next 17 = .ok (.aload_n 0, 1) := dk_42 (dk_at dksX0_next_0 17 rfl rfl)
theorem dX0_next_18 : decode cX0_next 18 = .ok (.invokevirtual 185, 3) := dk_182 0 185 (dk_at dksX0_next_0 18 rfl rfl)
theorem dX0_next_21 : decode cX0_next 21 = .ok (.getfield 187, 3) := dk_180 0 187 (dk_at dksX0_next_0 21 rfl rfl)
theorem dX0_next_24 : decode cX0_next 24 = .ok (.invokevirtual 277, 3) := dk_182 1 21 (dk_at dksX0_next_1 0 rfl rfl)
theorem dX0_next_27 : decode cX0_next 27 = .ok (.ifCond .eq 18, 3) := dk_153 0 18 (dk_at dksX0_next_1 3 rfl rfl)
theorem dX0_next_30 : decode cX0_next 30 = .ok (.aload_n 0, 1) := dk_42 (dk_at dksX0_next_1 6 rfl rfl)
theorem dX0_next_31 : decode cX0_next 31 = .ok (.getfield 54, 3) := dk_180 0 54 (dk_at dksX0_next_1 7 rfl rfl)
theorem dX0_next_34 : decode cX0_next 34 = .ok (.invokevirtual 393, 3) := dk_182 1 137 (dk_at dksX0_next_1 10 rfl rfl)
theorem dX0_next_37 : decode cX0_next 37 = .ok (.getfield 397, 3) := dk_180 1 141 (dk_at dksX0_next_1 13 rfl rfl)
theorem dX0_next_40 : decode cX0_next 40 = .ok (.iload_n 1, 1) := dk_27 (dk_at dksX0_next_1 16 rfl rfl)
theorem dX0_next_41 : decode cX0_next 41 = .ok (.iaload, 1) := dk_46 (dk_at dksX0_next_1 17 rfl rfl)
theorem dX0_next_42 : decode cX0_next 42 = .ok (.goto 5, 3) := dk_167 0 5 (dk_at dksX0_next_1 18 rfl rfl)
theorem dX0_next_45 : decode cX0_next 45 = .ok (.bipush (-99), 2) := dk_16 157 (dk_at dksX0_next_1 21 rfl rfl)
theorem dX0_next_47 : decode cX0_next 47 = .ok (.ireturn, 1) := dk_172 (dk_at dksX0_next_1 23 rfl rfl)
abbrev cX0_isPart : ByteArray := prog_1_method_54_code
def yX0_isPart : MethodName := ⟨RX0, "isPart", "(I)Z"⟩
def dkwX0_isPart_0 : List UInt8 := [26, 3, 6, 184, 0, 90, 172]
abbrev dktX0_isPart_0 : List UInt8 := dkwX0_isPart_0 ++ []
theorem dksX0_isPart_0 : cX0_isPart.data.toList.drop 0 = dktX0_isPart_0 := by decide +kernel
theorem dX0_isPart_0 : decode cX0_isPart 0 = .ok (.iload_n 0, 1) := dk_26 (dk_at dksX0_isPart_0 0 rfl rfl)
theorem dX0_isPart_1 : decode cX0_isPart 1 = .ok (.iconst 0, 1) := dk_3 (dk_at dksX0_isPart_0 1 rfl rfl)
theorem dX0_isPart_2 : decode cX0_isPart 2 = .ok (.iconst 3, 1) := dk_6 (dk_at dksX0_isPart_0 2 rfl rfl)
theorem dX0_isPart_3 : decode cX0_isPart 3 = .ok (.invokestatic 90, 3) := dk_184 0 90 (dk_at dksX0_isPart_0 3 rfl rfl)
theorem dX0_isPart_6 : decode cX0_isPart 6 = .ok (.ireturn, 1) := dk_172 (dk_at dksX0_isPart_0 6 rfl rfl)
abbrev cX0_run : ByteArray := prog_1_method_56_code
def yX0_run : MethodName := ⟨RX0, "run", "(I)I"⟩
def dkwX0_run_6 : List UInt8 := [29, 172]
abbrev dktX0_run_6 : List UInt8 := dkwX0_run_6 ++ []
def dkwX0_run_5 : List UInt8 := [182, 1, 166, 96, 167, 0, 21, 44, 182, 1, 168, 167, 0, 14, 44, 180, 1, 149, 182, 1, 25, 167, 0, 4]
abbrev dktX0_run_5 : List UInt8 := dkwX0_run_5 ++ dktX0_run_6
def dkwX0_run_4 : List UInt8 := [16, 157, 160, 0, 7, 3, 167, 0, 42, 4, 44, 180, 1, 155, 29, 185, 1, 162, 2, 0, 192, 1, 142]
abbrev dktX0_run_4 : List UInt8 := dkwX0_run_4 ++ dktX0_run_5
def dkwX0_run_3 : List UInt8 := [44, 180, 1, 149, 182, 1, 152, 167, 0, 64, 44, 180, 1, 155, 185, 1, 159, 1, 0, 167, 0, 52, 29]
abbrev dktX0_run_3 : List UInt8 := dkwX0_run_3 ++ dktX0_run_4
def dkwX0_run_2 : List UInt8 := [170, 0, 0, 0, 0, 104, 0, 0, 0, 0, 0, 0, 0, 4, 0, 0, 0, 34, 0, 0, 0, 44, 0, 0, 0, 56, 0, 0, 0, 87, 0, 0, 0, 94]
abbrev dktX0_run_2 : List UInt8 := dkwX0_run_2 ++ dktX0_run_3
def dkwX0_run_1 : List UInt8 := [62, 27]
abbrev dktX0_run_1 : List UInt8 := dkwX0_run_1 ++ dktX0_run_2
def dkwX0_run_0 : List UInt8 := [27, 3, 8, 184, 0, 90, 154, 0, 5, 2, 172, 187, 1, 115, 89, 42, 183, 1, 117, 77, 44, 182, 1, 146]
abbrev dktX0_run_0 : List UInt8 := dkwX0_run_0 ++ dktX0_run_1
theorem dksX0_run_0 : cX0_run.data.toList.drop 0 = dktX0_run_0 := by decide +kernel
theorem dksX0_run_1 : cX0_run.data.toList.drop 24 = dktX0_run_1 := dk_seg dksX0_run_0 24 rfl rfl
theorem dksX0_run_2 : cX0_run.data.toList.drop 26 = dktX0_run_2 := dk_seg dksX0_run_1 2 rfl rfl
theorem dksX0_run_3 : cX0_run.data.toList.drop 60 = dktX0_run_3 := dk_seg dksX0_run_2 34 rfl rfl
theorem dksX0_run_4 : cX0_run.data.toList.drop 83 = dktX0_run_4 := dk_seg dksX0_run_3 23 rfl rfl
theorem dksX0_run_5 : cX0_run.data.toList.drop 106 = dktX0_run_5 := dk_seg dksX0_run_4 23 rfl rfl
theorem dksX0_run_6 : cX0_run.data.toList.drop 130 = dktX0_run_6 := dk_seg dksX0_run_5 24 rfl rfl
theorem dX0_run_0 : decode cX0_run 0 = .ok (.iload_n 1, 1) := dk_27 (dk_at dksX0_run_0 0 rfl rfl)
theorem dX0_run_1 : decode cX0_run 1 = .ok (.iconst 0, 1) := dk_3 (dk_at dksX0_run_0 1 rfl rfl)
theorem dX0_run_2 : decode cX0_run 2 = .ok (.iconst 5, 1) := dk_8 (dk_at dksX0_run_0 2 rfl rfl)
theorem dX0_run_3 : decode cX0_run 3 = .ok (.invokestatic 90, 3) := dk_184 0 90 (dk_at dksX0_run_0 3 rfl rfl)
theorem dX0_run_6 : decode cX0_run 6 = .ok (.ifCond .ne 5, 3) := dk_154 0 5 (dk_at dksX0_run_0 6 rfl rfl)
theorem dX0_run_9 : decode cX0_run 9 = .ok (.iconst (-1), 1) := dk_2 (dk_at dksX0_run_0 9 rfl rfl)
theorem dX0_run_10 : decode cX0_run 10 = .ok (.ireturn, 1) := dk_172 (dk_at dksX0_run_0 10 rfl rfl)
theorem dX0_run_11 : decode cX0_run 11 = .ok (.new 371, 3) := dk_187 1 115 (dk_at dksX0_run_0 11 rfl rfl)
theorem dX0_run_14 : decode cX0_run 14 = .ok (.dup, 1) := dk_89 (dk_at dksX0_run_0 14 rfl rfl)
theorem dX0_run_15 : decode cX0_run 15 = .ok (.aload_n 0, 1) := dk_42 (dk_at dksX0_run_0 15 rfl rfl)
theorem dX0_run_16 : decode cX0_run 16 = .ok (.invokespecial 373, 3) := dk_183 1 117 (dk_at dksX0_run_0 16 rfl rfl)
theorem dX0_run_19 : decode cX0_run 19 = .ok (.astore_n 2, 1) := dk_77 (dk_at dksX0_run_0 19 rfl rfl)
theorem dX0_run_20 : decode cX0_run 20 = .ok (.aload_n 2, 1) := dk_44 (dk_at dksX0_run_0 20 rfl rfl)
theorem dX0_run_21 : decode cX0_run 21 = .ok (.invokevirtual 402, 3) := dk_182 1 146 (dk_at dksX0_run_0 21 rfl rfl)
theorem dX0_run_24 : decode cX0_run 24 = .ok (.istore_n 3, 1) := dk_62 (dk_at dksX0_run_1 0 rfl rfl)
theorem dX0_run_25 : decode cX0_run 25 = .ok (.iload_n 1, 1) := dk_27 (dk_at dksX0_run_1 1 rfl rfl)
theorem dX0_run_26 : decode cX0_run 26 = .ok (.tableswitch 104 0 4 #[34, 44, 56, 87, 94], 34) := by decide +kernel
theorem dX0_run_60 : decode cX0_run 60 = .ok (.aload_n 2, 1) := dk_44 (dk_at dksX0_run_3 0 rfl rfl)
theorem dX0_run_61 : decode cX0_run 61 = .ok (.getfield 405, 3) := dk_180 1 149 (dk_at dksX0_run_3 1 rfl rfl)
theorem dX0_run_64 : decode cX0_run 64 = .ok (.invokevirtual 408, 3) := dk_182 1 152 (dk_at dksX0_run_3 4 rfl rfl)
theorem dX0_run_67 : decode cX0_run 67 = .ok (.goto 64, 3) := dk_167 0 64 (dk_at dksX0_run_3 7 rfl rfl)
theorem dX0_run_70 : decode cX0_run 70 = .ok (.aload_n 2, 1) := dk_44 (dk_at dksX0_run_3 10 rfl rfl)
theorem dX0_run_71 : decode cX0_run 71 = .ok (.getfield 411, 3) := dk_180 1 155 (dk_at dksX0_run_3 11 rfl rfl)
theorem dX0_run_74 : decode cX0_run 74 = .ok (.invokeinterface 415 1, 5) := by decide +kernel
theorem dX0_run_79 : decode cX0_run 79 = .ok (.goto 52, 3) := dk_167 0 52 (dk_at dksX0_run_3 19 rfl rfl)
theorem dX0_run_82 : decode cX0_run 82 = .ok (.iload_n 3, 1) := dk_29 (dk_at dksX0_run_3 22 rfl rfl)
theorem dX0_run_83 : decode cX0_run 83 = .ok (.bipush (-99), 2) := dk_16 157 (dk_at dksX0_run_4 0 rfl rfl)
theorem dX0_run_85 : decode cX0_run 85 = .ok (.if_icmp .ne 7, 3) := dk_160 0 7 (dk_at dksX0_run_4 2 rfl rfl)
theorem dX0_run_88 : decode cX0_run 88 = .ok (.iconst 0, 1) := dk_3 (dk_at dksX0_run_4 5 rfl rfl)
theorem dX0_run_89 : decode cX0_run 89 = .ok (.goto 42, 3) := dk_167 0 42 (dk_at dksX0_run_4 6 rfl rfl)
theorem dX0_run_92 : decode cX0_run 92 = .ok (.iconst 1, 1) := dk_4 (dk_at dksX0_run_4 9 rfl rfl)
theorem dX0_run_93 : decode cX0_run 93 = .ok (.aload_n 2, 1) := dk_44 (dk_at dksX0_run_4 10 rfl rfl)
theorem dX0_run_94 : decode cX0_run 94 = .ok (.getfield 411, 3) := dk_180 1 155 (dk_at dksX0_run_4 11 rfl rfl)
theorem dX0_run_97 : decode cX0_run 97 = .ok (.iload_n 3, 1) := dk_29 (dk_at dksX0_run_4 14 rfl rfl)
theorem dX0_run_98 : decode cX0_run 98 = .ok (.invokeinterface 418 2, 5) := by decide +kernel
theorem dX0_run_103 : decode cX0_run 103 = .ok (.checkcast 398, 3) := dk_192 1 142 (dk_at dksX0_run_4 20 rfl rfl)
theorem dX0_run_106 : decode cX0_run 106 = .ok (.invokevirtual 422, 3) := dk_182 1 166 (dk_at dksX0_run_5 0 rfl rfl)
theorem dX0_run_109 : decode cX0_run 109 = .ok (.iadd, 1) := dk_96 (dk_at dksX0_run_5 3 rfl rfl)
theorem dX0_run_110 : decode cX0_run 110 = .ok (.goto 21, 3) := dk_167 0 21 (dk_at dksX0_run_5 4 rfl rfl)
theorem dX0_run_113 : decode cX0_run 113 = .ok (.aload_n 2, 1) := dk_44 (dk_at dksX0_run_5 7 rfl rfl)
theorem dX0_run_114 : decode cX0_run 114 = .ok (.invokevirtual 424, 3) := dk_182 1 168 (dk_at dksX0_run_5 8 rfl rfl)
theorem dX0_run_117 : decode cX0_run 117 = .ok (.goto 14, 3) := dk_167 0 14 (dk_at dksX0_run_5 11 rfl rfl)
theorem dX0_run_120 : decode cX0_run 120 = .ok (.aload_n 2, 1) := dk_44 (dk_at dksX0_run_5 14 rfl rfl)
theorem dX0_run_121 : decode cX0_run 121 = .ok (.getfield 405, 3) := dk_180 1 149 (dk_at dksX0_run_5 15 rfl rfl)
theorem dX0_run_124 : decode cX0_run 124 = .ok (.invokevirtual 281, 3) := dk_182 1 25 (dk_at dksX0_run_5 18 rfl rfl)
theorem dX0_run_127 : decode cX0_run 127 = .ok (.goto 4, 3) := dk_167 0 4 (dk_at dksX0_run_5 21 rfl rfl)
theorem dX0_run_130 : decode cX0_run 130 = .ok (.iload_n 3, 1) := dk_29 (dk_at dksX0_run_6 0 rfl rfl)
theorem dX0_run_131 : decode cX0_run 131 = .ok (.ireturn, 1) := dk_172 (dk_at dksX0_run_6 1 rfl rfl)
abbrev cX0_step : ByteArray := prog_1_method_57_code
def yX0_step : MethodName := ⟨RX0, "step", "(II)I"⟩
def dkwX0_step_2 : List UInt8 := [28, 46, 167, 0, 5, 16, 157, 172]
abbrev dktX0_step_2 : List UInt8 := dkwX0_step_2 ++ []
def dkwX0_step_1 : List UInt8 := [78, 27, 45, 185, 1, 159, 1, 0, 162, 0, 21, 45, 27, 185, 1, 162, 2, 0, 192, 1, 142, 180, 1, 141]
abbrev dktX0_step_1 : List UInt8 := dkwX0_step_1 ++ dktX0_step_2
def dkwX0_step_0 : List UInt8 := [27, 155, 0, 10, 28, 184, 1, 134, 154, 0, 5, 2, 172, 187, 1, 115, 89, 42, 183, 1, 117, 180, 1, 155]
abbrev dktX0_step_0 : List UInt8 := dkwX0_step_0 ++ dktX0_step_1
theorem dksX0_step_0 : cX0_step.data.toList.drop 0 = dktX0_step_0 := by decide +kernel
theorem dksX0_step_1 : cX0_step.data.toList.drop 24 = dktX0_step_1 := dk_seg dksX0_step_0 24 rfl rfl
theorem dksX0_step_2 : cX0_step.data.toList.drop 48 = dktX0_step_2 := dk_seg dksX0_step_1 24 rfl rfl
theorem dX0_step_0 : decode cX0_step 0 = .ok (.iload_n 1, 1) := dk_27 (dk_at dksX0_step_0 0 rfl rfl)
theorem dX0_step_1 : decode cX0_step 1 = .ok (.ifCond .lt 10, 3) := dk_155 0 10 (dk_at dksX0_step_0 1 rfl rfl)
theorem dX0_step_4 : decode cX0_step 4 = .ok (.iload_n 2, 1) := dk_28 (dk_at dksX0_step_0 4 rfl rfl)
theorem dX0_step_5 : decode cX0_step 5 = .ok (.invokestatic 390, 3) := dk_184 1 134 (dk_at dksX0_step_0 5 rfl rfl)
theorem dX0_step_8 : decode cX0_step 8 = .ok (.ifCond .ne 5, 3) := dk_154 0 5 (dk_at dksX0_step_0 8 rfl rfl)
theorem dX0_step_11 : decode cX0_step 11 = .ok (.iconst (-1), 1) := dk_2 (dk_at dksX0_step_0 11 rfl rfl)
theorem dX0_step_12 : decode cX0_step 12 = .ok (.ireturn, 1) := dk_172 (dk_at dksX0_step_0 12 rfl rfl)
theorem dX0_step_13 : decode cX0_step 13 = .ok (.new 371, 3) := dk_187 1 115 (dk_at dksX0_step_0 13 rfl rfl)
theorem dX0_step_16 : decode cX0_step 16 = .ok (.dup, 1) := dk_89 (dk_at dksX0_step_0 16 rfl rfl)
theorem dX0_step_17 : decode cX0_step 17 = .ok (.aload_n 0, 1) := dk_42 (dk_at dksX0_step_0 17 rfl rfl)
theorem dX0_step_18 : decode cX0_step 18 = .ok (.invokespecial 373, 3) := dk_183 1 117 (dk_at dksX0_step_0 18 rfl rfl)
theorem dX0_step_21 : decode cX0_step 21 = .ok (.getfield 411, 3) := dk_180 1 155 (dk_at dksX0_step_0 21 rfl rfl)
theorem dX0_step_24 : decode cX0_step 24 = .ok (.astore_n 3, 1) := dk_78 (dk_at dksX0_step_1 0 rfl rfl)
theorem dX0_step_25 : decode cX0_step 25 = .ok (.iload_n 1, 1) := dk_27 (dk_at dksX0_step_1 1 rfl rfl)
theorem dX0_step_26 : decode cX0_step 26 = .ok (.aload_n 3, 1) := dk_45 (dk_at dksX0_step_1 2 rfl rfl)
theorem dX0_step_27 : decode cX0_step 27 = .ok (.invokeinterface 415 1, 5) := by decide +kernel
theorem dX0_step_32 : decode cX0_step 32 = .ok (.if_icmp .ge 21, 3) := dk_162 0 21 (dk_at dksX0_step_1 8 rfl rfl)
theorem dX0_step_35 : decode cX0_step 35 = .ok (.aload_n 3, 1) := dk_45 (dk_at dksX0_step_1 11 rfl rfl)
theorem dX0_step_36 : decode cX0_step 36 = .ok (.iload_n 1, 1) := dk_27 (dk_at dksX0_step_1 12 rfl rfl)
theorem dX0_step_37 : decode cX0_step 37 = .ok (.invokeinterface 418 2, 5) := by decide +kernel
theorem dX0_step_42 : decode cX0_step 42 = .ok (.checkcast 398, 3) := dk_192 1 142 (dk_at dksX0_step_1 18 rfl rfl)
theorem dX0_step_45 : decode cX0_step 45 = .ok (.getfield 397, 3) := dk_180 1 141 (dk_at dksX0_step_1 21 rfl rfl)
theorem dX0_step_48 : decode cX0_step 48 = .ok (.iload_n 2, 1) := dk_28 (dk_at dksX0_step_2 0 rfl rfl)
theorem dX0_step_49 : decode cX0_step 49 = .ok (.iaload, 1) := dk_46 (dk_at dksX0_step_2 1 rfl rfl)
theorem dX0_step_50 : decode cX0_step 50 = .ok (.goto 5, 3) := dk_167 0 5 (dk_at dksX0_step_2 2 rfl rfl)
theorem dX0_step_53 : decode cX0_step 53 = .ok (.bipush (-99), 2) := dk_16 157 (dk_at dksX0_step_2 5 rfl rfl)
theorem dX0_step_55 : decode cX0_step 55 = .ok (.ireturn, 1) := dk_172 (dk_at dksX0_step_2 7 rfl rfl)
abbrev cX0_rank : ByteArray := prog_1_method_58_code
def yX0_rank : MethodName := ⟨RX0, "rank", "(I)I"⟩
def dkwX0_rank_0 : List UInt8 := [27, 156, 0, 7, 2, 167, 0, 15, 187, 1, 115, 89, 42, 183, 1, 117, 27, 182, 1, 171, 172]
abbrev dktX0_rank_0 : List UInt8 := dkwX0_rank_0 ++ []
theorem dksX0_rank_0 : cX0_rank.data.toList.drop 0 = dktX0_rank_0 := by decide +kernel
theorem dX0_rank_0 : decode cX0_rank 0 = .ok (.iload_n 1, 1) := dk_27 (dk_at dksX0_rank_0 0 rfl rfl)
theorem dX0_rank_1 : decode cX0_rank 1 = .ok (.ifCond .ge 7, 3) := dk_156 0 7 (dk_at dksX0_rank_0 1 rfl rfl)
theorem dX0_rank_4 : decode cX0_rank 4 = .ok (.iconst (-1), 1) := dk_2 (dk_at dksX0_rank_0 4 rfl rfl)
theorem dX0_rank_5 : decode cX0_rank 5 = .ok (.goto 15, 3) := dk_167 0 15 (dk_at dksX0_rank_0 5 rfl rfl)
theorem dX0_rank_8 : decode cX0_rank 8 = .ok (.new 371, 3) := dk_187 1 115 (dk_at dksX0_rank_0 8 rfl rfl)
theorem dX0_rank_11 : decode cX0_rank 11 = .ok (.dup, 1) := dk_89 (dk_at dksX0_rank_0 11 rfl rfl)
theorem dX0_rank_12 : decode cX0_rank 12 = .ok (.aload_n 0, 1) := dk_42 (dk_at dksX0_rank_0 12 rfl rfl)
theorem dX0_rank_13 : decode cX0_rank 13 = .ok (.invokespecial 373, 3) := dk_183 1 117 (dk_at dksX0_rank_0 13 rfl rfl)
theorem dX0_rank_16 : decode cX0_rank 16 = .ok (.iload_n 1, 1) := dk_27 (dk_at dksX0_rank_0 16 rfl rfl)
theorem dX0_rank_17 : decode cX0_rank 17 = .ok (.invokevirtual 427, 3) := dk_182 1 171 (dk_at dksX0_rank_0 17 rfl rfl)
theorem dX0_rank_20 : decode cX0_rank 20 = .ok (.ireturn, 1) := dk_172 (dk_at dksX0_rank_0 20 rfl rfl)
abbrev cX0_suppose : ByteArray := prog_1_method_59_code
def yX0_suppose : MethodName := ⟨RX0, "suppose", "(III)I"⟩
def dkwX0_suppose_3 : List UInt8 := [182, 0, 238, 54, 5, 29, 154, 0, 11, 25, 4, 182, 1, 152, 167, 0, 5, 21, 5, 172]
abbrev dktX0_suppose_3 : List UInt8 := dkwX0_suppose_3 ++ []
def dkwX0_suppose_2 : List UInt8 := [180, 1, 81, 27, 4, 28, 120, 79, 42, 180, 0, 54, 25, 4, 42, 182, 0, 185, 180, 0, 187, 18, 237]
abbrev dktX0_suppose_2 : List UInt8 := dkwX0_suppose_2 ++ dktX0_suppose_3
def dkwX0_suppose_1 : List UInt8 := [27, 28, 182, 1, 5, 154, 0, 6, 16, 254, 172, 42, 182, 1, 2, 182, 1, 174, 58, 4, 25, 4]
abbrev dktX0_suppose_1 : List UInt8 := dkwX0_suppose_1 ++ dktX0_suppose_2
def dkwX0_suppose_0 : List UInt8 := [42, 27, 28, 182, 1, 12, 153, 0, 12, 29, 3, 4, 184, 0, 90, 154, 0, 5, 2, 172, 42, 182, 1, 2]
abbrev dktX0_suppose_0 : List UInt8 := dkwX0_suppose_0 ++ dktX0_suppose_1
theorem dksX0_suppose_0 : cX0_suppose.data.toList.drop 0 = dktX0_suppose_0 := by decide +kernel
theorem dksX0_suppose_1 : cX0_suppose.data.toList.drop 24 = dktX0_suppose_1 := dk_seg dksX0_suppose_0 24 rfl rfl
theorem dksX0_suppose_2 : cX0_suppose.data.toList.drop 46 = dktX0_suppose_2 := dk_seg dksX0_suppose_1 22 rfl rfl
theorem dksX0_suppose_3 : cX0_suppose.data.toList.drop 69 = dktX0_suppose_3 := dk_seg dksX0_suppose_2 23 rfl rfl
theorem dX0_suppose_0 : decode cX0_suppose 0 = .ok (.aload_n 0, 1) := dk_42 (dk_at dksX0_suppose_0 0 rfl rfl)
theorem dX0_suppose_1 : decode cX0_suppose 1 = .ok (.iload_n 1, 1) := dk_27 (dk_at dksX0_suppose_0 1 rfl rfl)
theorem dX0_suppose_2 : decode cX0_suppose 2 = .ok (.iload_n 2, 1) := dk_28 (dk_at dksX0_suppose_0 2 rfl rfl)
theorem dX0_suppose_3 : decode cX0_suppose 3 = .ok (.invokevirtual 268, 3) := dk_182 1 12 (dk_at dksX0_suppose_0 3 rfl rfl)
theorem dX0_suppose_6 : decode cX0_suppose 6 = .ok (.ifCond .eq 12, 3) := dk_153 0 12 (dk_at dksX0_suppose_0 6 rfl rfl)
theorem dX0_suppose_9 : decode cX0_suppose 9 = .ok (.iload_n 3, 1) := dk_29 (dk_at dksX0_suppose_0 9 rfl rfl)
theorem dX0_suppose_10 : decode cX0_suppose 10 = .ok (.iconst 0, 1) := dk_3 (dk_at dksX0_suppose_0 10 rfl rfl)
theorem dX0_suppose_11 : decode cX0_suppose 11 = .ok (.iconst 1, 1) := dk_4 (dk_at dksX0_suppose_0 11 rfl rfl)
theorem dX0_suppose_12 : decode cX0_suppose 12 = .ok (.invokestatic 90, 3) := dk_184 0 90 (dk_at dksX0_suppose_0 12 rfl rfl)
theorem dX0_suppose_15 : decode cX0_suppose 15 = .ok (.ifCond .ne 5, 3) := dk_154 0 5 (dk_at dksX0_suppose_0 15 rfl rfl)
theorem dX0_suppose_18 : decode cX0_suppose 18 = .ok (.iconst (-1), 1) := dk_2 (dk_at dksX0_suppose_0 18 rfl rfl)
theorem dX0_suppose_19 : decode cX0_suppose 19 = .ok (.ireturn, 1) := dk_172 (dk_at dksX0_suppose_0 19 rfl rfl)
theorem dX0_suppose_20 : decode cX0_suppose 20 = .ok (.aload_n 0, 1) := dk_42 (dk_at dksX0_suppose_0 20 rfl rfl)
theorem dX0_suppose_21 : decode cX0_suppose 21 = .ok (.invokevirtual 258, 3) := dk_182 1 2 (dk_at dksX0_suppose_0 21 rfl rfl)
theorem dX0_suppose_24 : decode cX0_suppose 24 = .ok (.iload_n 1, 1) := dk_27 (dk_at dksX0_suppose_1 0 rfl rfl)
theorem dX0_suppose_25 : decode cX0_suppose 25 = .ok (.iload_n 2, 1) := dk_28 (dk_at dksX0_suppose_1 1 rfl rfl)
theorem dX0_suppose_26 : decode cX0_suppose 26 = .ok (.invokevirtual 261, 3) := dk_182 1 5 (dk_at dksX0_suppose_1 2 rfl rfl)
theorem dX0_suppose_29 : decode cX0_suppose 29 = .ok (.ifCond .ne 6, 3) := dk_154 0 6 (dk_at dksX0_suppose_1 5 rfl rfl)
theorem dX0_suppose_32 : decode cX0_suppose 32 = .ok (.bipush (-2), 2) := dk_16 254 (dk_at dksX0_suppose_1 8 rfl rfl)
theorem dX0_suppose_34 : decode cX0_suppose 34 = .ok (.ireturn, 1) := dk_172 (dk_at dksX0_suppose_1 10 rfl rfl)
theorem dX0_suppose_35 : decode cX0_suppose 35 = .ok (.aload_n 0, 1) := dk_42 (dk_at dksX0_suppose_1 11 rfl rfl)
theorem dX0_suppose_36 : decode cX0_suppose 36 = .ok (.invokevirtual 258, 3) := dk_182 1 2 (dk_at dksX0_suppose_1 12 rfl rfl)
theorem dX0_suppose_39 : decode cX0_suppose 39 = .ok (.invokevirtual 430, 3) := dk_182 1 174 (dk_at dksX0_suppose_1 15 rfl rfl)
theorem dX0_suppose_42 : decode cX0_suppose 42 = .ok (.astore 4, 2) := dk_58 4 (dk_at dksX0_suppose_1 18 rfl rfl)
theorem dX0_suppose_44 : decode cX0_suppose 44 = .ok (.aload 4, 2) := dk_25 4 (dk_at dksX0_suppose_1 20 rfl rfl)
theorem dX0_suppose_46 : decode cX0_suppose 46 = .ok (.getfield 337, 3) := dk_180 1 81 (dk_at dksX0_suppose_2 0 rfl rfl)
theorem dX0_suppose_49 : decode cX0_suppose 49 = .ok (.iload_n 1, 1) := dk_27 (dk_at dksX0_suppose_2 3 rfl rfl)
theorem dX0_suppose_50 : decode cX0_suppose 50 = .ok (.iconst 1, 1) := dk_4 (dk_at dksX0_suppose_2 4 rfl rfl)
theorem dX0_suppose_51 : decode cX0_suppose 51 = .ok (.iload_n 2, 1) := dk_28 (dk_at dksX0_suppose_2 5 rfl rfl)
theorem dX0_suppose_52 : decode cX0_suppose 52 = .ok (.ishl, 1) := dk_120 (dk_at dksX0_suppose_2 6 rfl rfl)
theorem dX0_suppose_53 : decode cX0_suppose 53 = .ok (.iastore, 1) := dk_79 (dk_at dksX0_suppose_2 7 rfl rfl)
theorem dX0_suppose_54 : decode cX0_suppose 54 = .ok (.aload_n 0, 1) := dk_42 (dk_at dksX0_suppose_2 8 rfl rfl)
theorem dX0_suppose_55 : decode cX0_suppose 55 = .ok (.getfield 54, 3) := dk_180 0 54 (dk_at dksX0_suppose_2 9 rfl rfl)
theorem dX0_suppose_58 : decode cX0_suppose 58 = .ok (.aload 4, 2) := dk_25 4 (dk_at dksX0_suppose_2 12 rfl rfl)
theorem dX0_suppose_60 : decode cX0_suppose 60 = .ok (.aload_n 0, 1) := dk_42 (dk_at dksX0_suppose_2 14 rfl rfl)
theorem dX0_suppose_61 : decode cX0_suppose 61 = .ok (.invokevirtual 185, 3) := dk_182 0 185 (dk_at dksX0_suppose_2 15 rfl rfl)
theorem dX0_suppose_64 : decode cX0_suppose 64 = .ok (.getfield 187, 3) := dk_180 0 187 (dk_at dksX0_suppose_2 18 rfl rfl)
theorem dX0_suppose_67 : decode cX0_suppose 67 = .ok (.ldc 237, 2) := dk_18 237 (dk_at dksX0_suppose_2 21 rfl rfl)
theorem dX0_suppose_69 : decode cX0_suppose 69 = .ok (.invokevirtual 238, 3) := dk_182 0 238 (dk_at dksX0_suppose_3 0 rfl rfl)
theorem dX0_suppose_72 : decode cX0_suppose 72 = .ok (.istore 5, 2) := dk_54 5 (dk_at dksX0_suppose_3 3 rfl rfl)
theorem dX0_suppose_74 : decode cX0_suppose 74 = .ok (.iload_n 3, 1) := dk_29 (dk_at dksX0_suppose_3 5 rfl rfl)
theorem dX0_suppose_75 : decode cX0_suppose 75 = .ok (.ifCond .ne 11, 3) := dk_154 0 11 (dk_at dksX0_suppose_3 6 rfl rfl)
theorem dX0_suppose_78 : decode cX0_suppose 78 = .ok (.aload 4, 2) := dk_25 4 (dk_at dksX0_suppose_3 9 rfl rfl)
theorem dX0_suppose_80 : decode cX0_suppose 80 = .ok (.invokevirtual 408, 3) := dk_182 1 152 (dk_at dksX0_suppose_3 11 rfl rfl)
theorem dX0_suppose_83 : decode cX0_suppose 83 = .ok (.goto 5, 3) := dk_167 0 5 (dk_at dksX0_suppose_3 14 rfl rfl)
theorem dX0_suppose_86 : decode cX0_suppose 86 = .ok (.iload 5, 2) := dk_21 5 (dk_at dksX0_suppose_3 17 rfl rfl)
theorem dX0_suppose_88 : decode cX0_suppose 88 = .ok (.ireturn, 1) := dk_172 (dk_at dksX0_suppose_3 19 rfl rfl)
abbrev cX0_needed : ByteArray := prog_1_method_60_code
def yX0_needed : MethodName := ⟨RX0, "needed", "(II)I"⟩
def dkwX0_needed_2 : List UInt8 := [78, 45, 27, 28, 3, 182, 0, 175, 42, 45, 182, 0, 194, 153, 0, 7, 3, 167, 0, 4, 4, 172]
abbrev dktX0_needed_2 : List UInt8 := dkwX0_needed_2 ++ []
def dkwX0_needed_1 : List UInt8 := [153, 0, 14, 42, 42, 182, 0, 122, 182, 0, 194, 154, 0, 6, 16, 254, 172, 42, 182, 0, 122, 182, 1, 176]
abbrev dktX0_needed_1 : List UInt8 := dkwX0_needed_1 ++ dktX0_needed_2
def dkwX0_needed_0 : List UInt8 := [42, 182, 0, 122, 27, 28, 182, 0, 169, 154, 0, 5, 2, 172, 42, 182, 0, 122, 27, 28, 182, 0, 211]
abbrev dktX0_needed_0 : List UInt8 := dkwX0_needed_0 ++ dktX0_needed_1
theorem dksX0_needed_0 : cX0_needed.data.toList.drop 0 = dktX0_needed_0 := by decide +kernel
theorem dksX0_needed_1 : cX0_needed.data.toList.drop 23 = dktX0_needed_1 := dk_seg dksX0_needed_0 23 rfl rfl
theorem dksX0_needed_2 : cX0_needed.data.toList.drop 47 = dktX0_needed_2 := dk_seg dksX0_needed_1 24 rfl rfl
theorem dX0_needed_0 : decode cX0_needed 0 = .ok (.aload_n 0, 1) := dk_42 (dk_at dksX0_needed_0 0 rfl rfl)
theorem dX0_needed_1 : decode cX0_needed 1 = .ok (.invokevirtual 122, 3) := dk_182 0 122 (dk_at dksX0_needed_0 1 rfl rfl)
theorem dX0_needed_4 : decode cX0_needed 4 = .ok (.iload_n 1, 1) := dk_27 (dk_at dksX0_needed_0 4 rfl rfl)
theorem dX0_needed_5 : decode cX0_needed 5 = .ok (.iload_n 2, 1) := dk_28 (dk_at dksX0_needed_0 5 rfl rfl)
theorem dX0_needed_6 : decode cX0_needed 6 = .ok (.invokevirtual 169, 3) := dk_182 0 169 (dk_at dksX0_needed_0 6 rfl rfl)
theorem dX0_needed_9 : decode cX0_needed 9 = .ok (.ifCond .ne 5, 3) := dk_154 0 5 (dk_at dksX0_needed_0 9 rfl rfl)
theorem dX0_needed_12 : decode cX0_needed 12 = .ok (.iconst (-1), 1) := dk_2 (dk_at dksX0_needed_0 12 rfl rfl)
theorem dX0_needed_13 : decode cX0_needed 13 = .ok (.ireturn, 1) := dk_172 (dk_at dksX0_needed_0 13 rfl rfl)
theorem dX0_needed_14 : decode cX0_needed 14 = .ok (.aload_n 0, 1) := dk_42 (dk_at dksX0_needed_0 14 rfl rfl)
theorem dX0_needed_15 : decode cX0_needed 15 = .ok (.invokevirtual 122, 3) := dk_182 0 122 (dk_at dksX0_needed_0 15 rfl rfl)
theorem dX0_needed_18 : decode cX0_needed 18 = .ok (.iload_n 1, 1) := dk_27 (dk_at dksX0_needed_0 18 rfl rfl)
theorem dX0_needed_19 : decode cX0_needed 19 = .ok (.iload_n 2, 1) := dk_28 (dk_at dksX0_needed_0 19 rfl rfl)
theorem dX0_needed_20 : decode cX0_needed 20 = .ok (.invokevirtual 211, 3) := dk_182 0 211 (dk_at dksX0_needed_0 20 rfl rfl)
theorem dX0_needed_23 : decode cX0_needed 23 = .ok (.ifCond .eq 14, 3) := dk_153 0 14 (dk_at dksX0_needed_1 0 rfl rfl)
theorem dX0_needed_26 : decode cX0_needed 26 = .ok (.aload_n 0, 1) := dk_42 (dk_at dksX0_needed_1 3 rfl rfl)
theorem dX0_needed_27 : decode cX0_needed 27 = .ok (.aload_n 0, 1) := dk_42 (dk_at dksX0_needed_1 4 rfl rfl)
theorem dX0_needed_28 : decode cX0_needed 28 = .ok (.invokevirtual 122, 3) := dk_182 0 122 (dk_at dksX0_needed_1 5 rfl rfl)
theorem dX0_needed_31 : decode cX0_needed 31 = .ok (.invokevirtual 194, 3) := dk_182 0 194 (dk_at dksX0_needed_1 8 rfl rfl)
theorem dX0_needed_34 : decode cX0_needed 34 = .ok (.ifCond .ne 6, 3) := dk_154 0 6 (dk_at dksX0_needed_1 11 rfl rfl)
theorem dX0_needed_37 : decode cX0_needed 37 = .ok (.bipush (-2), 2) := dk_16 254 (dk_at dksX0_needed_1 14 rfl rfl)
theorem dX0_needed_39 : decode cX0_needed 39 = .ok (.ireturn, 1) := dk_172 (dk_at dksX0_needed_1 16 rfl rfl)
theorem dX0_needed_40 : decode cX0_needed 40 = .ok (.aload_n 0, 1) := dk_42 (dk_at dksX0_needed_1 17 rfl rfl)
theorem dX0_needed_41 : decode cX0_needed 41 = .ok (.invokevirtual 122, 3) := dk_182 0 122 (dk_at dksX0_needed_1 18 rfl rfl)
theorem dX0_needed_44 : decode cX0_needed 44 = .ok (.invokevirtual 432, 3) := dk_182 1 176 (dk_at dksX0_needed_1 21 rfl rfl)
theorem dX0_needed_47 : decode cX0_needed 47 = .ok (.astore_n 3, 1) := dk_78 (dk_at dksX0_needed_2 0 rfl rfl)
theorem dX0_needed_48 : decode cX0_needed 48 = .ok (.aload_n 3, 1) := dk_45 (dk_at dksX0_needed_2 1 rfl rfl)
theorem dX0_needed_49 : decode cX0_needed 49 = .ok (.iload_n 1, 1) := dk_27 (dk_at dksX0_needed_2 2 rfl rfl)
theorem dX0_needed_50 : decode cX0_needed 50 = .ok (.iload_n 2, 1) := dk_28 (dk_at dksX0_needed_2 3 rfl rfl)
theorem dX0_needed_51 : decode cX0_needed 51 = .ok (.iconst 0, 1) := dk_3 (dk_at dksX0_needed_2 4 rfl rfl)
theorem dX0_needed_52 : decode cX0_needed 52 = .ok (.invokevirtual 175, 3) := dk_182 0 175 (dk_at dksX0_needed_2 5 rfl rfl)
theorem dX0_needed_55 : decode cX0_needed 55 = .ok (.aload_n 0, 1) := dk_42 (dk_at dksX0_needed_2 8 rfl rfl)
theorem dX0_needed_56 : decode cX0_needed 56 = .ok (.aload_n 3, 1) := dk_45 (dk_at dksX0_needed_2 9 rfl rfl)
theorem dX0_needed_57 : decode cX0_needed 57 = .ok (.invokevirtual 194, 3) := dk_182 0 194 (dk_at dksX0_needed_2 10 rfl rfl)
theorem dX0_needed_60 : decode cX0_needed 60 = .ok (.ifCond .eq 7, 3) := dk_153 0 7 (dk_at dksX0_needed_2 13 rfl rfl)
theorem dX0_needed_63 : decode cX0_needed 63 = .ok (.iconst 0, 1) := dk_3 (dk_at dksX0_needed_2 16 rfl rfl)
theorem dX0_needed_64 : decode cX0_needed 64 = .ok (.goto 4, 3) := dk_167 0 4 (dk_at dksX0_needed_2 17 rfl rfl)
theorem dX0_needed_67 : decode cX0_needed 67 = .ok (.iconst 1, 1) := dk_4 (dk_at dksX0_needed_2 20 rfl rfl)
theorem dX0_needed_68 : decode cX0_needed 68 = .ok (.ireturn, 1) := dk_172 (dk_at dksX0_needed_2 21 rfl rfl)
abbrev cX0_enough : ByteArray := prog_1_method_61_code
def yX0_enough : MethodName := ⟨RX0, "enough", "()I"⟩
def dkwX0_enough_6 : List UInt8 := [192, 0, 4, 182, 1, 188, 172]
abbrev dktX0_enough_6 : List UInt8 := dkwX0_enough_6 ++ []
def dkwX0_enough_5 : List UInt8 := [132, 2, 1, 167, 255, 152, 43, 182, 1, 184, 153, 0, 8, 16, 157, 167, 0, 13, 43, 182, 1, 185]
abbrev dktX0_enough_5 : List UInt8 := dkwX0_enough_5 ++ dktX0_enough_6
def dkwX0_enough_4 : List UInt8 := [182, 0, 190, 153, 0, 20, 43, 28, 184, 1, 191, 28, 184, 1, 191, 182, 1, 195, 192, 0, 4, 58, 5]
abbrev dktX0_enough_4 : List UInt8 := dkwX0_enough_4 ++ dktX0_enough_5
def dkwX0_enough_3 : List UInt8 := [167, 0, 4, 3, 54, 4, 29, 153, 0, 40, 21, 4, 153, 0, 35, 42, 180, 0, 54, 42, 182, 0, 122, 28]
abbrev dktX0_enough_3 : List UInt8 := dkwX0_enough_3 ++ dktX0_enough_4
def dkwX0_enough_2 : List UInt8 := [154, 0, 23, 28, 184, 0, 252, 43, 182, 1, 185, 192, 0, 4, 182, 1, 188, 184, 0, 252, 163, 0, 7, 4]
abbrev dktX0_enough_2 : List UInt8 := dkwX0_enough_2 ++ dktX0_enough_3
def dkwX0_enough_1 : List UInt8 := [28, 42, 182, 0, 185, 180, 0, 187, 2, 130, 126, 154, 0, 7, 4, 167, 0, 4, 3, 62, 43, 182, 1, 184]
abbrev dktX0_enough_1 : List UInt8 := dkwX0_enough_1 ++ dktX0_enough_2
def dkwX0_enough_0 : List UInt8 := [187, 1, 178, 89, 187, 1, 180, 89, 42, 183, 1, 182, 183, 1, 183, 76, 3, 61, 28, 16, 31, 163, 0, 104]
abbrev dktX0_enough_0 : List UInt8 := dkwX0_enough_0 ++ dktX0_enough_1
theorem dksX0_enough_0 : cX0_enough.data.toList.drop 0 = dktX0_enough_0 := by decide +kernel
theorem dksX0_enough_1 : cX0_enough.data.toList.drop 24 = dktX0_enough_1 := dk_seg dksX0_enough_0 24 rfl rfl
theorem dksX0_enough_2 : cX0_enough.data.toList.drop 48 = dktX0_enough_2 := dk_seg dksX0_enough_1 24 rfl rfl
theorem dksX0_enough_3 : cX0_enough.data.toList.drop 72 = dktX0_enough_3 := dk_seg dksX0_enough_2 24 rfl rfl
theorem dksX0_enough_4 : cX0_enough.data.toList.drop 96 = dktX0_enough_4 := dk_seg dksX0_enough_3 24 rfl rfl
theorem dksX0_enough_5 : cX0_enough.data.toList.drop 119 = dktX0_enough_5 := dk_seg dksX0_enough_4 23 rfl rfl
theorem dksX0_enough_6 : cX0_enough.data.toList.drop 141 = dktX0_enough_6 := dk_seg dksX0_enough_5 22 rfl rfl
theorem dX0_enough_0 : decode cX0_enough 0 = .ok (.new 434, 3) := dk_187 1 178 (dk_at dksX0_enough_0 0 rfl rfl)
theorem dX0_enough_3 : decode cX0_enough 3 = .ok (.dup, 1) := dk_89 (dk_at dksX0_enough_0 3 rfl rfl)
theorem dX0_enough_4 : decode cX0_enough 4 = .ok (.new 436, 3) := dk_187 1 180 (dk_at dksX0_enough_0 4 rfl rfl)
theorem dX0_enough_7 : decode cX0_enough 7 = .ok (.dup, 1) := dk_89 (dk_at dksX0_enough_0 7 rfl rfl)
theorem dX0_enough_8 : decode cX0_enough 8 = .ok (.aload_n 0, 1) := dk_42 (dk_at dksX0_enough_0 8 rfl rfl)
theorem dX0_enough_9 : decode cX0_enough 9 = .ok (.invokespecial 438, 3) := dk_183 1 182 (dk_at dksX0_enough_0 9 rfl rfl)
theorem dX0_enough_12 : decode cX0_enough 12 = .ok (.invokespecial 439, 3) := dk_183 1 183 (dk_at dksX0_enough_0 12 rfl rfl)
theorem dX0_enough_15 : decode cX0_enough 15 = .ok (.astore_n 1, 1) := dk_76 (dk_at dksX0_enough_0 15 rfl rfl)
theorem dX0_enough_16 : decode cX0_enough 16 = .ok (.iconst 0, 1) := dk_3 (dk_at dksX0_enough_0 16 rfl rfl)
theorem dX0_enough_17 : decode cX0_enough 17 = .ok (.istore_n 2, 1) := dk_61 (dk_at dksX0_enough_0 17 rfl rfl)
theorem dX0_enough_18 : decode cX0_enough 18 = .ok (.iload_n 2, 1) := dk_28 (dk_at dksX0_enough_0 18 rfl rfl)
theorem dX0_enough_19 : decode cX0_enough 19 = .ok (.bipush 31, 2) := dk_16 31 (dk_at dksX0_enough_0 19 rfl rfl)
theorem dX0_enough_21 : decode cX0_enough 21 = .ok (.if_icmp .gt 104, 3) := dk_163 0 104 (dk_at dksX0_enough_0 21 rfl rfl)
theorem dX0_enough_24 : decode cX0_enough 24 = .ok (.iload_n 2, 1) := dk_28 (dk_at dksX0_enough_1 0 rfl rfl)
theorem dX0_enough_25 : decode cX0_enough 25 = .ok (.aload_n 0, 1) := dk_42 (dk_at dksX0_enough_1 1 rfl rfl)
theorem dX0_enough_26 : decode cX0_enough 26 = .ok (.invokevirtual 185, 3) := dk_182 0 185 (dk_at dksX0_enough_1 2 rfl rfl)
theorem dX0_enough_29 : decode cX0_enough 29 = .ok (.getfield 187, 3) := dk_180 0 187 (dk_at dksX0_enough_1 5 rfl rfl)
theorem dX0_enough_32 : decode cX0_enough 32 = .ok (.iconst (-1), 1) := dk_2 (dk_at dksX0_enough_1 8 rfl rfl)
theorem dX0_enough_33 : decode cX0_enough 33 = .ok (.ixor, 1) := dk_130 (dk_at dksX0_enough_1 9 rfl rfl)
theorem dX0_enough_34 : decode cX0_enough 34 = .ok (.iand, 1) := dk_126 (dk_at dksX0_enough_1 10 rfl rfl)
theorem dX0_enough_35 : decode cX0_enough 35 = .ok (.ifCond .ne 7, 3) := dk_154 0 7 (dk_at dksX0_enough_1 11 rfl rfl)
theorem dX0_enough_38 : decode cX0_enough 38 = .ok (.iconst 1, 1) := dk_4 (dk_at dksX0_enough_1 14 rfl rfl)
theorem dX0_enough_39 : decode cX0_enough 39 = .ok (.goto 4, 3) := dk_167 0 4 (dk_at dksX0_enough_1 15 rfl rfl)
theorem dX0_enough_42 : decode cX0_enough 42 = .ok (.iconst 0, 1) := dk_3 (dk_at dksX0_enough_1 18 rfl rfl)
theorem dX0_enough_43 : decode cX0_enough 43 = .ok (.istore_n 3, 1) := dk_62 (dk_at dksX0_enough_1 19 rfl rfl)
theorem dX0_enough_44 : decode cX0_enough 44 = .ok (.aload_n 1, 1) := dk_43 (dk_at dksX0_enough_1 20 rfl rfl)
theorem dX0_enough_45 : decode cX0_enough 45 = .ok (.invokevirtual 440, 3) := dk_182 1 184 (dk_at dksX0_enough_1 21 rfl rfl)
theorem dX0_enough_48 : decode cX0_enough 48 = .ok (.ifCond .ne 23, 3) := dk_154 0 23 (dk_at dksX0_enough_2 0 rfl rfl)
theorem dX0_enough_51 : decode cX0_enough 51 = .ok (.iload_n 2, 1) := dk_28 (dk_at dksX0_enough_2 3 rfl rfl)
theorem dX0_enough_52 : decode cX0_enough 52 = .ok (.invokestatic 252, 3) := dk_184 0 252 (dk_at dksX0_enough_2 4 rfl rfl)
theorem dX0_enough_55 : decode cX0_enough 55 = .ok (.aload_n 1, 1) := dk_43 (dk_at dksX0_enough_2 7 rfl rfl)
theorem dX0_enough_56 : decode cX0_enough 56 = .ok (.invokevirtual 441, 3) := dk_182 1 185 (dk_at dksX0_enough_2 8 rfl rfl)
theorem dX0_enough_59 : decode cX0_enough 59 = .ok (.checkcast 4, 3) := dk_192 0 4 (dk_at dksX0_enough_2 11 rfl rfl)
theorem dX0_enough_62 : decode cX0_enough 62 = .ok (.invokevirtual 444, 3) := dk_182 1 188 (dk_at dksX0_enough_2 14 rfl rfl)
theorem dX0_enough_65 : decode cX0_enough 65 = .ok (.invokestatic 252, 3) := dk_184 0 252 (dk_at dksX0_enough_2 17 rfl rfl)
theorem dX0_enough_68 : decode cX0_enough 68 = .ok (.if_icmp .gt 7, 3) := dk_163 0 7 (dk_at dksX0_enough_2 20 rfl rfl)
theorem dX0_enough_71 : decode cX0_enough 71 = .ok (.iconst 1, 1) := dk_4 (dk_at dksX0_enough_2 23 rfl rfl)
theorem dX0_enough_72 : decode cX0_enough 72 = .ok (.goto 4, 3) := dk_167 0 4 (dk_at dksX0_enough_3 0 rfl rfl)
theorem dX0_enough_75 : decode cX0_enough 75 = .ok (.iconst 0, 1) := dk_3 (dk_at dksX0_enough_3 3 rfl rfl)
theorem dX0_enough_76 : decode cX0_enough 76 = .ok (.istore 4, 2) := dk_54 4 (dk_at dksX0_enough_3 4 rfl rfl)
theorem dX0_enough_78 : decode cX0_enough 78 = .ok (.iload_n 3, 1) := dk_29 (dk_at dksX0_enough_3 6 rfl rfl)
theorem dX0_enough_79 : decode cX0_enough 79 = .ok (.ifCond .eq 40, 3) := dk_153 0 40 (dk_at dksX0_enough_3 7 rfl rfl)
theorem dX0_enough_82 : decode cX0_enough 82 = .ok (.iload 4, 2) := dk_21 4 (dk_at dksX0_enough_3 10 rfl rfl)
theorem dX0_enough_84 : decode cX0_enough 84 = .ok (.ifCond .eq 35, 3) := dk_153 0 35 (dk_at dksX0_enough_3 12 rfl rfl)
theorem dX0_enough_87 : decode cX0_enough 87 = .ok (.aload_n 0, 1) := dk_42 (dk_at dksX0_enough_3 15 rfl rfl)
theorem dX0_enough_88 : decode cX0_enough 88 = .ok (.getfield 54, 3) := dk_180 0 54 (dk_at dksX0_enough_3 16 rfl rfl)
theorem dX0_enough_91 : decode cX0_enough 91 = .ok (.aload_n 0, 1) := dk_42 (dk_at dksX0_enough_3 19 rfl rfl)
theorem dX0_enough_92 : decode cX0_enough 92 = .ok (.invokevirtual 122, 3) := dk_182 0 122 (dk_at dksX0_enough_3 20 rfl rfl)
theorem dX0_enough_95 : decode cX0_enough 95 = .ok (.iload_n 2, 1) := dk_28 (dk_at dksX0_enough_3 23 rfl rfl)
theorem dX0_enough_96 : decode cX0_enough 96 = .ok (.invokevirtual 190, 3) := dk_182 0 190 (dk_at dksX0_enough_4 0 rfl rfl)
theorem dX0_enough_99 : decode cX0_enough 99 = .ok (.ifCond .eq 20, 3) := dk_153 0 20 (dk_at dksX0_enough_4 3 rfl rfl)
theorem dX0_enough_102 : decode cX0_enough 102 = .ok (.aload_n 1, 1) := dk_43 (dk_at dksX0_enough_4 6 rfl rfl)
theorem dX0_enough_103 : decode cX0_enough 103 = .ok (.iload_n 2, 1) := dk_28 (dk_at dksX0_enough_4 7 rfl rfl)
theorem dX0_enough_104 : decode cX0_enough 104 = .ok (.invokestatic 447, 3) := dk_184 1 191 (dk_at dksX0_enough_4 8 rfl rfl)
theorem dX0_enough_107 : decode cX0_enough 107 = .ok (.iload_n 2, 1) := dk_28 (dk_at dksX0_enough_4 11 rfl rfl)
theorem dX0_enough_108 : decode cX0_enough 108 = .ok (.invokestatic 447, 3) := dk_184 1 191 (dk_at dksX0_enough_4 12 rfl rfl)
theorem dX0_enough_111 : decode cX0_enough 111 = .ok (.invokevirtual 451, 3) := dk_182 1 195 (dk_at dksX0_enough_4 15 rfl rfl)
theorem dX0_enough_114 : decode cX0_enough 114 = .ok (.checkcast 4, 3) := dk_192 0 4 (dk_at dksX0_enough_4 18 rfl rfl)
theorem dX0_enough_117 : decode cX0_enough 117 = .ok (.astore 5, 2) := dk_58 5 (dk_at dksX0_enough_4 21 rfl rfl)
theorem dX0_enough_119 : decode cX0_enough 119 = .ok (.iinc 2 1, 3) := dk_132 2 1 (dk_at dksX0_enough_5 0 rfl rfl)
theorem dX0_enough_122 : decode cX0_enough 122 = .ok (.goto (-104), 3) := dk_167 255 152 (dk_at dksX0_enough_5 3 rfl rfl)
theorem dX0_enough_125 : decode cX0_enough 125 = .ok (.aload_n 1, 1) := dk_43 (dk_at dksX0_enough_5 6 rfl rfl)
theorem dX0_enough_126 : decode cX0_enough 126 = .ok (.invokevirtual 440, 3) := dk_182 1 184 (dk_at dksX0_enough_5 7 rfl rfl)
theorem dX0_enough_129 : decode cX0_enough 129 = .ok (.ifCond .eq 8, 3) := dk_153 0 8 (dk_at dksX0_enough_5 10 rfl rfl)
theorem dX0_enough_132 : decode cX0_enough 132 = .ok (.bipush (-99), 2) := dk_16 157 (dk_at dksX0_enough_5 13 rfl rfl)
theorem dX0_enough_134 : decode cX0_enough 134 = .ok (.goto 13, 3) := dk_167 0 13 (dk_at dksX0_enough_5 15 rfl rfl)
theorem dX0_enough_137 : decode cX0_enough 137 = .ok (.aload_n 1, 1) := dk_43 (dk_at dksX0_enough_5 18 rfl rfl)
theorem dX0_enough_138 : decode cX0_enough 138 = .ok (.invokevirtual 441, 3) := dk_182 1 185 (dk_at dksX0_enough_5 19 rfl rfl)
theorem dX0_enough_141 : decode cX0_enough 141 = .ok (.checkcast 4, 3) := dk_192 0 4 (dk_at dksX0_enough_6 0 rfl rfl)
theorem dX0_enough_144 : decode cX0_enough 144 = .ok (.invokevirtual 444, 3) := dk_182 1 188 (dk_at dksX0_enough_6 3 rfl rfl)
theorem dX0_enough_147 : decode cX0_enough 147 = .ok (.ireturn, 1) := dk_172 (dk_at dksX0_enough_6 6 rfl rfl)
abbrev cX0_printed : ByteArray := prog_1_method_64_code
def yX0_printed : MethodName := ⟨RX0, "printed", "(II)I"⟩
def dkwX0_printed_2 : List UInt8 := [16, 157, 172]
abbrev dktX0_printed_2 : List UInt8 := dkwX0_printed_2 ++ []
def dkwX0_printed_1 : List UInt8 := [182, 1, 219, 78, 28, 45, 185, 1, 223, 1, 0, 162, 0, 13, 45, 28, 185, 1, 226, 2, 0, 167, 0, 5]
abbrev dktX0_printed_1 : List UInt8 := dkwX0_printed_1 ++ dktX0_printed_2
def dkwX0_printed_0 : List UInt8 := [27, 3, 42, 182, 0, 122, 180, 0, 147, 184, 0, 90, 153, 0, 7, 28, 156, 0, 5, 2, 172, 42, 27]
abbrev dktX0_printed_0 : List UInt8 := dkwX0_printed_0 ++ dktX0_printed_1
theorem dksX0_printed_0 : cX0_printed.data.toList.drop 0 = dktX0_printed_0 := by decide +kernel
theorem dksX0_printed_1 : cX0_printed.data.toList.drop 23 = dktX0_printed_1 := dk_seg dksX0_printed_0 23 rfl rfl
theorem dksX0_printed_2 : cX0_printed.data.toList.drop 47 = dktX0_printed_2 := dk_seg dksX0_printed_1 24 rfl rfl
theorem dX0_printed_0 : decode cX0_printed 0 = .ok (.iload_n 1, 1) := dk_27 (dk_at dksX0_printed_0 0 rfl rfl)
theorem dX0_printed_1 : decode cX0_printed 1 = .ok (.iconst 0, 1) := dk_3 (dk_at dksX0_printed_0 1 rfl rfl)
theorem dX0_printed_2 : decode cX0_printed 2 = .ok (.aload_n 0, 1) := dk_42 (dk_at dksX0_printed_0 2 rfl rfl)
theorem dX0_printed_3 : decode cX0_printed 3 = .ok (.invokevirtual 122, 3) := dk_182 0 122 (dk_at dksX0_printed_0 3 rfl rfl)
theorem dX0_printed_6 : decode cX0_printed 6 = .ok (.getfield 147, 3) := dk_180 0 147 (dk_at dksX0_printed_0 6 rfl rfl)
theorem dX0_printed_9 : decode cX0_printed 9 = .ok (.invokestatic 90, 3) := dk_184 0 90 (dk_at dksX0_printed_0 9 rfl rfl)
theorem dX0_printed_12 : decode cX0_printed 12 = .ok (.ifCond .eq 7, 3) := dk_153 0 7 (dk_at dksX0_printed_0 12 rfl rfl)
theorem dX0_printed_15 : decode cX0_printed 15 = .ok (.iload_n 2, 1) := dk_28 (dk_at dksX0_printed_0 15 rfl rfl)
theorem dX0_printed_16 : decode cX0_printed 16 = .ok (.ifCond .ge 5, 3) := dk_156 0 5 (dk_at dksX0_printed_0 16 rfl rfl)
theorem dX0_printed_19 : decode cX0_printed 19 = .ok (.iconst (-1), 1) := dk_2 (dk_at dksX0_printed_0 19 rfl rfl)
theorem dX0_printed_20 : decode cX0_printed 20 = .ok (.ireturn, 1) := dk_172 (dk_at dksX0_printed_0 20 rfl rfl)
theorem dX0_printed_21 : decode cX0_printed 21 = .ok (.aload_n 0, 1) := dk_42 (dk_at dksX0_printed_0 21 rfl rfl)
theorem dX0_printed_22 : decode cX0_printed 22 = .ok (.iload_n 1, 1) := dk_27 (dk_at dksX0_printed_0 22 rfl rfl)
theorem dX0_printed_23 : decode cX0_printed 23 = .ok (.invokevirtual 475, 3) := dk_182 1 219 (dk_at dksX0_printed_1 0 rfl rfl)
theorem dX0_printed_26 : decode cX0_printed 26 = .ok (.astore_n 3, 1) := dk_78 (dk_at dksX0_printed_1 3 rfl rfl)
theorem dX0_printed_27 : decode cX0_printed 27 = .ok (.iload_n 2, 1) := dk_28 (dk_at dksX0_printed_1 4 rfl rfl)
theorem dX0_printed_28 : decode cX0_printed 28 = .ok (.aload_n 3, 1) := dk_45 (dk_at dksX0_printed_1 5 rfl rfl)
theorem dX0_printed_29 : decode cX0_printed 29 = .ok (.invokeinterface 479 1, 5) := by decide +kernel
theorem dX0_printed_34 : decode cX0_printed 34 = .ok (.if_icmp .ge 13, 3) := dk_162 0 13 (dk_at dksX0_printed_1 11 rfl rfl)
theorem dX0_printed_37 : decode cX0_printed 37 = .ok (.aload_n 3, 1) := dk_45 (dk_at dksX0_printed_1 14 rfl rfl)
theorem dX0_printed_38 : decode cX0_printed 38 = .ok (.iload_n 2, 1) := dk_28 (dk_at dksX0_printed_1 15 rfl rfl)
theorem dX0_printed_39 : decode cX0_printed 39 = .ok (.invokeinterface 482 2, 5) := by decide +kernel
theorem dX0_printed_44 : decode cX0_printed 44 = .ok (.goto 5, 3) := dk_167 0 5 (dk_at dksX0_printed_1 21 rfl rfl)
theorem dX0_printed_47 : decode cX0_printed 47 = .ok (.bipush (-99), 2) := dk_16 157 (dk_at dksX0_printed_2 0 rfl rfl)
theorem dX0_printed_49 : decode cX0_printed 49 = .ok (.ireturn, 1) := dk_172 (dk_at dksX0_printed_2 2 rfl rfl)
abbrev cX0_printedRow : ByteArray := prog_1_method_63_code
def yX0_printedRow : MethodName := ⟨RX0, "printedRow", "(I)Ljava/lang/CharSequence;"⟩
def dkwX0_printedRow_6 : List UInt8 := [167, 0, 17, 44, 16, 32, 182, 1, 45, 42, 27, 182, 1, 213, 182, 1, 210, 176]
abbrev dktX0_printedRow_6 : List UInt8 := dkwX0_printedRow_6 ++ []
def dkwX0_printedRow_5 : List UInt8 := [182, 1, 45, 87, 132, 3, 1, 167, 255, 143, 27, 42, 182, 0, 122, 180, 0, 147, 160, 0, 7, 44]
abbrev dktX0_printedRow_5 : List UInt8 := dkwX0_printedRow_5 ++ dktX0_printedRow_6
def dkwX0_printedRow_4 : List UInt8 := [153, 0, 21, 44, 42, 182, 0, 122, 180, 0, 157, 21, 4, 46, 182, 1, 216, 87, 167, 0, 10, 44, 16, 46]
abbrev dktX0_printedRow_4 : List UInt8 := dkwX0_printedRow_4 ++ dktX0_printedRow_5
def dkwX0_printedRow_3 : List UInt8 := [29, 96, 182, 1, 213, 182, 1, 210, 87, 167, 0, 41, 42, 182, 0, 122, 180, 1, 77, 21, 4, 51]
abbrev dktX0_printedRow_3 : List UInt8 := dkwX0_printedRow_3 ++ dktX0_printedRow_4
def dkwX0_printedRow_2 : List UInt8 := [29, 154, 0, 9, 19, 1, 206, 167, 0, 6, 19, 1, 208, 182, 1, 210, 42, 42, 182, 0, 122, 180, 0, 147]
abbrev dktX0_printedRow_2 : List UInt8 := dkwX0_printedRow_2 ++ dktX0_printedRow_3
def dkwX0_printedRow_1 : List UInt8 := [182, 0, 122, 180, 1, 68, 27, 104, 29, 96, 54, 4, 27, 42, 182, 0, 122, 180, 0, 147, 160, 0, 40, 44]
abbrev dktX0_printedRow_1 : List UInt8 := dkwX0_printedRow_1 ++ dktX0_printedRow_2
def dkwX0_printedRow_0 : List UInt8 := [187, 0, 44, 89, 183, 0, 46, 77, 3, 62, 29, 42, 182, 0, 122, 180, 1, 68, 162, 0, 108, 42]
abbrev dktX0_printedRow_0 : List UInt8 := dkwX0_printedRow_0 ++ dktX0_printedRow_1
theorem dksX0_printedRow_0 : cX0_printedRow.data.toList.drop 0 = dktX0_printedRow_0 := by decide +kernel
theorem dksX0_printedRow_1 : cX0_printedRow.data.toList.drop 22 = dktX0_printedRow_1 := dk_seg dksX0_printedRow_0 22 rfl rfl
theorem dksX0_printedRow_2 : cX0_printedRow.data.toList.drop 46 = dktX0_printedRow_2 := dk_seg dksX0_printedRow_1 24 rfl rfl
theorem dksX0_printedRow_3 : cX0_printedRow.data.toList.drop 70 = dktX0_printedRow_3 := dk_seg dksX0_printedRow_2 24 rfl rfl
theorem dksX0_printedRow_4 : cX0_printedRow.data.toList.drop 92 = dktX0_printedRow_4 := dk_seg dksX0_printedRow_3 22 rfl rfl
theorem dksX0_printedRow_5 : cX0_printedRow.data.toList.drop 116 = dktX0_printedRow_5 := dk_seg dksX0_printedRow_4 24 rfl rfl
theorem dksX0_printedRow_6 : cX0_printedRow.data.toList.drop 138 = dktX0_printedRow_6 := dk_seg dksX0_printedRow_5 22 rfl rfl
theorem dX0_printedRow_0 : decode cX0_printedRow 0 = .ok (.new 44, 3) := dk_187 0 44 (dk_at dksX0_printedRow_0 0 rfl rfl)
theorem dX0_printedRow_3 : decode cX0_printedRow 3 = .ok (.dup, 1) := dk_89 (dk_at dksX0_printedRow_0 3 rfl rfl)
theorem dX0_printedRow_4 : decode cX0_printedRow 4 = .ok (.invokespecial 46, 3) := dk_183 0 46 (dk_at dksX0_printedRow_0 4 rfl rfl)
theorem dX0_printedRow_7 : decode cX0_printedRow 7 = .ok (.astore_n 2, 1) := dk_77 (dk_at dksX0_printedRow_0 7 rfl rfl)
theorem dX0_printedRow_8 : decode cX0_printedRow 8 = .ok (.iconst 0, 1) := dk_3 (dk_at dksX0_printedRow_0 8 rfl rfl)
theorem dX0_printedRow_9 : decode cX0_printedRow 9 = .ok (.istore_n 3, 1) := dk_62 (dk_at dksX0_printedRow_0 9 rfl rfl)
theorem dX0_printedRow_10 : decode cX0_printedRow 10 = .ok (.iload_n 3, 1) := dk_29 (dk_at dksX0_printedRow_0 10 rfl rfl)
theorem dX0_printedRow_11 : decode cX0_printedRow 11 = .ok (.aload_n 0, 1) := dk_42 (dk_at dksX0_printedRow_0 11 rfl rfl)
theorem dX0_printedRow_12 : decode cX0_printedRow 12 = .ok (.invokevirtual 122, 3) := dk_182 0 122 (dk_at dksX0_printedRow_0 12 rfl rfl)
theorem dX0_printedRow_15 : decode cX0_printedRow 15 = .ok (.getfield 324, 3) := dk_180 1 68 (dk_at dksX0_printedRow_0 15 rfl rfl)
theorem dX0_printedRow_18 : decode cX0_printedRow 18 = .ok (.if_icmp .ge 108, 3) := dk_162 0 108 (dk_at dksX0_printedRow_0 18 rfl rfl)
theorem dX0_printedRow_21 : decode cX0_printedRow 21 = .ok (.aload_n 0, 1) := dk_42 (dk_at dksX0_printedRow_0 21 rfl rfl)
theorem dX0_printedRow_22 : decode cX0_printedRow 22 = .ok (.invokevirtual 122, 3) := dk_182 0 122 (dk_at dksX0_printedRow_1 0 rfl rfl)
theorem dX0_printedRow_25 : decode cX0_printedRow 25 = .ok (.getfield 324, 3) := dk_180 1 68 (dk_at dksX0_printedRow_1 3 rfl rfl)
theorem dX0_printedRow_28 : decode cX0_printedRow 28 = .ok (.iload_n 1, 1) := dk_27 (dk_at dksX0_printedRow_1 6 rfl rfl)
theorem dX0_printedRow_29 : decode cX0_printedRow 29 = .ok (.imul, 1) := dk_104 (dk_at dksX0_printedRow_1 7 rfl rfl)
theorem dX0_printedRow_30 : decode cX0_printedRow 30 = .ok (.iload_n 3, 1) := dk_29 (dk_at dksX0_printedRow_1 8 rfl rfl)
theorem dX0_printedRow_31 : decode cX0_printedRow 31 = .ok (.iadd, 1) := dk_96 (dk_at dksX0_printedRow_1 9 rfl rfl)
theorem dX0_printedRow_32 : decode cX0_printedRow 32 = .ok (.istore 4, 2) := dk_54 4 (dk_at dksX0_printedRow_1 10 rfl rfl)
theorem dX0_printedRow_34 : decode cX0_printedRow 34 = .ok (.iload_n 1, 1) := dk_27 (dk_at dksX0_printedRow_1 12 rfl rfl)
theorem dX0_printedRow_35 : decode cX0_printedRow 35 = .ok (.aload_n 0, 1) := dk_42 (dk_at dksX0_printedRow_1 13 rfl rfl)
theorem dX0_printedRow_36 : decode cX0_printedRow 36 = .ok (.invokevirtual 122, 3) := dk_182 0 122 (dk_at dksX0_printedRow_1 14 rfl rfl)
theorem dX0_printedRow_39 : decode cX0_printedRow 39 = .ok (.getfield 147, 3) := dk_180 0 147 (dk_at dksX0_printedRow_1 17 rfl rfl)
theorem dX0_printedRow_42 : decode cX0_printedRow 42 = .ok (.if_icmp .ne 40, 3) := dk_160 0 40 (dk_at dksX0_printedRow_1 20 rfl rfl)
theorem dX0_printedRow_45 : decode cX0_printedRow 45 = .ok (.aload_n 2, 1) := dk_44 (dk_at dksX0_printedRow_1 23 rfl rfl)
theorem dX0_printedRow_46 : decode cX0_printedRow 46 = .ok (.iload_n 3, 1) := dk_29 (dk_at dksX0_printedRow_2 0 rfl rfl)
theorem dX0_printedRow_47 : decode cX0_printedRow 47 = .ok (.ifCond .ne 9, 3) := dk_154 0 9 (dk_at dksX0_printedRow_2 1 rfl rfl)
theorem dX0_printedRow_50 : decode cX0_printedRow 50 = .ok (.ldc_w 462, 3) := dk_19 1 206 (dk_at dksX0_printedRow_2 4 rfl rfl)
theorem dX0_printedRow_53 : decode cX0_printedRow 53 = .ok (.goto 6, 3) := dk_167 0 6 (dk_at dksX0_printedRow_2 7 rfl rfl)
theorem dX0_printedRow_56 : decode cX0_printedRow 56 = .ok (.ldc_w 464, 3) := dk_19 1 208 (dk_at dksX0_printedRow_2 10 rfl rfl)
theorem dX0_printedRow_59 : decode cX0_printedRow 59 = .ok (.invokevirtual 466, 3) := dk_182 1 210 (dk_at dksX0_printedRow_2 13 rfl rfl)
theorem dX0_printedRow_62 : decode cX0_printedRow 62 = .ok (.aload_n 0, 1) := dk_42 (dk_at dksX0_printedRow_2 16 rfl rfl)
theorem dX0_printedRow_63 : decode cX0_printedRow 63 = .ok (.aload_n 0, 1) := dk_42 (dk_at dksX0_printedRow_2 17 rfl rfl)
theorem dX0_printedRow_64 : decode cX0_printedRow 64 = .ok (.invokevirtual 122, 3) := dk_182 0 122 (dk_at dksX0_printedRow_2 18 rfl rfl)
theorem dX0_printedRow_67 : decode cX0_printedRow 67 = .ok (.getfield 147, 3) := dk_180 0 147 (dk_at dksX0_printedRow_2 21 rfl rfl)
theorem dX0_printedRow_70 : decode cX0_printedRow 70 = .ok (.iload_n 3, 1) := dk_29 (dk_at dksX0_printedRow_3 0 rfl rfl)
theorem dX0_printedRow_71 : decode cX0_printedRow 71 = .ok (.iadd, 1) := dk_96 (dk_at dksX0_printedRow_3 1 rfl rfl)
theorem dX0_printedRow_72 : decode cX0_printedRow 72 = .ok (.invokevirtual 469, 3) := dk_182 1 213 (dk_at dksX0_printedRow_3 2 rfl rfl)
theorem dX0_printedRow_75 : decode cX0_printedRow 75 = .ok (.invokevirtual 466, 3) := dk_182 1 210 (dk_at dksX0_printedRow_3 5 rfl rfl)
theorem dX0_printedRow_78 : decode cX0_printedRow 78 = .ok (.pop, 1) := dk_87 (dk_at dksX0_printedRow_3 8 rfl rfl)
theorem dX0_printedRow_79 : decode cX0_printedRow 79 = .ok (.goto 41, 3) := dk_167 0 41 (dk_at dksX0_printedRow_3 9 rfl rfl)
theorem dX0_printedRow_82 : decode cX0_printedRow 82 = .ok (.aload_n 0, 1) := dk_42 (dk_at dksX0_printedRow_3 12 rfl rfl)
theorem dX0_printedRow_83 : decode cX0_printedRow 83 = .ok (.invokevirtual 122, 3) := dk_182 0 122 (dk_at dksX0_printedRow_3 13 rfl rfl)
theorem dX0_printedRow_86 : decode cX0_printedRow 86 = .ok (.getfield 333, 3) := dk_180 1 77 (dk_at dksX0_printedRow_3 16 rfl rfl)
theorem dX0_printedRow_89 : decode cX0_printedRow 89 = .ok (.iload 4, 2) := dk_21 4 (dk_at dksX0_printedRow_3 19 rfl rfl)
theorem dX0_printedRow_91 : decode cX0_printedRow 91 = .ok (.baload, 1) := dk_51 (dk_at dksX0_printedRow_3 21 rfl rfl)
theorem dX0_printedRow_92 : decode cX0_printedRow 92 = .ok (.ifCond .eq 21, 3) := dk_153 0 21 (dk_at dksX0_printedRow_4 0 rfl rfl)
theorem dX0_printedRow_95 : decode cX0_printedRow 95 = .ok (.aload_n 2, 1) := dk_44 (dk_at dksX0_printedRow_4 3 rfl rfl)
theorem dX0_printedRow_96 : decode cX0_printedRow 96 = .ok (.aload_n 0, 1) := dk_42 (dk_at dksX0_printedRow_4 4 rfl rfl)
theorem dX0_printedRow_97 : decode cX0_printedRow 97 = .ok (.invokevirtual 122, 3) := dk_182 0 122 (dk_at dksX0_printedRow_4 5 rfl rfl)
theorem dX0_printedRow_100 : decode cX0_printedRow 100 = .ok (.getfield 157, 3) := dk_180 0 157 (dk_at dksX0_printedRow_4 8 rfl rfl)
theorem dX0_printedRow_103 : decode cX0_printedRow 103 = .ok (.iload 4, 2) := dk_21 4 (dk_at dksX0_printedRow_4 11 rfl rfl)
theorem dX0_printedRow_105 : decode cX0_printedRow 105 = .ok (.iaload, 1) := dk_46 (dk_at dksX0_printedRow_4 13 rfl rfl)
theorem dX0_printedRow_106 : decode cX0_printedRow 106 = .ok (.invokevirtual 472, 3) := dk_182 1 216 (dk_at dksX0_printedRow_4 14 rfl rfl)
theorem dX0_printedRow_109 : decode cX0_printedRow 109 = .ok (.pop, 1) := dk_87 (dk_at dksX0_printedRow_4 17 rfl rfl)
theorem dX0_printedRow_110 : decode cX0_printedRow 110 = .ok (.goto 10, 3) := dk_167 0 10 (dk_at dksX0_printedRow_4 18 rfl rfl)
theorem dX0_printedRow_113 : decode cX0_printedRow 113 = .ok (.aload_n 2, 1) := dk_44 (dk_at dksX0_printedRow_4 21 rfl rfl)
theorem dX0_printedRow_114 : decode cX0_printedRow 114 = .ok (.bipush 46, 2) := dk_16 46 (dk_at dksX0_printedRow_4 22 rfl rfl)
theorem dX0_printedRow_116 : decode cX0_printedRow 116 = .ok (.invokevirtual 301, 3) := dk_182 1 45 (dk_at dksX0_printedRow_5 0 rfl rfl)
theorem dX0_printedRow_119 : decode cX0_printedRow 119 = .ok (.pop, 1) := dk_87 (dk_at dksX0_printedRow_5 3 rfl rfl)
theorem dX0_printedRow_120 : decode cX0_printedRow 120 = .ok (.iinc 3 1, 3) := dk_132 3 1 (dk_at dksX0_printedRow_5 4 rfl rfl)
theorem dX0_printedRow_123 : decode cX0_printedRow 123 = .ok (.goto (-113), 3) := dk_167 255 143 (dk_at dksX0_printedRow_5 7 rfl rfl)
theorem dX0_printedRow_126 : decode cX0_printedRow 126 = .ok (.iload_n 1, 1) := dk_27 (dk_at dksX0_printedRow_5 10 rfl rfl)
theorem dX0_printedRow_127 : decode cX0_printedRow 127 = .ok (.aload_n 0, 1) := dk_42 (dk_at dksX0_printedRow_5 11 rfl rfl)
theorem dX0_printedRow_128 : decode cX0_printedRow 128 = .ok (.invokevirtual 122, 3) := dk_182 0 122 (dk_at dksX0_printedRow_5 12 rfl rfl)
theorem dX0_printedRow_131 : decode cX0_printedRow 131 = .ok (.getfield 147, 3) := dk_180 0 147 (dk_at dksX0_printedRow_5 15 rfl rfl)
theorem dX0_printedRow_134 : decode cX0_printedRow 134 = .ok (.if_icmp .ne 7, 3) := dk_160 0 7 (dk_at dksX0_printedRow_5 18 rfl rfl)
theorem dX0_printedRow_137 : decode cX0_printedRow 137 = .ok (.aload_n 2, 1) := dk_44 (dk_at dksX0_printedRow_5 21 rfl rfl)
theorem dX0_printedRow_138 : decode cX0_printedRow 138 = .ok (.goto 17, 3) := dk_167 0 17 (dk_at dksX0_printedRow_6 0 rfl rfl)
theorem dX0_printedRow_141 : decode cX0_printedRow 141 = .ok (.aload_n 2, 1) := dk_44 (dk_at dksX0_printedRow_6 3 rfl rfl)
theorem dX0_printedRow_142 : decode cX0_printedRow 142 = .ok (.bipush 32, 2) := dk_16 32 (dk_at dksX0_printedRow_6 4 rfl rfl)
theorem dX0_printedRow_144 : decode cX0_printedRow 144 = .ok (.invokevirtual 301, 3) := dk_182 1 45 (dk_at dksX0_printedRow_6 6 rfl rfl)
theorem dX0_printedRow_147 : decode cX0_printedRow 147 = .ok (.aload_n 0, 1) := dk_42 (dk_at dksX0_printedRow_6 9 rfl rfl)
theorem dX0_printedRow_148 : decode cX0_printedRow 148 = .ok (.iload_n 1, 1) := dk_27 (dk_at dksX0_printedRow_6 10 rfl rfl)
theorem dX0_printedRow_149 : decode cX0_printedRow 149 = .ok (.invokevirtual 469, 3) := dk_182 1 213 (dk_at dksX0_printedRow_6 11 rfl rfl)
theorem dX0_printedRow_152 : decode cX0_printedRow 152 = .ok (.invokevirtual 466, 3) := dk_182 1 210 (dk_at dksX0_printedRow_6 14 rfl rfl)
theorem dX0_printedRow_155 : decode cX0_printedRow 155 = .ok (.areturn, 1) := dk_176 (dk_at dksX0_printedRow_6 17 rfl rfl)
abbrev cX0_printedSum : ByteArray := prog_1_method_62_code
def yX0_printedSum : MethodName := ⟨RX0, "printedSum", "(I)Ljava/lang/String;"⟩
def dkwX0_printedSum_1 : List UInt8 := [167, 0, 6, 19, 1, 204, 176]
abbrev dktX0_printedSum_1 : List UInt8 := dkwX0_printedSum_1 ++ []
def dkwX0_printedSum_0 : List UInt8 := [42, 182, 0, 122, 180, 1, 99, 27, 51, 153, 0, 17, 42, 182, 0, 122, 27, 182, 1, 96, 184, 1, 199]
abbrev dktX0_printedSum_0 : List UInt8 := dkwX0_printedSum_0 ++ dktX0_printedSum_1
theorem dksX0_printedSum_0 : cX0_printedSum.data.toList.drop 0 = dktX0_printedSum_0 := by decide +kernel
theorem dksX0_printedSum_1 : cX0_printedSum.data.toList.drop 23 = dktX0_printedSum_1 := dk_seg dksX0_printedSum_0 23 rfl rfl
theorem dX0_printedSum_0 : decode cX0_printedSum 0 = .ok (.aload_n 0, 1) := dk_42 (dk_at dksX0_printedSum_0 0 rfl rfl)
theorem dX0_printedSum_1 : decode cX0_printedSum 1 = .ok (.invokevirtual 122, 3) := dk_182 0 122 (dk_at dksX0_printedSum_0 1 rfl rfl)
theorem dX0_printedSum_4 : decode cX0_printedSum 4 = .ok (.getfield 355, 3) := dk_180 1 99 (dk_at dksX0_printedSum_0 4 rfl rfl)
theorem dX0_printedSum_7 : decode cX0_printedSum 7 = .ok (.iload_n 1, 1) := dk_27 (dk_at dksX0_printedSum_0 7 rfl rfl)
theorem dX0_printedSum_8 : decode cX0_printedSum 8 = .ok (.baload, 1) := dk_51 (dk_at dksX0_printedSum_0 8 rfl rfl)
theorem dX0_printedSum_9 : decode cX0_printedSum 9 = .ok (.ifCond .eq 17, 3) := dk_153 0 17 (dk_at dksX0_printedSum_0 9 rfl rfl)
theorem dX0_printedSum_12 : decode cX0_printedSum 12 = .ok (.aload_n 0, 1) := dk_42 (dk_at dksX0_printedSum_0 12 rfl rfl)
theorem dX0_printedSum_13 : decode cX0_printedSum 13 = .ok (.invokevirtual 122, 3) := dk_182 0 122 (dk_at dksX0_printedSum_0 13 rfl rfl)
theorem dX0_printedSum_16 : decode cX0_printedSum 16 = .ok (.iload_n 1, 1) := dk_27 (dk_at dksX0_printedSum_0 16 rfl rfl)
theorem dX0_printedSum_17 : decode cX0_printedSum 17 = .ok (.invokevirtual 352, 3) := dk_182 1 96 (dk_at dksX0_printedSum_0 17 rfl rfl)
theorem dX0_printedSum_20 : decode cX0_printedSum 20 = .ok (.invokestatic 455, 3) := dk_184 1 199 (dk_at dksX0_printedSum_0 20 rfl rfl)
theorem dX0_printedSum_23 : decode cX0_printedSum 23 = .ok (.goto 6, 3) := dk_167 0 6 (dk_at dksX0_printedSum_1 0 rfl rfl)
theorem dX0_printedSum_26 : decode cX0_printedSum 26 = .ok (.ldc_w 460, 3) := dk_19 1 204 (dk_at dksX0_printedSum_1 3 rfl rfl)
theorem dX0_printedSum_29 : decode cX0_printedSum 29 = .ok (.areturn, 1) := dk_176 (dk_at dksX0_printedSum_1 6 rfl rfl)
theorem q125 : (Jvm.Cond.initialized "EdgeSums") ∈ lw_all := lw_g (lw_at lw_m1 1 rfl) rfl
theorem q184 : (Jvm.Cond.instantiable "EdgeSums" (4 : Nat)) ∈ lw_all := lw_g (lw_at lw_m1 60 rfl) rfl
theorem q186 : (Jvm.Cond.instanceMethod ({ cls := "EdgeSums", name := "<init>", desc := "()V" } : Jvm.MethodName)) ∈ lw_all := lw_g (lw_at lw_m1 62 rfl) rfl
theorem q187 : (Jvm.Cond.code ({ cls := "EdgeSums", name := "<init>", desc := "()V" } : Jvm.MethodName) prog_1_method_5_code (1 : Nat) (Option.none : Option Jvm.ClassFile.FieldType)) ∈ lw_all := lw_g (lw_at lw_m1 63 rfl) rfl
theorem q188 : (Jvm.Cond.methodLink "EdgeSums" (12 : Nat) ({ cls := "java/lang/Object", name := "<init>", desc := "()V" } : Jvm.MethodName)) ∈ lw_all := lw_g (lw_at lw_m1 64 rfl) rfl
theorem q191 : (Jvm.Cond.classLink "EdgeSums" (18 : Nat) "EdgeSums$State") ∈ lw_all := lw_g (lw_at lw_m1 67 rfl) rfl
theorem q193 : (Jvm.Cond.classLink "EdgeSums" (20 : Nat) "EdgeSums$Sheet") ∈ lw_all := lw_g (lw_at lw_m1 69 rfl) rfl
theorem q195 : (Jvm.Cond.classLink "EdgeSums" (22 : Nat) "EdgeSums$Page") ∈ lw_all := lw_g (lw_at lw_m1 71 rfl) rfl
theorem q197 : (Jvm.Cond.methodLink "EdgeSums" (24 : Nat) ({ cls := "EdgeSums$Page", name := "<init>", desc := "(II)V" } : Jvm.MethodName)) ∈ lw_all := lw_g (lw_at lw_m1 73 rfl) rfl
theorem q317 : (Jvm.Cond.privateMethod ({ cls := "EdgeSums", name := "sheet", desc := "()LEdgeSums$Sheet;" } : Jvm.MethodName)) ∈ lw_tbl := lw_at lw_m1 193 rfl
theorem q318 : (Jvm.Cond.instanceMethod ({ cls := "EdgeSums", name := "sheet", desc := "()LEdgeSums$Sheet;" } : Jvm.MethodName)) ∈ lw_all := lw_g (lw_at lw_m1 194 rfl) rfl
theorem q319 : (Jvm.Cond.code ({ cls := "EdgeSums", name := "sheet", desc := "()LEdgeSums$Sheet;" } : Jvm.MethodName) prog_1_method_6_code (1 : Nat) (Option.some (Jvm.ClassFile.FieldType.object "EdgeSums$Sheet"))) ∈ lw_all := lw_g (lw_at lw_m1 195 rfl) rfl
theorem q325 : (Jvm.Cond.static ({ cls := "EdgeSums", name := "has", desc := "(II)Z" } : Jvm.MethodName)) ∈ lw_all := lw_g (lw_at lw_m1 201 rfl) rfl
theorem q326 : (Jvm.Cond.code ({ cls := "EdgeSums", name := "has", desc := "(II)Z" } : Jvm.MethodName) prog_1_method_2_code (2 : Nat) (Option.some Jvm.ClassFile.FieldType.boolean)) ∈ lw_all := lw_g (lw_at lw_m1 202 rfl) rfl
theorem q687 : (Jvm.Cond.fieldLinkNest "EdgeSums" (147 : Nat) "EdgeSums$Page" "rows" "I" "EdgeSums") ∈ lw_tbl := lw_at lw_m3 83 rfl
theorem q690 : (Jvm.Cond.fieldLinkNest "EdgeSums" (324 : Nat) "EdgeSums$Page" "columns" "I" "EdgeSums") ∈ lw_tbl := lw_at lw_m3 86 rfl
theorem q693 : (Jvm.Cond.fieldLinkNest "EdgeSums" (112 : Nat) "EdgeSums$Page" "blocks" "[I" "EdgeSums") ∈ lw_tbl := lw_at lw_m3 89 rfl
theorem q696 : (Jvm.Cond.fieldLinkNest "EdgeSums" (157 : Nat) "EdgeSums$Page" "numbers" "[I" "EdgeSums") ∈ lw_tbl := lw_at lw_m3 92 rfl
theorem q699 : (Jvm.Cond.fieldLinkNest "EdgeSums" (333 : Nat) "EdgeSums$Page" "given" "[Z" "EdgeSums") ∈ lw_tbl := lw_at lw_m3 95 rfl
theorem q702 : (Jvm.Cond.fieldLinkNest "EdgeSums" (355 : Nat) "EdgeSums$Page" "shown" "[Z" "EdgeSums") ∈ lw_tbl := lw_at lw_m3 98 rfl
theorem q704 : (Jvm.Cond.fieldLinkNest "EdgeSums" (361 : Nat) "EdgeSums$Page" "members" "[[I" "EdgeSums") ∈ lw_tbl := lw_at lw_m3 100 rfl
theorem q720 : (Jvm.Cond.methodLink "EdgeSums" (27 : Nat) ({ cls := "EdgeSums$Sheet", name := "<init>", desc := "(LEdgeSums$Page;)V" } : Jvm.MethodName)) ∈ lw_all := lw_g (lw_at lw_m3 116 rfl) rfl
theorem q752 : (Jvm.Cond.fieldLinkNest "EdgeSums" (337 : Nat) "EdgeSums$Board" "sets" "[I" "EdgeSums") ∈ lw_tbl := lw_at lw_m3 148 rfl
theorem q759 : (Jvm.Cond.fieldLinkNest "EdgeSums" (62 : Nat) "EdgeSums$Sheet" "page" "LEdgeSums$Page;" "EdgeSums") ∈ lw_tbl := lw_at lw_m3 155 rfl
theorem q762 : (Jvm.Cond.fieldLinkNest "EdgeSums" (66 : Nat) "EdgeSums$Sheet" "board" "LEdgeSums$Board;" "EdgeSums") ∈ lw_tbl := lw_at lw_m3 158 rfl
theorem q766 : (Jvm.Cond.fieldLinkNest "EdgeSums" (187 : Nat) "EdgeSums$Sheet" "allowed" "I" "EdgeSums") ∈ lw_tbl := lw_at lw_m3 162 rfl
theorem q770 : (Jvm.Cond.fieldLinkNest "EdgeSums" (255 : Nat) "EdgeSums$Sheet" "costs" "[I" "EdgeSums") ∈ lw_tbl := lw_at lw_m3 166 rfl
theorem q780 : (Jvm.Cond.methodLink "EdgeSums" (30 : Nat) ({ cls := "EdgeSums$State", name := "<init>", desc := "(LEdgeSums$Sheet;)V" } : Jvm.MethodName)) ∈ lw_all := lw_g (lw_at lw_m3 176 rfl) rfl
theorem q787 : (Jvm.Cond.fieldLinkNest "EdgeSums" (58 : Nat) "EdgeSums$State" "sheet" "LEdgeSums$Sheet;" "EdgeSums") ∈ lw_tbl := lw_at lw_m3 183 rfl
theorem q790 : (Jvm.Cond.fieldLinkNest "EdgeSums" (286 : Nat) "EdgeSums$State" "slots" "[LEdgeSums$Sheet;" "EdgeSums") ∈ lw_tbl := lw_at lw_m3 186 rfl
theorem q796 : (Jvm.Cond.classLink "EdgeSums" (37 : Nat) "java/util/ArrayDeque") ∈ lw_all := lw_g (lw_at lw_m3 192 rfl) rfl
theorem q798 : (Jvm.Cond.methodLink "EdgeSums" (39 : Nat) ({ cls := "java/util/ArrayDeque", name := "<init>", desc := "()V" } : Jvm.MethodName)) ∈ lw_all := lw_g (lw_at lw_m3 194 rfl) rfl
theorem q817 : (Jvm.Cond.classLink "EdgeSums" (44 : Nat) "java/lang/StringBuilder") ∈ lw_all := lw_g (lw_at lw_m3 213 rfl) rfl
theorem q819 : (Jvm.Cond.methodLink "EdgeSums" (46 : Nat) ({ cls := "java/lang/StringBuilder", name := "<init>", desc := "()V" } : Jvm.MethodName)) ∈ lw_all := lw_g (lw_at lw_m3 215 rfl) rfl
theorem q847 : (Jvm.Cond.classLink "EdgeSums" (51 : Nat) "EdgeSums$Solver") ∈ lw_all := lw_g (lw_at lw_m4 3 rfl) rfl
theorem q849 : (Jvm.Cond.methodLinkNest "EdgeSums" (53 : Nat) ({ cls := "EdgeSums$Solver", name := "<init>", desc := "()V" } : Jvm.MethodName) "EdgeSums") ∈ lw_tbl := lw_at lw_m4 5 rfl
theorem q966 : (Jvm.Cond.fieldLinkNest "EdgeSums" (377 : Nat) "EdgeSums$Solver" "rules" "[LEdgeSums$Rule;" "EdgeSums") ∈ lw_tbl := lw_at lw_m4 122 rfl
theorem q968 : (Jvm.Cond.fieldLinkNest "EdgeSums" (274 : Nat) "EdgeSums$Solver" "rule" "I" "EdgeSums") ∈ lw_tbl := lw_at lw_m4 124 rfl
theorem q974 : (Jvm.Cond.fieldLinkNest "EdgeSums" (387 : Nat) "EdgeSums$Solver" "cause" "I" "EdgeSums") ∈ lw_tbl := lw_at lw_m4 130 rfl
theorem q987 : (Jvm.Cond.fieldLink "EdgeSums" (33 : Nat) "EdgeSums" "state" "LEdgeSums$State;") ∈ lw_all := lw_g (lw_at lw_m4 143 rfl) rfl
theorem q988 : (Jvm.Cond.fieldLink "EdgeSums" (40 : Nat) "EdgeSums" "history" "Ljava/util/ArrayDeque;") ∈ lw_all := lw_g (lw_at lw_m4 144 rfl) rfl
theorem q990 : (Jvm.Cond.fieldLink "EdgeSums" (47 : Nat) "EdgeSums" "text" "Ljava/lang/StringBuilder;") ∈ lw_all := lw_g (lw_at lw_m4 146 rfl) rfl
theorem q992 : (Jvm.Cond.fieldLink "EdgeSums" (54 : Nat) "EdgeSums" "solver" "LEdgeSums$Solver;") ∈ lw_all := lw_g (lw_at lw_m4 148 rfl) rfl
theorem q993 : (Jvm.Cond.lays "EdgeSums" "EdgeSums" "state" "LEdgeSums$State;") ∈ lw_all := lw_g (lw_at lw_m4 149 rfl) rfl
theorem q994 : (Jvm.Cond.soleField "EdgeSums" "state") ∈ lw_all := lw_g (lw_at lw_m4 150 rfl) rfl
theorem q995 : (Jvm.Cond.laysFinal "EdgeSums" "EdgeSums" "history" "Ljava/util/ArrayDeque;") ∈ lw_all := lw_g (lw_at lw_m4 151 rfl) rfl
theorem q996 : (Jvm.Cond.soleField "EdgeSums" "history") ∈ lw_all := lw_g (lw_at lw_m4 152 rfl) rfl
theorem q997 : (Jvm.Cond.laysFinal "EdgeSums" "EdgeSums" "text" "Ljava/lang/StringBuilder;") ∈ lw_all := lw_g (lw_at lw_m4 153 rfl) rfl
theorem q998 : (Jvm.Cond.soleField "EdgeSums" "text") ∈ lw_all := lw_g (lw_at lw_m4 154 rfl) rfl
theorem q999 : (Jvm.Cond.laysFinal "EdgeSums" "EdgeSums" "solver" "LEdgeSums$Solver;") ∈ lw_all := lw_g (lw_at lw_m4 155 rfl) rfl
theorem q1000 : (Jvm.Cond.soleField "EdgeSums" "solver") ∈ lw_all := lw_g (lw_at lw_m4 156 rfl) rfl
theorem q1001 : (Jvm.Cond.superclass "EdgeSums" "java/lang/Object") ∈ lw_all := lw_g (lw_at lw_m4 157 rfl) rfl
theorem q1003 : (Jvm.Cond.instanceMethod ({ cls := "EdgeSums", name := "setPage", desc := "(II)I" } : Jvm.MethodName)) ∈ lw_all := lw_g (lw_at lw_m4 159 rfl) rfl
theorem q1004 : (Jvm.Cond.selects "EdgeSums" ({ cls := "EdgeSums", name := "setPage", desc := "(II)I" } : Jvm.MethodName) ({ cls := "EdgeSums", name := "setPage", desc := "(II)I" } : Jvm.MethodName)) ∈ lw_all := lw_g (lw_at lw_m4 160 rfl) rfl
theorem q1005 : (Jvm.Cond.code ({ cls := "EdgeSums", name := "setPage", desc := "(II)I" } : Jvm.MethodName) prog_1_method_13_code (3 : Nat) (Option.some Jvm.ClassFile.FieldType.int)) ∈ lw_all := lw_g (lw_at lw_m4 161 rfl) rfl
theorem q1006 : (Jvm.Cond.methodLink "EdgeSums" (100 : Nat) ({ cls := "EdgeSums", name := "isSide", desc := "(I)Z" } : Jvm.MethodName)) ∈ lw_all := lw_g (lw_at lw_m4 162 rfl) rfl
theorem q1007 : (Jvm.Cond.static ({ cls := "EdgeSums", name := "isSide", desc := "(I)Z" } : Jvm.MethodName)) ∈ lw_all := lw_g (lw_at lw_m4 163 rfl) rfl
theorem q1008 : (Jvm.Cond.code ({ cls := "EdgeSums", name := "isSide", desc := "(I)Z" } : Jvm.MethodName) prog_1_method_11_code (1 : Nat) (Option.some Jvm.ClassFile.FieldType.boolean)) ∈ lw_all := lw_g (lw_at lw_m4 164 rfl) rfl
theorem q1009 : (Jvm.Cond.methodLink "EdgeSums" (90 : Nat) ({ cls := "EdgeSums", name := "isBetween", desc := "(III)Z" } : Jvm.MethodName)) ∈ lw_all := lw_g (lw_at lw_m4 165 rfl) rfl
theorem q1010 : (Jvm.Cond.static ({ cls := "EdgeSums", name := "isBetween", desc := "(III)Z" } : Jvm.MethodName)) ∈ lw_all := lw_g (lw_at lw_m4 166 rfl) rfl
theorem q1011 : (Jvm.Cond.code ({ cls := "EdgeSums", name := "isBetween", desc := "(III)Z" } : Jvm.MethodName) prog_1_method_1_code (3 : Nat) (Option.some Jvm.ClassFile.FieldType.boolean)) ∈ lw_all := lw_g (lw_at lw_m4 167 rfl) rfl
theorem q1012 : (Jvm.Cond.methodLink "EdgeSums" (104 : Nat) ({ cls := "EdgeSums", name := "act", desc := "()LEdgeSums$Sheet;" } : Jvm.MethodName)) ∈ lw_all := lw_g (lw_at lw_m4 168 rfl) rfl
theorem q1013 : (Jvm.Cond.privateMethod ({ cls := "EdgeSums", name := "act", desc := "()LEdgeSums$Sheet;" } : Jvm.MethodName)) ∈ lw_tbl := lw_at lw_m4 169 rfl
theorem q1014 : (Jvm.Cond.instanceMethod ({ cls := "EdgeSums", name := "act", desc := "()LEdgeSums$Sheet;" } : Jvm.MethodName)) ∈ lw_all := lw_g (lw_at lw_m4 170 rfl) rfl
theorem q1015 : (Jvm.Cond.code ({ cls := "EdgeSums", name := "act", desc := "()LEdgeSums$Sheet;" } : Jvm.MethodName) prog_1_method_10_code (1 : Nat) (Option.some (Jvm.ClassFile.FieldType.object "EdgeSums$Sheet"))) ∈ lw_all := lw_g (lw_at lw_m4 171 rfl) rfl
theorem q1016 : (Jvm.Cond.methodLink "EdgeSums" (82 : Nat) ({ cls := "EdgeSums$State", name := "copy", desc := "()LEdgeSums$State;" } : Jvm.MethodName)) ∈ lw_all := lw_g (lw_at lw_m4 172 rfl) rfl
theorem q1041 : (Jvm.Cond.methodLink "EdgeSums" (86 : Nat) ({ cls := "EdgeSums", name := "replace", desc := "(LEdgeSums$State;)V" } : Jvm.MethodName)) ∈ lw_all := lw_g (lw_at lw_m4 197 rfl) rfl
theorem q1042 : (Jvm.Cond.privateMethod ({ cls := "EdgeSums", name := "replace", desc := "(LEdgeSums$State;)V" } : Jvm.MethodName)) ∈ lw_tbl := lw_at lw_m4 198 rfl
theorem q1043 : (Jvm.Cond.instanceMethod ({ cls := "EdgeSums", name := "replace", desc := "(LEdgeSums$State;)V" } : Jvm.MethodName)) ∈ lw_all := lw_g (lw_at lw_m4 199 rfl) rfl
theorem q1044 : (Jvm.Cond.code ({ cls := "EdgeSums", name := "replace", desc := "(LEdgeSums$State;)V" } : Jvm.MethodName) prog_1_method_9_code (3 : Nat) (Option.none : Option Jvm.ClassFile.FieldType)) ∈ lw_all := lw_g (lw_at lw_m4 200 rfl) rfl
theorem q1045 : (Jvm.Cond.methodLink "EdgeSums" (70 : Nat) ({ cls := "java/util/ArrayDeque", name := "size", desc := "()I" } : Jvm.MethodName)) ∈ lw_all := lw_g (lw_at lw_m4 201 rfl) rfl
theorem q1052 : (Jvm.Cond.methodLink "EdgeSums" (74 : Nat) ({ cls := "java/util/ArrayDeque", name := "removeFirst", desc := "()Ljava/lang/Object;" } : Jvm.MethodName)) ∈ lw_all := lw_g (lw_at lw_m4 208 rfl) rfl
theorem q1066 : (Jvm.Cond.methodLink "EdgeSums" (78 : Nat) ({ cls := "java/util/ArrayDeque", name := "addLast", desc := "(Ljava/lang/Object;)V" } : Jvm.MethodName)) ∈ lw_all := lw_g (lw_at lw_m4 222 rfl) rfl
theorem q1086 : (Jvm.Cond.selects "EdgeSums" ({ cls := "java/lang/Object", name := "getClass", desc := "()Ljava/lang/Class;" } : Jvm.MethodName) ({ cls := "java/lang/Object", name := "getClass", desc := "()Ljava/lang/Class;" } : Jvm.MethodName)) ∈ lw_all := lw_g (lw_at lw_m5 2 rfl) rfl
theorem q1131 : (Jvm.Cond.methodLink "EdgeSums" (108 : Nat) ({ cls := "EdgeSums", name := "lay", desc := "(LEdgeSums$Sheet;LEdgeSums$Page;)I" } : Jvm.MethodName)) ∈ lw_all := lw_g (lw_at lw_m5 47 rfl) rfl
theorem q1132 : (Jvm.Cond.static ({ cls := "EdgeSums", name := "lay", desc := "(LEdgeSums$Sheet;LEdgeSums$Page;)I" } : Jvm.MethodName)) ∈ lw_all := lw_g (lw_at lw_m5 48 rfl) rfl
theorem q1133 : (Jvm.Cond.code ({ cls := "EdgeSums", name := "lay", desc := "(LEdgeSums$Sheet;LEdgeSums$Page;)I" } : Jvm.MethodName) prog_1_method_12_code (2 : Nat) (Option.some Jvm.ClassFile.FieldType.int)) ∈ lw_all := lw_g (lw_at lw_m5 49 rfl) rfl
theorem q1134 : (Jvm.Cond.methodLink "EdgeSums" (94 : Nat) ({ cls := "EdgeSums$Sheet", name := "reset", desc := "()V" } : Jvm.MethodName)) ∈ lw_all := lw_g (lw_at lw_m5 50 rfl) rfl
theorem q1135 : (Jvm.Cond.methodLink "EdgeSums" (97 : Nat) ({ cls := "EdgeSums$Page", name := "blocks", desc := "()I" } : Jvm.MethodName)) ∈ lw_all := lw_g (lw_at lw_m5 51 rfl) rfl
theorem q1140 : (Jvm.Cond.instanceMethod ({ cls := "EdgeSums", name := "moveCell", desc := "(II)I" } : Jvm.MethodName)) ∈ lw_all := lw_g (lw_at lw_m5 56 rfl) rfl
theorem q1141 : (Jvm.Cond.selects "EdgeSums" ({ cls := "EdgeSums", name := "moveCell", desc := "(II)I" } : Jvm.MethodName) ({ cls := "EdgeSums", name := "moveCell", desc := "(II)I" } : Jvm.MethodName)) ∈ lw_all := lw_g (lw_at lw_m5 57 rfl) rfl
theorem q1142 : (Jvm.Cond.code ({ cls := "EdgeSums", name := "moveCell", desc := "(II)I" } : Jvm.MethodName) prog_1_method_15_code (4 : Nat) (Option.some Jvm.ClassFile.FieldType.int)) ∈ lw_all := lw_g (lw_at lw_m5 58 rfl) rfl
theorem q1143 : (Jvm.Cond.methodLink "EdgeSums" (122 : Nat) ({ cls := "EdgeSums", name := "page", desc := "()LEdgeSums$Page;" } : Jvm.MethodName)) ∈ lw_all := lw_g (lw_at lw_m5 59 rfl) rfl
theorem q1144 : (Jvm.Cond.privateMethod ({ cls := "EdgeSums", name := "page", desc := "()LEdgeSums$Page;" } : Jvm.MethodName)) ∈ lw_tbl := lw_at lw_m5 60 rfl
theorem q1145 : (Jvm.Cond.instanceMethod ({ cls := "EdgeSums", name := "page", desc := "()LEdgeSums$Page;" } : Jvm.MethodName)) ∈ lw_all := lw_g (lw_at lw_m5 61 rfl) rfl
theorem q1146 : (Jvm.Cond.code ({ cls := "EdgeSums", name := "page", desc := "()LEdgeSums$Page;" } : Jvm.MethodName) prog_1_method_7_code (1 : Nat) (Option.some (Jvm.ClassFile.FieldType.object "EdgeSums$Page"))) ∈ lw_all := lw_g (lw_at lw_m5 62 rfl) rfl
theorem q1147 : (Jvm.Cond.methodLink "EdgeSums" (125 : Nat) ({ cls := "EdgeSums$Page", name := "isCell", desc := "(I)Z" } : Jvm.MethodName)) ∈ lw_all := lw_g (lw_at lw_m5 63 rfl) rfl
theorem q1152 : (Jvm.Cond.methodLink "EdgeSums" (128 : Nat) ({ cls := "EdgeSums$Page", name := "areNeighbors", desc := "(II)Z" } : Jvm.MethodName)) ∈ lw_all := lw_g (lw_at lw_m5 68 rfl) rfl
theorem q1167 : (Jvm.Cond.methodLink "EdgeSums" (132 : Nat) ({ cls := "EdgeSums$Page", name := "isConnected", desc := "(II)Z" } : Jvm.MethodName)) ∈ lw_all := lw_g (lw_at lw_m5 83 rfl) rfl
theorem q1173 : (Jvm.Cond.methodLink "EdgeSums" (135 : Nat) ({ cls := "EdgeSums$Page", name := "size", desc := "(I)I" } : Jvm.MethodName)) ∈ lw_all := lw_g (lw_at lw_m5 89 rfl) rfl
theorem q1174 : (Jvm.Cond.methodLink "EdgeSums" (137 : Nat) ({ cls := "EdgeSums", name := "moveTo", desc := "(II)I" } : Jvm.MethodName)) ∈ lw_all := lw_g (lw_at lw_m5 90 rfl) rfl
theorem q1175 : (Jvm.Cond.privateMethod ({ cls := "EdgeSums", name := "moveTo", desc := "(II)I" } : Jvm.MethodName)) ∈ lw_tbl := lw_at lw_m5 91 rfl
theorem q1176 : (Jvm.Cond.instanceMethod ({ cls := "EdgeSums", name := "moveTo", desc := "(II)I" } : Jvm.MethodName)) ∈ lw_all := lw_g (lw_at lw_m5 92 rfl) rfl
theorem q1177 : (Jvm.Cond.code ({ cls := "EdgeSums", name := "moveTo", desc := "(II)I" } : Jvm.MethodName) prog_1_method_14_code (5 : Nat) (Option.some Jvm.ClassFile.FieldType.int)) ∈ lw_all := lw_g (lw_at lw_m5 93 rfl) rfl
theorem q1178 : (Jvm.Cond.methodLink "EdgeSums" (115 : Nat) ({ cls := "EdgeSums$Page", name := "clear", desc := "(I)V" } : Jvm.MethodName)) ∈ lw_all := lw_g (lw_at lw_m5 94 rfl) rfl
theorem q1190 : (Jvm.Cond.methodLink "EdgeSums" (119 : Nat) ({ cls := "EdgeSums$Page", name := "renumber", desc := "()V" } : Jvm.MethodName)) ∈ lw_all := lw_g (lw_at lw_m5 106 rfl) rfl
theorem q1192 : (Jvm.Cond.instanceMethod ({ cls := "EdgeSums", name := "splitCell", desc := "(I)I" } : Jvm.MethodName)) ∈ lw_all := lw_g (lw_at lw_m5 108 rfl) rfl
theorem q1193 : (Jvm.Cond.selects "EdgeSums" ({ cls := "EdgeSums", name := "splitCell", desc := "(I)I" } : Jvm.MethodName) ({ cls := "EdgeSums", name := "splitCell", desc := "(I)I" } : Jvm.MethodName)) ∈ lw_all := lw_g (lw_at lw_m5 109 rfl) rfl
theorem q1194 : (Jvm.Cond.code ({ cls := "EdgeSums", name := "splitCell", desc := "(I)I" } : Jvm.MethodName) prog_1_method_16_code (2 : Nat) (Option.some Jvm.ClassFile.FieldType.int)) ∈ lw_all := lw_g (lw_at lw_m5 110 rfl) rfl
theorem q1196 : (Jvm.Cond.instanceMethod ({ cls := "EdgeSums", name := "mirror", desc := "()I" } : Jvm.MethodName)) ∈ lw_all := lw_g (lw_at lw_m5 112 rfl) rfl
theorem q1197 : (Jvm.Cond.selects "EdgeSums" ({ cls := "EdgeSums", name := "mirror", desc := "()I" } : Jvm.MethodName) ({ cls := "EdgeSums", name := "mirror", desc := "()I" } : Jvm.MethodName)) ∈ lw_all := lw_g (lw_at lw_m5 113 rfl) rfl
theorem q1198 : (Jvm.Cond.code ({ cls := "EdgeSums", name := "mirror", desc := "()I" } : Jvm.MethodName) prog_1_method_17_code (2 : Nat) (Option.some Jvm.ClassFile.FieldType.int)) ∈ lw_all := lw_g (lw_at lw_m5 114 rfl) rfl
theorem q1199 : (Jvm.Cond.methodLink "EdgeSums" (141 : Nat) ({ cls := "EdgeSums$Page", name := "mirrored", desc := "()LEdgeSums$Page;" } : Jvm.MethodName)) ∈ lw_all := lw_g (lw_at lw_m5 115 rfl) rfl
theorem q1209 : (Jvm.Cond.instanceMethod ({ cls := "EdgeSums", name := "turn", desc := "()I" } : Jvm.MethodName)) ∈ lw_all := lw_g (lw_at lw_m5 125 rfl) rfl
theorem q1210 : (Jvm.Cond.selects "EdgeSums" ({ cls := "EdgeSums", name := "turn", desc := "()I" } : Jvm.MethodName) ({ cls := "EdgeSums", name := "turn", desc := "()I" } : Jvm.MethodName)) ∈ lw_all := lw_g (lw_at lw_m5 126 rfl) rfl
theorem q1211 : (Jvm.Cond.code ({ cls := "EdgeSums", name := "turn", desc := "()I" } : Jvm.MethodName) prog_1_method_18_code (3 : Nat) (Option.some Jvm.ClassFile.FieldType.int)) ∈ lw_all := lw_g (lw_at lw_m5 127 rfl) rfl
theorem q1212 : (Jvm.Cond.methodLink "EdgeSums" (144 : Nat) ({ cls := "EdgeSums$Page", name := "turned", desc := "()LEdgeSums$Page;" } : Jvm.MethodName)) ∈ lw_all := lw_g (lw_at lw_m5 128 rfl) rfl
theorem q1217 : (Jvm.Cond.instanceMethod ({ cls := "EdgeSums", name := "write", desc := "(II)I" } : Jvm.MethodName)) ∈ lw_all := lw_g (lw_at lw_m5 133 rfl) rfl
theorem q1218 : (Jvm.Cond.selects "EdgeSums" ({ cls := "EdgeSums", name := "write", desc := "(II)I" } : Jvm.MethodName) ({ cls := "EdgeSums", name := "write", desc := "(II)I" } : Jvm.MethodName)) ∈ lw_all := lw_g (lw_at lw_m5 134 rfl) rfl
theorem q1219 : (Jvm.Cond.code ({ cls := "EdgeSums", name := "write", desc := "(II)I" } : Jvm.MethodName) prog_1_method_19_code (5 : Nat) (Option.some Jvm.ClassFile.FieldType.int)) ∈ lw_all := lw_g (lw_at lw_m5 135 rfl) rfl
theorem q1220 : (Jvm.Cond.methodLink "EdgeSums" (151 : Nat) ({ cls := "EdgeSums$Page", name := "isNumber", desc := "(II)Z" } : Jvm.MethodName)) ∈ lw_all := lw_g (lw_at lw_m5 136 rfl) rfl
theorem q1225 : (Jvm.Cond.methodLink "EdgeSums" (154 : Nat) ({ cls := "EdgeSums$Page", name := "hasElsewhere", desc := "(II)Z" } : Jvm.MethodName)) ∈ lw_all := lw_g (lw_at lw_m5 141 rfl) rfl
theorem q1229 : (Jvm.Cond.methodLink "EdgeSums" (160 : Nat) ({ cls := "EdgeSums$Page", name := "write", desc := "(II)V" } : Jvm.MethodName)) ∈ lw_all := lw_g (lw_at lw_m5 145 rfl) rfl
theorem q1231 : (Jvm.Cond.instanceMethod ({ cls := "EdgeSums", name := "fill", desc := "()I" } : Jvm.MethodName)) ∈ lw_all := lw_g (lw_at lw_m5 147 rfl) rfl
theorem q1232 : (Jvm.Cond.selects "EdgeSums" ({ cls := "EdgeSums", name := "fill", desc := "()I" } : Jvm.MethodName) ({ cls := "EdgeSums", name := "fill", desc := "()I" } : Jvm.MethodName)) ∈ lw_all := lw_g (lw_at lw_m5 148 rfl) rfl
theorem q1233 : (Jvm.Cond.code ({ cls := "EdgeSums", name := "fill", desc := "()I" } : Jvm.MethodName) prog_1_method_20_code (6 : Nat) (Option.some Jvm.ClassFile.FieldType.int)) ∈ lw_all := lw_g (lw_at lw_m5 149 rfl) rfl
theorem q1234 : (Jvm.Cond.methodLink "EdgeSums" (163 : Nat) ({ cls := "EdgeSums$Page", name := "untold", desc := "()I" } : Jvm.MethodName)) ∈ lw_all := lw_g (lw_at lw_m5 150 rfl) rfl
theorem q1238 : (Jvm.Cond.methodLink "EdgeSums" (166 : Nat) ({ cls := "EdgeSums$Page", name := "cells", desc := "()I" } : Jvm.MethodName)) ∈ lw_all := lw_g (lw_at lw_m5 154 rfl) rfl
theorem q1240 : (Jvm.Cond.instanceMethod ({ cls := "EdgeSums", name := "exchange", desc := "(II)I" } : Jvm.MethodName)) ∈ lw_all := lw_g (lw_at lw_m5 156 rfl) rfl
theorem q1241 : (Jvm.Cond.selects "EdgeSums" ({ cls := "EdgeSums", name := "exchange", desc := "(II)I" } : Jvm.MethodName) ({ cls := "EdgeSums", name := "exchange", desc := "(II)I" } : Jvm.MethodName)) ∈ lw_all := lw_g (lw_at lw_m5 157 rfl) rfl
theorem q1242 : (Jvm.Cond.code ({ cls := "EdgeSums", name := "exchange", desc := "(II)I" } : Jvm.MethodName) prog_1_method_21_code (5 : Nat) (Option.some Jvm.ClassFile.FieldType.int)) ∈ lw_all := lw_g (lw_at lw_m5 158 rfl) rfl
theorem q1244 : (Jvm.Cond.instanceMethod ({ cls := "EdgeSums", name := "give", desc := "(II)I" } : Jvm.MethodName)) ∈ lw_all := lw_g (lw_at lw_m5 160 rfl) rfl
theorem q1245 : (Jvm.Cond.selects "EdgeSums" ({ cls := "EdgeSums", name := "give", desc := "(II)I" } : Jvm.MethodName) ({ cls := "EdgeSums", name := "give", desc := "(II)I" } : Jvm.MethodName)) ∈ lw_all := lw_g (lw_at lw_m5 161 rfl) rfl
theorem q1246 : (Jvm.Cond.code ({ cls := "EdgeSums", name := "give", desc := "(II)I" } : Jvm.MethodName) prog_1_method_23_code (3 : Nat) (Option.some Jvm.ClassFile.FieldType.int)) ∈ lw_all := lw_g (lw_at lw_m5 162 rfl) rfl
theorem q1247 : (Jvm.Cond.methodLink "EdgeSums" (182 : Nat) ({ cls := "EdgeSums", name := "setClue", desc := "(III)I" } : Jvm.MethodName)) ∈ lw_all := lw_g (lw_at lw_m5 163 rfl) rfl
theorem q1248 : (Jvm.Cond.privateMethod ({ cls := "EdgeSums", name := "setClue", desc := "(III)I" } : Jvm.MethodName)) ∈ lw_tbl := lw_at lw_m5 164 rfl
theorem q1249 : (Jvm.Cond.instanceMethod ({ cls := "EdgeSums", name := "setClue", desc := "(III)I" } : Jvm.MethodName)) ∈ lw_all := lw_g (lw_at lw_m5 165 rfl) rfl
theorem q1250 : (Jvm.Cond.code ({ cls := "EdgeSums", name := "setClue", desc := "(III)I" } : Jvm.MethodName) prog_1_method_22_code (5 : Nat) (Option.some Jvm.ClassFile.FieldType.int)) ∈ lw_all := lw_g (lw_at lw_m5 166 rfl) rfl
theorem q1251 : (Jvm.Cond.methodLink "EdgeSums" (169 : Nat) ({ cls := "EdgeSums$Page", name := "isPlace", desc := "(II)Z" } : Jvm.MethodName)) ∈ lw_all := lw_g (lw_at lw_m5 167 rfl) rfl
theorem q1263 : (Jvm.Cond.methodLink "EdgeSums" (172 : Nat) ({ cls := "EdgeSums$Page", name := "canBeClue", desc := "(II)Z" } : Jvm.MethodName)) ∈ lw_all := lw_g (lw_at lw_m5 179 rfl) rfl
theorem q1275 : (Jvm.Cond.methodLink "EdgeSums" (175 : Nat) ({ cls := "EdgeSums$Page", name := "setClue", desc := "(IIZ)V" } : Jvm.MethodName)) ∈ lw_all := lw_g (lw_at lw_m5 191 rfl) rfl
theorem q1279 : (Jvm.Cond.methodLink "EdgeSums" (179 : Nat) ({ cls := "EdgeSums$Page", name := "clues", desc := "(I)I" } : Jvm.MethodName)) ∈ lw_all := lw_g (lw_at lw_m5 195 rfl) rfl
theorem q1288 : (Jvm.Cond.instanceMethod ({ cls := "EdgeSums", name := "showSum", desc := "(II)I" } : Jvm.MethodName)) ∈ lw_all := lw_g (lw_at lw_m5 204 rfl) rfl
theorem q1289 : (Jvm.Cond.selects "EdgeSums" ({ cls := "EdgeSums", name := "showSum", desc := "(II)I" } : Jvm.MethodName) ({ cls := "EdgeSums", name := "showSum", desc := "(II)I" } : Jvm.MethodName)) ∈ lw_all := lw_g (lw_at lw_m5 205 rfl) rfl
theorem q1290 : (Jvm.Cond.code ({ cls := "EdgeSums", name := "showSum", desc := "(II)I" } : Jvm.MethodName) prog_1_method_24_code (3 : Nat) (Option.some Jvm.ClassFile.FieldType.int)) ∈ lw_all := lw_g (lw_at lw_m5 206 rfl) rfl
theorem q1292 : (Jvm.Cond.instanceMethod ({ cls := "EdgeSums", name := "reduce", desc := "(II)I" } : Jvm.MethodName)) ∈ lw_all := lw_g (lw_at lw_m5 208 rfl) rfl
theorem q1293 : (Jvm.Cond.selects "EdgeSums" ({ cls := "EdgeSums", name := "reduce", desc := "(II)I" } : Jvm.MethodName) ({ cls := "EdgeSums", name := "reduce", desc := "(II)I" } : Jvm.MethodName)) ∈ lw_all := lw_g (lw_at lw_m5 209 rfl) rfl
theorem q1294 : (Jvm.Cond.code ({ cls := "EdgeSums", name := "reduce", desc := "(II)I" } : Jvm.MethodName) prog_1_method_26_code (9 : Nat) (Option.some Jvm.ClassFile.FieldType.int)) ∈ lw_all := lw_g (lw_at lw_m5 210 rfl) rfl
theorem q1295 : (Jvm.Cond.methodLink "EdgeSums" (194 : Nat) ({ cls := "EdgeSums", name := "isSolvable", desc := "(LEdgeSums$Page;)Z" } : Jvm.MethodName)) ∈ lw_all := lw_g (lw_at lw_m5 211 rfl) rfl
theorem q1296 : (Jvm.Cond.privateMethod ({ cls := "EdgeSums", name := "isSolvable", desc := "(LEdgeSums$Page;)Z" } : Jvm.MethodName)) ∈ lw_tbl := lw_at lw_m5 212 rfl
theorem q1297 : (Jvm.Cond.instanceMethod ({ cls := "EdgeSums", name := "isSolvable", desc := "(LEdgeSums$Page;)Z" } : Jvm.MethodName)) ∈ lw_all := lw_g (lw_at lw_m5 213 rfl) rfl
theorem q1298 : (Jvm.Cond.code ({ cls := "EdgeSums", name := "isSolvable", desc := "(LEdgeSums$Page;)Z" } : Jvm.MethodName) prog_1_method_25_code (2 : Nat) (Option.some Jvm.ClassFile.FieldType.boolean)) ∈ lw_all := lw_g (lw_at lw_m5 214 rfl) rfl
theorem q1299 : (Jvm.Cond.methodLink "EdgeSums" (185 : Nat) ({ cls := "EdgeSums", name := "sheet", desc := "()LEdgeSums$Sheet;" } : Jvm.MethodName)) ∈ lw_all := lw_g (lw_at lw_m5 215 rfl) rfl
theorem q1300 : (Jvm.Cond.methodLink "EdgeSums" (190 : Nat) ({ cls := "EdgeSums$Solver", name := "isSolvable", desc := "(LEdgeSums$Page;I)Z" } : Jvm.MethodName)) ∈ lw_all := lw_g (lw_at lw_m5 216 rfl) rfl
theorem q1335 : (Jvm.Cond.static ({ cls := "EdgeSums", name := "least", desc := "(I)I" } : Jvm.MethodName)) ∈ lw_all := lw_g (lw_at lw_m6 11 rfl) rfl
theorem q1336 : (Jvm.Cond.code ({ cls := "EdgeSums", name := "least", desc := "(I)I" } : Jvm.MethodName) prog_1_method_3_code (1 : Nat) (Option.some Jvm.ClassFile.FieldType.int)) ∈ lw_all := lw_g (lw_at lw_m6 12 rfl) rfl
theorem q1337 : (Jvm.Cond.methodLink "EdgeSums" (3 : Nat) ({ cls := "java/lang/Integer", name := "numberOfTrailingZeros", desc := "(I)I" } : Jvm.MethodName)) ∈ lw_all := lw_g (lw_at lw_m6 13 rfl) rfl
theorem q1379 : (Jvm.Cond.static ({ cls := "EdgeSums", name := "greatest", desc := "(I)I" } : Jvm.MethodName)) ∈ lw_all := lw_g (lw_at lw_m6 55 rfl) rfl
theorem q1380 : (Jvm.Cond.code ({ cls := "EdgeSums", name := "greatest", desc := "(I)I" } : Jvm.MethodName) prog_1_method_4_code (1 : Nat) (Option.some Jvm.ClassFile.FieldType.int)) ∈ lw_all := lw_g (lw_at lw_m6 56 rfl) rfl
theorem q1381 : (Jvm.Cond.methodLink "EdgeSums" (9 : Nat) ({ cls := "java/lang/Integer", name := "numberOfLeadingZeros", desc := "(I)I" } : Jvm.MethodName)) ∈ lw_all := lw_g (lw_at lw_m6 57 rfl) rfl
theorem q1423 : (Jvm.Cond.classLink "EdgeSums" (197 : Nat) "java/util/PriorityQueue") ∈ lw_all := lw_g (lw_at lw_m6 99 rfl) rfl
theorem q1425 : (Jvm.Cond.methodLink "EdgeSums" (199 : Nat) ({ cls := "EdgeSums$Order", name := "of", desc := "(I)LEdgeSums$Order;" } : Jvm.MethodName)) ∈ lw_all := lw_g (lw_at lw_m6 101 rfl) rfl
theorem q1449 : (Jvm.Cond.methodLink "EdgeSums" (205 : Nat) ({ cls := "java/util/PriorityQueue", name := "<init>", desc := "(Ljava/util/Comparator;)V" } : Jvm.MethodName)) ∈ lw_all := lw_g (lw_at lw_m6 125 rfl) rfl
theorem q1473 : (Jvm.Cond.methodLink "EdgeSums" (208 : Nat) ({ cls := "EdgeSums$Page", name := "places", desc := "(I)I" } : Jvm.MethodName)) ∈ lw_all := lw_g (lw_at lw_m6 149 rfl) rfl
theorem q1474 : (Jvm.Cond.methodLink "EdgeSums" (211 : Nat) ({ cls := "EdgeSums$Page", name := "isClue", desc := "(II)Z" } : Jvm.MethodName)) ∈ lw_all := lw_g (lw_at lw_m6 150 rfl) rfl
theorem q1475 : (Jvm.Cond.classLink "EdgeSums" (214 : Nat) "EdgeSums$Clue") ∈ lw_all := lw_g (lw_at lw_m6 151 rfl) rfl
theorem q1477 : (Jvm.Cond.methodLink "EdgeSums" (216 : Nat) ({ cls := "EdgeSums$Page", name := "value", desc := "(II)I" } : Jvm.MethodName)) ∈ lw_all := lw_g (lw_at lw_m6 153 rfl) rfl
theorem q1482 : (Jvm.Cond.methodLink "EdgeSums" (219 : Nat) ({ cls := "EdgeSums$Clue", name := "<init>", desc := "(II)V" } : Jvm.MethodName)) ∈ lw_all := lw_g (lw_at lw_m6 158 rfl) rfl
theorem q1490 : (Jvm.Cond.fieldLinkNest "EdgeSums" (231 : Nat) "EdgeSums$Clue" "index" "I" "EdgeSums") ∈ lw_tbl := lw_at lw_m6 166 rfl
theorem q1498 : (Jvm.Cond.methodLink "EdgeSums" (220 : Nat) ({ cls := "java/util/PriorityQueue", name := "add", desc := "(Ljava/lang/Object;)Z" } : Jvm.MethodName)) ∈ lw_all := lw_g (lw_at lw_m6 174 rfl) rfl
theorem q1536 : (Jvm.Cond.methodLink "EdgeSums" (224 : Nat) ({ cls := "java/util/PriorityQueue", name := "isEmpty", desc := "()Z" } : Jvm.MethodName)) ∈ lw_all := lw_g (lw_at lw_m6 212 rfl) rfl
theorem q1556 : (Jvm.Cond.methodLink "EdgeSums" (228 : Nat) ({ cls := "java/util/PriorityQueue", name := "poll", desc := "()Ljava/lang/Object;" } : Jvm.MethodName)) ∈ lw_all := lw_g (lw_at lw_m6 232 rfl) rfl
theorem q1567 : (Jvm.Cond.instanceMethod ({ cls := "EdgeSums", name := "support", desc := "()I" } : Jvm.MethodName)) ∈ lw_all := lw_g (lw_at lw_m7 3 rfl) rfl
theorem q1568 : (Jvm.Cond.selects "EdgeSums" ({ cls := "EdgeSums", name := "support", desc := "()I" } : Jvm.MethodName) ({ cls := "EdgeSums", name := "support", desc := "()I" } : Jvm.MethodName)) ∈ lw_all := lw_g (lw_at lw_m7 4 rfl) rfl
theorem q1569 : (Jvm.Cond.code ({ cls := "EdgeSums", name := "support", desc := "()I" } : Jvm.MethodName) prog_1_method_28_code (4 : Nat) (Option.some Jvm.ClassFile.FieldType.int)) ∈ lw_all := lw_g (lw_at lw_m7 5 rfl) rfl
theorem q1570 : (Jvm.Cond.methodLink "EdgeSums" (245 : Nat) ({ cls := "EdgeSums", name := "mostOpen", desc := "(LEdgeSums$Page;)I" } : Jvm.MethodName)) ∈ lw_all := lw_g (lw_at lw_m7 6 rfl) rfl
theorem q1571 : (Jvm.Cond.privateMethod ({ cls := "EdgeSums", name := "mostOpen", desc := "(LEdgeSums$Page;)I" } : Jvm.MethodName)) ∈ lw_tbl := lw_at lw_m7 7 rfl
theorem q1572 : (Jvm.Cond.instanceMethod ({ cls := "EdgeSums", name := "mostOpen", desc := "(LEdgeSums$Page;)I" } : Jvm.MethodName)) ∈ lw_all := lw_g (lw_at lw_m7 8 rfl) rfl
theorem q1573 : (Jvm.Cond.code ({ cls := "EdgeSums", name := "mostOpen", desc := "(LEdgeSums$Page;)I" } : Jvm.MethodName) prog_1_method_27_code (6 : Nat) (Option.some Jvm.ClassFile.FieldType.int)) ∈ lw_all := lw_g (lw_at lw_m7 9 rfl) rfl
theorem q1574 : (Jvm.Cond.classLink "EdgeSums" (234 : Nat) "EdgeSums$Board") ∈ lw_all := lw_g (lw_at lw_m7 10 rfl) rfl
theorem q1575 : (Jvm.Cond.methodLink "EdgeSums" (236 : Nat) ({ cls := "EdgeSums$Board", name := "<init>", desc := "(LEdgeSums$Page;)V" } : Jvm.MethodName)) ∈ lw_all := lw_g (lw_at lw_m7 11 rfl) rfl
theorem q1576 : (Jvm.Cond.constant "EdgeSums" (237 : Nat) (2147483647 : Int32)) ∈ lw_all := lw_g (lw_at lw_m7 12 rfl) rfl
theorem q1577 : (Jvm.Cond.methodLink "EdgeSums" (238 : Nat) ({ cls := "EdgeSums$Solver", name := "solve", desc := "(LEdgeSums$Board;II)I" } : Jvm.MethodName)) ∈ lw_all := lw_g (lw_at lw_m7 13 rfl) rfl
theorem q1578 : (Jvm.Cond.methodLink "EdgeSums" (242 : Nat) ({ cls := "EdgeSums$Board", name := "possible", desc := "(I)I" } : Jvm.MethodName)) ∈ lw_all := lw_g (lw_at lw_m7 14 rfl) rfl
theorem q1580 : (Jvm.Cond.instanceMethod ({ cls := "EdgeSums", name := "allow", desc := "(II)I" } : Jvm.MethodName)) ∈ lw_all := lw_g (lw_at lw_m7 16 rfl) rfl
theorem q1581 : (Jvm.Cond.selects "EdgeSums" ({ cls := "EdgeSums", name := "allow", desc := "(II)I" } : Jvm.MethodName) ({ cls := "EdgeSums", name := "allow", desc := "(II)I" } : Jvm.MethodName)) ∈ lw_all := lw_g (lw_at lw_m7 17 rfl) rfl
theorem q1582 : (Jvm.Cond.code ({ cls := "EdgeSums", name := "allow", desc := "(II)I" } : Jvm.MethodName) prog_1_method_30_code (4 : Nat) (Option.some Jvm.ClassFile.FieldType.int)) ∈ lw_all := lw_g (lw_at lw_m7 18 rfl) rfl
theorem q1583 : (Jvm.Cond.methodLink "EdgeSums" (249 : Nat) ({ cls := "EdgeSums", name := "isRule", desc := "(I)Z" } : Jvm.MethodName)) ∈ lw_all := lw_g (lw_at lw_m7 19 rfl) rfl
theorem q1584 : (Jvm.Cond.static ({ cls := "EdgeSums", name := "isRule", desc := "(I)Z" } : Jvm.MethodName)) ∈ lw_all := lw_g (lw_at lw_m7 20 rfl) rfl
theorem q1585 : (Jvm.Cond.code ({ cls := "EdgeSums", name := "isRule", desc := "(I)Z" } : Jvm.MethodName) prog_1_method_29_code (1 : Nat) (Option.some Jvm.ClassFile.FieldType.boolean)) ∈ lw_all := lw_g (lw_at lw_m7 21 rfl) rfl
theorem q1586 : (Jvm.Cond.methodLink "EdgeSums" (252 : Nat) ({ cls := "java/lang/Integer", name := "bitCount", desc := "(I)I" } : Jvm.MethodName)) ∈ lw_all := lw_g (lw_at lw_m7 22 rfl) rfl
theorem q1588 : (Jvm.Cond.instanceMethod ({ cls := "EdgeSums", name := "setCost", desc := "(II)I" } : Jvm.MethodName)) ∈ lw_all := lw_g (lw_at lw_m7 24 rfl) rfl
theorem q1589 : (Jvm.Cond.selects "EdgeSums" ({ cls := "EdgeSums", name := "setCost", desc := "(II)I" } : Jvm.MethodName) ({ cls := "EdgeSums", name := "setCost", desc := "(II)I" } : Jvm.MethodName)) ∈ lw_all := lw_g (lw_at lw_m7 25 rfl) rfl
theorem q1590 : (Jvm.Cond.code ({ cls := "EdgeSums", name := "setCost", desc := "(II)I" } : Jvm.MethodName) prog_1_method_31_code (4 : Nat) (Option.some Jvm.ClassFile.FieldType.int)) ∈ lw_all := lw_g (lw_at lw_m7 26 rfl) rfl
theorem q1592 : (Jvm.Cond.instanceMethod ({ cls := "EdgeSums", name := "strike", desc := "(II)I" } : Jvm.MethodName)) ∈ lw_all := lw_g (lw_at lw_m7 28 rfl) rfl
theorem q1593 : (Jvm.Cond.selects "EdgeSums" ({ cls := "EdgeSums", name := "strike", desc := "(II)I" } : Jvm.MethodName) ({ cls := "EdgeSums", name := "strike", desc := "(II)I" } : Jvm.MethodName)) ∈ lw_all := lw_g (lw_at lw_m7 29 rfl) rfl
theorem q1594 : (Jvm.Cond.code ({ cls := "EdgeSums", name := "strike", desc := "(II)I" } : Jvm.MethodName) prog_1_method_34_code (3 : Nat) (Option.some Jvm.ClassFile.FieldType.int)) ∈ lw_all := lw_g (lw_at lw_m7 30 rfl) rfl
theorem q1595 : (Jvm.Cond.methodLink "EdgeSums" (268 : Nat) ({ cls := "EdgeSums", name := "isNumber", desc := "(II)Z" } : Jvm.MethodName)) ∈ lw_all := lw_g (lw_at lw_m7 31 rfl) rfl
theorem q1596 : (Jvm.Cond.privateMethod ({ cls := "EdgeSums", name := "isNumber", desc := "(II)Z" } : Jvm.MethodName)) ∈ lw_tbl := lw_at lw_m7 32 rfl
theorem q1597 : (Jvm.Cond.instanceMethod ({ cls := "EdgeSums", name := "isNumber", desc := "(II)Z" } : Jvm.MethodName)) ∈ lw_all := lw_g (lw_at lw_m7 33 rfl) rfl
theorem q1598 : (Jvm.Cond.code ({ cls := "EdgeSums", name := "isNumber", desc := "(II)Z" } : Jvm.MethodName) prog_1_method_32_code (3 : Nat) (Option.some Jvm.ClassFile.FieldType.boolean)) ∈ lw_all := lw_g (lw_at lw_m7 34 rfl) rfl
theorem q1599 : (Jvm.Cond.methodLink "EdgeSums" (269 : Nat) ({ cls := "EdgeSums", name := "findRule", desc := "(II)Z" } : Jvm.MethodName)) ∈ lw_all := lw_g (lw_at lw_m7 35 rfl) rfl
theorem q1600 : (Jvm.Cond.privateMethod ({ cls := "EdgeSums", name := "findRule", desc := "(II)Z" } : Jvm.MethodName)) ∈ lw_tbl := lw_at lw_m7 36 rfl
theorem q1601 : (Jvm.Cond.instanceMethod ({ cls := "EdgeSums", name := "findRule", desc := "(II)Z" } : Jvm.MethodName)) ∈ lw_all := lw_g (lw_at lw_m7 37 rfl) rfl
theorem q1602 : (Jvm.Cond.code ({ cls := "EdgeSums", name := "findRule", desc := "(II)Z" } : Jvm.MethodName) prog_1_method_33_code (3 : Nat) (Option.some Jvm.ClassFile.FieldType.boolean)) ∈ lw_all := lw_g (lw_at lw_m7 38 rfl) rfl
theorem q1603 : (Jvm.Cond.methodLink "EdgeSums" (258 : Nat) ({ cls := "EdgeSums", name := "board", desc := "()LEdgeSums$Board;" } : Jvm.MethodName)) ∈ lw_all := lw_g (lw_at lw_m7 39 rfl) rfl
theorem q1604 : (Jvm.Cond.privateMethod ({ cls := "EdgeSums", name := "board", desc := "()LEdgeSums$Board;" } : Jvm.MethodName)) ∈ lw_tbl := lw_at lw_m7 40 rfl
theorem q1605 : (Jvm.Cond.instanceMethod ({ cls := "EdgeSums", name := "board", desc := "()LEdgeSums$Board;" } : Jvm.MethodName)) ∈ lw_all := lw_g (lw_at lw_m7 41 rfl) rfl
theorem q1606 : (Jvm.Cond.code ({ cls := "EdgeSums", name := "board", desc := "()LEdgeSums$Board;" } : Jvm.MethodName) prog_1_method_8_code (1 : Nat) (Option.some (Jvm.ClassFile.FieldType.object "EdgeSums$Board"))) ∈ lw_all := lw_g (lw_at lw_m7 42 rfl) rfl
theorem q1607 : (Jvm.Cond.methodLink "EdgeSums" (261 : Nat) ({ cls := "EdgeSums$Board", name := "isPossible", desc := "(II)Z" } : Jvm.MethodName)) ∈ lw_all := lw_g (lw_at lw_m7 43 rfl) rfl
theorem q1608 : (Jvm.Cond.methodLink "EdgeSums" (264 : Nat) ({ cls := "EdgeSums$Solver", name := "findRule", desc := "(LEdgeSums$Board;III)Z" } : Jvm.MethodName)) ∈ lw_all := lw_g (lw_at lw_m7 44 rfl) rfl
theorem q1612 : (Jvm.Cond.methodLink "EdgeSums" (271 : Nat) ({ cls := "EdgeSums$Board", name := "strike", desc := "(II)V" } : Jvm.MethodName)) ∈ lw_all := lw_g (lw_at lw_m7 48 rfl) rfl
theorem q1614 : (Jvm.Cond.instanceMethod ({ cls := "EdgeSums", name := "advance", desc := "(I)I" } : Jvm.MethodName)) ∈ lw_all := lw_g (lw_at lw_m7 50 rfl) rfl
theorem q1615 : (Jvm.Cond.selects "EdgeSums" ({ cls := "EdgeSums", name := "advance", desc := "(I)I" } : Jvm.MethodName) ({ cls := "EdgeSums", name := "advance", desc := "(I)I" } : Jvm.MethodName)) ∈ lw_all := lw_g (lw_at lw_m7 51 rfl) rfl
theorem q1616 : (Jvm.Cond.code ({ cls := "EdgeSums", name := "advance", desc := "(I)I" } : Jvm.MethodName) prog_1_method_35_code (3 : Nat) (Option.some Jvm.ClassFile.FieldType.int)) ∈ lw_all := lw_g (lw_at lw_m7 52 rfl) rfl
theorem q1617 : (Jvm.Cond.methodLink "EdgeSums" (277 : Nat) ({ cls := "EdgeSums$Solver", name := "find", desc := "(LEdgeSums$Board;I)Z" } : Jvm.MethodName)) ∈ lw_all := lw_g (lw_at lw_m7 53 rfl) rfl
theorem q1619 : (Jvm.Cond.instanceMethod ({ cls := "EdgeSums", name := "restart", desc := "()I" } : Jvm.MethodName)) ∈ lw_all := lw_g (lw_at lw_m7 55 rfl) rfl
theorem q1620 : (Jvm.Cond.selects "EdgeSums" ({ cls := "EdgeSums", name := "restart", desc := "()I" } : Jvm.MethodName) ({ cls := "EdgeSums", name := "restart", desc := "()I" } : Jvm.MethodName)) ∈ lw_all := lw_g (lw_at lw_m7 56 rfl) rfl
theorem q1621 : (Jvm.Cond.code ({ cls := "EdgeSums", name := "restart", desc := "()I" } : Jvm.MethodName) prog_1_method_36_code (1 : Nat) (Option.some Jvm.ClassFile.FieldType.int)) ∈ lw_all := lw_g (lw_at lw_m7 57 rfl) rfl
theorem q1622 : (Jvm.Cond.methodLink "EdgeSums" (281 : Nat) ({ cls := "EdgeSums$Board", name := "possible", desc := "()I" } : Jvm.MethodName)) ∈ lw_all := lw_g (lw_at lw_m7 58 rfl) rfl
theorem q1627 : (Jvm.Cond.instanceMethod ({ cls := "EdgeSums", name := "take", desc := "(I)I" } : Jvm.MethodName)) ∈ lw_all := lw_g (lw_at lw_m7 63 rfl) rfl
theorem q1628 : (Jvm.Cond.selects "EdgeSums" ({ cls := "EdgeSums", name := "take", desc := "(I)I" } : Jvm.MethodName) ({ cls := "EdgeSums", name := "take", desc := "(I)I" } : Jvm.MethodName)) ∈ lw_all := lw_g (lw_at lw_m7 64 rfl) rfl
theorem q1629 : (Jvm.Cond.code ({ cls := "EdgeSums", name := "take", desc := "(I)I" } : Jvm.MethodName) prog_1_method_38_code (3 : Nat) (Option.some Jvm.ClassFile.FieldType.int)) ∈ lw_all := lw_g (lw_at lw_m7 65 rfl) rfl
theorem q1630 : (Jvm.Cond.methodLink "EdgeSums" (283 : Nat) ({ cls := "EdgeSums", name := "isSlot", desc := "(I)Z" } : Jvm.MethodName)) ∈ lw_all := lw_g (lw_at lw_m7 66 rfl) rfl
theorem q1631 : (Jvm.Cond.static ({ cls := "EdgeSums", name := "isSlot", desc := "(I)Z" } : Jvm.MethodName)) ∈ lw_all := lw_g (lw_at lw_m7 67 rfl) rfl
theorem q1632 : (Jvm.Cond.code ({ cls := "EdgeSums", name := "isSlot", desc := "(I)Z" } : Jvm.MethodName) prog_1_method_37_code (1 : Nat) (Option.some Jvm.ClassFile.FieldType.boolean)) ∈ lw_all := lw_g (lw_at lw_m7 68 rfl) rfl
theorem q1633 : (Jvm.Cond.methodLink "EdgeSums" (290 : Nat) ({ cls := "EdgeSums$Sheet", name := "copy", desc := "()LEdgeSums$Sheet;" } : Jvm.MethodName)) ∈ lw_all := lw_g (lw_at lw_m7 69 rfl) rfl
theorem q1634 : (Jvm.Cond.methodLink "EdgeSums" (292 : Nat) ({ cls := "EdgeSums$Page", name := "clues", desc := "()I" } : Jvm.MethodName)) ∈ lw_all := lw_g (lw_at lw_m7 70 rfl) rfl
theorem q1640 : (Jvm.Cond.instanceMethod ({ cls := "EdgeSums", name := "restore", desc := "(I)I" } : Jvm.MethodName)) ∈ lw_all := lw_g (lw_at lw_m7 76 rfl) rfl
theorem q1641 : (Jvm.Cond.selects "EdgeSums" ({ cls := "EdgeSums", name := "restore", desc := "(I)I" } : Jvm.MethodName) ({ cls := "EdgeSums", name := "restore", desc := "(I)I" } : Jvm.MethodName)) ∈ lw_all := lw_g (lw_at lw_m7 77 rfl) rfl
theorem q1642 : (Jvm.Cond.code ({ cls := "EdgeSums", name := "restore", desc := "(I)I" } : Jvm.MethodName) prog_1_method_39_code (3 : Nat) (Option.some Jvm.ClassFile.FieldType.int)) ∈ lw_all := lw_g (lw_at lw_m7 78 rfl) rfl
theorem q1644 : (Jvm.Cond.instanceMethod ({ cls := "EdgeSums", name := "undo", desc := "()I" } : Jvm.MethodName)) ∈ lw_all := lw_g (lw_at lw_m7 80 rfl) rfl
theorem q1645 : (Jvm.Cond.selects "EdgeSums" ({ cls := "EdgeSums", name := "undo", desc := "()I" } : Jvm.MethodName) ({ cls := "EdgeSums", name := "undo", desc := "()I" } : Jvm.MethodName)) ∈ lw_all := lw_g (lw_at lw_m7 81 rfl) rfl
theorem q1646 : (Jvm.Cond.code ({ cls := "EdgeSums", name := "undo", desc := "()I" } : Jvm.MethodName) prog_1_method_40_code (1 : Nat) (Option.some Jvm.ClassFile.FieldType.int)) ∈ lw_all := lw_g (lw_at lw_m7 82 rfl) rfl
theorem q1647 : (Jvm.Cond.methodLink "EdgeSums" (294 : Nat) ({ cls := "java/util/ArrayDeque", name := "isEmpty", desc := "()Z" } : Jvm.MethodName)) ∈ lw_all := lw_g (lw_at lw_m7 83 rfl) rfl
theorem q1651 : (Jvm.Cond.methodLink "EdgeSums" (295 : Nat) ({ cls := "java/util/ArrayDeque", name := "removeLast", desc := "()Ljava/lang/Object;" } : Jvm.MethodName)) ∈ lw_all := lw_g (lw_at lw_m7 87 rfl) rfl
theorem q1663 : (Jvm.Cond.instanceMethod ({ cls := "EdgeSums", name := "append", desc := "(I)I" } : Jvm.MethodName)) ∈ lw_all := lw_g (lw_at lw_m7 99 rfl) rfl
theorem q1664 : (Jvm.Cond.selects "EdgeSums" ({ cls := "EdgeSums", name := "append", desc := "(I)I" } : Jvm.MethodName) ({ cls := "EdgeSums", name := "append", desc := "(I)I" } : Jvm.MethodName)) ∈ lw_all := lw_g (lw_at lw_m7 100 rfl) rfl
theorem q1665 : (Jvm.Cond.code ({ cls := "EdgeSums", name := "append", desc := "(I)I" } : Jvm.MethodName) prog_1_method_41_code (2 : Nat) (Option.some Jvm.ClassFile.FieldType.int)) ∈ lw_all := lw_g (lw_at lw_m7 101 rfl) rfl
theorem q1666 : (Jvm.Cond.methodLink "EdgeSums" (298 : Nat) ({ cls := "java/lang/StringBuilder", name := "length", desc := "()I" } : Jvm.MethodName)) ∈ lw_all := lw_g (lw_at lw_m7 102 rfl) rfl
theorem q1673 : (Jvm.Cond.methodLink "EdgeSums" (301 : Nat) ({ cls := "java/lang/StringBuilder", name := "append", desc := "(C)Ljava/lang/StringBuilder;" } : Jvm.MethodName)) ∈ lw_all := lw_g (lw_at lw_m7 109 rfl) rfl
theorem q1738 : (Jvm.Cond.instanceMethod ({ cls := "EdgeSums", name := "clearText", desc := "()I" } : Jvm.MethodName)) ∈ lw_all := lw_g (lw_at lw_m7 174 rfl) rfl
theorem q1739 : (Jvm.Cond.selects "EdgeSums" ({ cls := "EdgeSums", name := "clearText", desc := "()I" } : Jvm.MethodName) ({ cls := "EdgeSums", name := "clearText", desc := "()I" } : Jvm.MethodName)) ∈ lw_all := lw_g (lw_at lw_m7 175 rfl) rfl
theorem q1740 : (Jvm.Cond.code ({ cls := "EdgeSums", name := "clearText", desc := "()I" } : Jvm.MethodName) prog_1_method_42_code (2 : Nat) (Option.some Jvm.ClassFile.FieldType.int)) ∈ lw_all := lw_g (lw_at lw_m7 176 rfl) rfl
theorem q1741 : (Jvm.Cond.methodLink "EdgeSums" (305 : Nat) ({ cls := "java/lang/StringBuilder", name := "setLength", desc := "(I)V" } : Jvm.MethodName)) ∈ lw_all := lw_g (lw_at lw_m7 177 rfl) rfl
theorem q1762 : (Jvm.Cond.instanceMethod ({ cls := "EdgeSums", name := "load", desc := "()I" } : Jvm.MethodName)) ∈ lw_all := lw_g (lw_at lw_m7 198 rfl) rfl
theorem q1763 : (Jvm.Cond.selects "EdgeSums" ({ cls := "EdgeSums", name := "load", desc := "()I" } : Jvm.MethodName) ({ cls := "EdgeSums", name := "load", desc := "()I" } : Jvm.MethodName)) ∈ lw_all := lw_g (lw_at lw_m7 199 rfl) rfl
theorem q1764 : (Jvm.Cond.codeWith ({ cls := "EdgeSums", name := "load", desc := "()I" } : Jvm.MethodName) prog_1_method_43_code (4 : Nat) (Option.some Jvm.ClassFile.FieldType.int) [((9 : Nat), (14 : Nat), (17 : Nat), (316 : Nat))]) ∈ lw_all := lw_g (lw_at lw_m7 200 rfl) rfl
theorem q1765 : (Jvm.Cond.classLink "EdgeSums" (316 : Nat) "EdgeSums$TokenException") ∈ lw_all := lw_g (lw_at lw_m7 201 rfl) rfl
theorem q1766 : (Jvm.Cond.classLink "EdgeSums" (308 : Nat) "EdgeSums$Parser") ∈ lw_all := lw_g (lw_at lw_m7 202 rfl) rfl
theorem q1768 : (Jvm.Cond.methodLinkNest "EdgeSums" (310 : Nat) ({ cls := "EdgeSums$Parser", name := "<init>", desc := "(LEdgeSums;)V" } : Jvm.MethodName) "EdgeSums") ∈ lw_tbl := lw_at lw_m7 204 rfl
theorem q1774 : (Jvm.Cond.fieldLinkNest "EdgeSums" (321 : Nat) "EdgeSums$Parser" "into" "LEdgeSums$State;" "EdgeSums") ∈ lw_tbl := lw_at lw_m7 210 rfl
theorem q1787 : (Jvm.Cond.methodLink "EdgeSums" (313 : Nat) ({ cls := "EdgeSums$Parser", name := "items", desc := "()I" } : Jvm.MethodName)) ∈ lw_all := lw_g (lw_at lw_m7 223 rfl) rfl
theorem q2009 : (Jvm.Cond.fieldLinkNest "EdgeSums" (318 : Nat) "EdgeSums$TokenException" "position" "I" "EdgeSums") ∈ lw_tbl := lw_at lw_m8 205 rfl
theorem q2179 : (Jvm.Cond.instanceMethod ({ cls := "EdgeSums", name := "count", desc := "(I)I" } : Jvm.MethodName)) ∈ lw_all := lw_g (lw_at lw_m9 135 rfl) rfl
theorem q2180 : (Jvm.Cond.selects "EdgeSums" ({ cls := "EdgeSums", name := "count", desc := "(I)I" } : Jvm.MethodName) ({ cls := "EdgeSums", name := "count", desc := "(I)I" } : Jvm.MethodName)) ∈ lw_all := lw_g (lw_at lw_m9 136 rfl) rfl
theorem q2181 : (Jvm.Cond.code ({ cls := "EdgeSums", name := "count", desc := "(I)I" } : Jvm.MethodName) prog_1_method_45_code (2 : Nat) (Option.some Jvm.ClassFile.FieldType.int)) ∈ lw_all := lw_g (lw_at lw_m9 137 rfl) rfl
theorem q2182 : (Jvm.Cond.methodLink "EdgeSums" (327 : Nat) ({ cls := "EdgeSums$Board", name := "cellsWith", desc := "(I)I" } : Jvm.MethodName)) ∈ lw_all := lw_g (lw_at lw_m9 138 rfl) rfl
theorem q2183 : (Jvm.Cond.methodLink "EdgeSums" (330 : Nat) ({ cls := "EdgeSums", name := "snapshots", desc := "()I" } : Jvm.MethodName)) ∈ lw_all := lw_g (lw_at lw_m9 139 rfl) rfl
theorem q2184 : (Jvm.Cond.privateMethod ({ cls := "EdgeSums", name := "snapshots", desc := "()I" } : Jvm.MethodName)) ∈ lw_tbl := lw_at lw_m9 140 rfl
theorem q2185 : (Jvm.Cond.instanceMethod ({ cls := "EdgeSums", name := "snapshots", desc := "()I" } : Jvm.MethodName)) ∈ lw_all := lw_g (lw_at lw_m9 141 rfl) rfl
theorem q2186 : (Jvm.Cond.code ({ cls := "EdgeSums", name := "snapshots", desc := "()I" } : Jvm.MethodName) prog_1_method_44_code (6 : Nat) (Option.some Jvm.ClassFile.FieldType.int)) ∈ lw_all := lw_g (lw_at lw_m9 142 rfl) rfl
theorem q2188 : (Jvm.Cond.instanceMethod ({ cls := "EdgeSums", name := "cell", desc := "(II)I" } : Jvm.MethodName)) ∈ lw_all := lw_g (lw_at lw_m9 144 rfl) rfl
theorem q2189 : (Jvm.Cond.selects "EdgeSums" ({ cls := "EdgeSums", name := "cell", desc := "(II)I" } : Jvm.MethodName) ({ cls := "EdgeSums", name := "cell", desc := "(II)I" } : Jvm.MethodName)) ∈ lw_all := lw_g (lw_at lw_m9 145 rfl) rfl
theorem q2190 : (Jvm.Cond.code ({ cls := "EdgeSums", name := "cell", desc := "(II)I" } : Jvm.MethodName) prog_1_method_47_code (3 : Nat) (Option.some Jvm.ClassFile.FieldType.int)) ∈ lw_all := lw_g (lw_at lw_m9 146 rfl) rfl
theorem q2191 : (Jvm.Cond.methodLink "EdgeSums" (340 : Nat) ({ cls := "EdgeSums", name := "least", desc := "(I)I" } : Jvm.MethodName)) ∈ lw_all := lw_g (lw_at lw_m9 147 rfl) rfl
theorem q2192 : (Jvm.Cond.methodLink "EdgeSums" (343 : Nat) ({ cls := "EdgeSums", name := "strangers", desc := "(I)I" } : Jvm.MethodName)) ∈ lw_all := lw_g (lw_at lw_m9 148 rfl) rfl
theorem q2193 : (Jvm.Cond.privateMethod ({ cls := "EdgeSums", name := "strangers", desc := "(I)I" } : Jvm.MethodName)) ∈ lw_tbl := lw_at lw_m9 149 rfl
theorem q2194 : (Jvm.Cond.instanceMethod ({ cls := "EdgeSums", name := "strangers", desc := "(I)I" } : Jvm.MethodName)) ∈ lw_all := lw_g (lw_at lw_m9 150 rfl) rfl
theorem q2195 : (Jvm.Cond.code ({ cls := "EdgeSums", name := "strangers", desc := "(I)I" } : Jvm.MethodName) prog_1_method_46_code (4 : Nat) (Option.some Jvm.ClassFile.FieldType.int)) ∈ lw_all := lw_g (lw_at lw_m9 151 rfl) rfl
theorem q2197 : (Jvm.Cond.instanceMethod ({ cls := "EdgeSums", name := "line", desc := "(II)I" } : Jvm.MethodName)) ∈ lw_all := lw_g (lw_at lw_m9 153 rfl) rfl
theorem q2198 : (Jvm.Cond.selects "EdgeSums" ({ cls := "EdgeSums", name := "line", desc := "(II)I" } : Jvm.MethodName) ({ cls := "EdgeSums", name := "line", desc := "(II)I" } : Jvm.MethodName)) ∈ lw_all := lw_g (lw_at lw_m9 154 rfl) rfl
theorem q2199 : (Jvm.Cond.code ({ cls := "EdgeSums", name := "line", desc := "(II)I" } : Jvm.MethodName) prog_1_method_48_code (4 : Nat) (Option.some Jvm.ClassFile.FieldType.int)) ∈ lw_all := lw_g (lw_at lw_m9 155 rfl) rfl
theorem q2200 : (Jvm.Cond.methodLink "EdgeSums" (346 : Nat) ({ cls := "EdgeSums$Page", name := "isLine", desc := "(I)Z" } : Jvm.MethodName)) ∈ lw_all := lw_g (lw_at lw_m9 156 rfl) rfl
theorem q2204 : (Jvm.Cond.methodLink "EdgeSums" (349 : Nat) ({ cls := "EdgeSums$Board", name := "sums", desc := "(II)I" } : Jvm.MethodName)) ∈ lw_all := lw_g (lw_at lw_m9 160 rfl) rfl
theorem q2205 : (Jvm.Cond.methodLink "EdgeSums" (352 : Nat) ({ cls := "EdgeSums$Page", name := "sum", desc := "(I)I" } : Jvm.MethodName)) ∈ lw_all := lw_g (lw_at lw_m9 161 rfl) rfl
theorem q2206 : (Jvm.Cond.methodLink "EdgeSums" (358 : Nat) ({ cls := "EdgeSums", name := "greatest", desc := "(I)I" } : Jvm.MethodName)) ∈ lw_all := lw_g (lw_at lw_m9 162 rfl) rfl
theorem q2208 : (Jvm.Cond.instanceMethod ({ cls := "EdgeSums", name := "block", desc := "(II)I" } : Jvm.MethodName)) ∈ lw_all := lw_g (lw_at lw_m9 164 rfl) rfl
theorem q2209 : (Jvm.Cond.selects "EdgeSums" ({ cls := "EdgeSums", name := "block", desc := "(II)I" } : Jvm.MethodName) ({ cls := "EdgeSums", name := "block", desc := "(II)I" } : Jvm.MethodName)) ∈ lw_all := lw_g (lw_at lw_m9 165 rfl) rfl
theorem q2210 : (Jvm.Cond.code ({ cls := "EdgeSums", name := "block", desc := "(II)I" } : Jvm.MethodName) prog_1_method_50_code (10 : Nat) (Option.some Jvm.ClassFile.FieldType.int)) ∈ lw_all := lw_g (lw_at lw_m9 166 rfl) rfl
theorem q2211 : (Jvm.Cond.methodLink "EdgeSums" (365 : Nat) ({ cls := "EdgeSums", name := "beside", desc := "(I)I" } : Jvm.MethodName)) ∈ lw_all := lw_g (lw_at lw_m9 167 rfl) rfl
theorem q2212 : (Jvm.Cond.privateMethod ({ cls := "EdgeSums", name := "beside", desc := "(I)I" } : Jvm.MethodName)) ∈ lw_tbl := lw_at lw_m9 168 rfl
theorem q2213 : (Jvm.Cond.instanceMethod ({ cls := "EdgeSums", name := "beside", desc := "(I)I" } : Jvm.MethodName)) ∈ lw_all := lw_g (lw_at lw_m9 169 rfl) rfl
theorem q2214 : (Jvm.Cond.code ({ cls := "EdgeSums", name := "beside", desc := "(I)I" } : Jvm.MethodName) prog_1_method_49_code (8 : Nat) (Option.some Jvm.ClassFile.FieldType.int)) ∈ lw_all := lw_g (lw_at lw_m9 170 rfl) rfl
theorem q2216 : (Jvm.Cond.instanceMethod ({ cls := "EdgeSums", name := "rule", desc := "(II)I" } : Jvm.MethodName)) ∈ lw_all := lw_g (lw_at lw_m9 172 rfl) rfl
theorem q2217 : (Jvm.Cond.selects "EdgeSums" ({ cls := "EdgeSums", name := "rule", desc := "(II)I" } : Jvm.MethodName) ({ cls := "EdgeSums", name := "rule", desc := "(II)I" } : Jvm.MethodName)) ∈ lw_all := lw_g (lw_at lw_m9 173 rfl) rfl
theorem q2218 : (Jvm.Cond.code ({ cls := "EdgeSums", name := "rule", desc := "(II)I" } : Jvm.MethodName) prog_1_method_51_code (3 : Nat) (Option.some Jvm.ClassFile.FieldType.int)) ∈ lw_all := lw_g (lw_at lw_m9 174 rfl) rfl
theorem q2219 : (Jvm.Cond.methodLink "EdgeSums" (368 : Nat) ({ cls := "EdgeSums", name := "has", desc := "(II)Z" } : Jvm.MethodName)) ∈ lw_all := lw_g (lw_at lw_m9 175 rfl) rfl
theorem q2220 : (Jvm.Cond.classLink "EdgeSums" (371 : Nat) "EdgeSums$Run") ∈ lw_all := lw_g (lw_at lw_m9 176 rfl) rfl
theorem q2222 : (Jvm.Cond.methodLink "EdgeSums" (373 : Nat) ({ cls := "EdgeSums$Run", name := "<init>", desc := "(LEdgeSums;)V" } : Jvm.MethodName)) ∈ lw_all := lw_g (lw_at lw_m9 178 rfl) rfl
theorem q2279 : (Jvm.Cond.fieldLinkNest "EdgeSums" (397 : Nat) "EdgeSums$Step" "parts" "[I" "EdgeSums") ∈ lw_tbl := lw_at lw_m9 235 rfl
theorem q2286 : (Jvm.Cond.fieldLinkNest "EdgeSums" (411 : Nat) "EdgeSums$Run" "steps" "Ljava/util/List;" "EdgeSums") ∈ lw_tbl := lw_at lw_m10 2 rfl
theorem q2288 : (Jvm.Cond.fieldLinkNest "EdgeSums" (405 : Nat) "EdgeSums$Run" "end" "LEdgeSums$Board;" "EdgeSums") ∈ lw_tbl := lw_at lw_m10 4 rfl
theorem q2300 : (Jvm.Cond.methodLink "EdgeSums" (374 : Nat) ({ cls := "EdgeSums$Run", name := "stepsBy", desc := "(I)I" } : Jvm.MethodName)) ∈ lw_all := lw_g (lw_at lw_m10 16 rfl) rfl
theorem q2360 : (Jvm.Cond.interfaceEntry "EdgeSums" (381 : Nat)) ∈ lw_tbl := lw_at lw_m10 76 rfl
theorem q2361 : (Jvm.Cond.methodLink "EdgeSums" (381 : Nat) ({ cls := "EdgeSums$Rule", name := "strikes", desc := "(LEdgeSums$Board;)I" } : Jvm.MethodName)) ∈ lw_all := lw_g (lw_at lw_m10 77 rfl) rfl
theorem q2391 : (Jvm.Cond.instanceMethod ({ cls := "EdgeSums", name := "possible", desc := "(II)I" } : Jvm.MethodName)) ∈ lw_all := lw_g (lw_at lw_m10 107 rfl) rfl
theorem q2392 : (Jvm.Cond.selects "EdgeSums" ({ cls := "EdgeSums", name := "possible", desc := "(II)I" } : Jvm.MethodName) ({ cls := "EdgeSums", name := "possible", desc := "(II)I" } : Jvm.MethodName)) ∈ lw_all := lw_g (lw_at lw_m10 108 rfl) rfl
theorem q2393 : (Jvm.Cond.code ({ cls := "EdgeSums", name := "possible", desc := "(II)I" } : Jvm.MethodName) prog_1_method_52_code (3 : Nat) (Option.some Jvm.ClassFile.FieldType.int)) ∈ lw_all := lw_g (lw_at lw_m10 109 rfl) rfl
theorem q2395 : (Jvm.Cond.instanceMethod ({ cls := "EdgeSums", name := "why", desc := "(III)I" } : Jvm.MethodName)) ∈ lw_all := lw_g (lw_at lw_m10 111 rfl) rfl
theorem q2396 : (Jvm.Cond.selects "EdgeSums" ({ cls := "EdgeSums", name := "why", desc := "(III)I" } : Jvm.MethodName) ({ cls := "EdgeSums", name := "why", desc := "(III)I" } : Jvm.MethodName)) ∈ lw_all := lw_g (lw_at lw_m10 112 rfl) rfl
theorem q2397 : (Jvm.Cond.code ({ cls := "EdgeSums", name := "why", desc := "(III)I" } : Jvm.MethodName) prog_1_method_53_code (4 : Nat) (Option.some Jvm.ClassFile.FieldType.int)) ∈ lw_all := lw_g (lw_at lw_m10 113 rfl) rfl
theorem q2399 : (Jvm.Cond.instanceMethod ({ cls := "EdgeSums", name := "next", desc := "(I)I" } : Jvm.MethodName)) ∈ lw_all := lw_g (lw_at lw_m10 115 rfl) rfl
theorem q2400 : (Jvm.Cond.selects "EdgeSums" ({ cls := "EdgeSums", name := "next", desc := "(I)I" } : Jvm.MethodName) ({ cls := "EdgeSums", name := "next", desc := "(I)I" } : Jvm.MethodName)) ∈ lw_all := lw_g (lw_at lw_m10 116 rfl) rfl
theorem q2401 : (Jvm.Cond.code ({ cls := "EdgeSums", name := "next", desc := "(I)I" } : Jvm.MethodName) prog_1_method_55_code (2 : Nat) (Option.some Jvm.ClassFile.FieldType.int)) ∈ lw_all := lw_g (lw_at lw_m10 117 rfl) rfl
theorem q2402 : (Jvm.Cond.methodLink "EdgeSums" (390 : Nat) ({ cls := "EdgeSums", name := "isPart", desc := "(I)Z" } : Jvm.MethodName)) ∈ lw_all := lw_g (lw_at lw_m10 118 rfl) rfl
theorem q2403 : (Jvm.Cond.static ({ cls := "EdgeSums", name := "isPart", desc := "(I)Z" } : Jvm.MethodName)) ∈ lw_all := lw_g (lw_at lw_m10 119 rfl) rfl
theorem q2404 : (Jvm.Cond.code ({ cls := "EdgeSums", name := "isPart", desc := "(I)Z" } : Jvm.MethodName) prog_1_method_54_code (1 : Nat) (Option.some Jvm.ClassFile.FieldType.boolean)) ∈ lw_all := lw_g (lw_at lw_m10 120 rfl) rfl
theorem q2405 : (Jvm.Cond.methodLink "EdgeSums" (393 : Nat) ({ cls := "EdgeSums$Solver", name := "step", desc := "()LEdgeSums$Step;" } : Jvm.MethodName)) ∈ lw_all := lw_g (lw_at lw_m10 121 rfl) rfl
theorem q2407 : (Jvm.Cond.instanceMethod ({ cls := "EdgeSums", name := "run", desc := "(I)I" } : Jvm.MethodName)) ∈ lw_all := lw_g (lw_at lw_m10 123 rfl) rfl
theorem q2408 : (Jvm.Cond.selects "EdgeSums" ({ cls := "EdgeSums", name := "run", desc := "(I)I" } : Jvm.MethodName) ({ cls := "EdgeSums", name := "run", desc := "(I)I" } : Jvm.MethodName)) ∈ lw_all := lw_g (lw_at lw_m10 124 rfl) rfl
theorem q2409 : (Jvm.Cond.code ({ cls := "EdgeSums", name := "run", desc := "(I)I" } : Jvm.MethodName) prog_1_method_56_code (4 : Nat) (Option.some Jvm.ClassFile.FieldType.int)) ∈ lw_all := lw_g (lw_at lw_m10 125 rfl) rfl
theorem q2410 : (Jvm.Cond.methodLink "EdgeSums" (402 : Nat) ({ cls := "EdgeSums$Run", name := "hardest", desc := "()I" } : Jvm.MethodName)) ∈ lw_all := lw_g (lw_at lw_m10 126 rfl) rfl
theorem q2416 : (Jvm.Cond.methodLink "EdgeSums" (408 : Nat) ({ cls := "EdgeSums$Board", name := "outcome", desc := "()I" } : Jvm.MethodName)) ∈ lw_all := lw_g (lw_at lw_m10 132 rfl) rfl
theorem q2417 : (Jvm.Cond.interfaceEntry "EdgeSums" (415 : Nat)) ∈ lw_tbl := lw_at lw_m10 133 rfl
theorem q2418 : (Jvm.Cond.methodLink "EdgeSums" (415 : Nat) ({ cls := "java/util/List", name := "size", desc := "()I" } : Jvm.MethodName)) ∈ lw_all := lw_g (lw_at lw_m10 134 rfl) rfl
theorem q2419 : (Jvm.Cond.interfaceEntry "EdgeSums" (418 : Nat)) ∈ lw_tbl := lw_at lw_m10 135 rfl
theorem q2420 : (Jvm.Cond.methodLink "EdgeSums" (418 : Nat) ({ cls := "java/util/List", name := "get", desc := "(I)Ljava/lang/Object;" } : Jvm.MethodName)) ∈ lw_all := lw_g (lw_at lw_m10 136 rfl) rfl
theorem q2421 : (Jvm.Cond.classLink "EdgeSums" (398 : Nat) "EdgeSums$Step") ∈ lw_all := lw_g (lw_at lw_m10 137 rfl) rfl
theorem q2422 : (Jvm.Cond.methodLink "EdgeSums" (422 : Nat) ({ cls := "EdgeSums$Step", name := "rule", desc := "()I" } : Jvm.MethodName)) ∈ lw_all := lw_g (lw_at lw_m10 138 rfl) rfl
theorem q2423 : (Jvm.Cond.methodLink "EdgeSums" (424 : Nat) ({ cls := "EdgeSums$Run", name := "work", desc := "()I" } : Jvm.MethodName)) ∈ lw_all := lw_g (lw_at lw_m10 139 rfl) rfl
theorem q2428 : (Jvm.Cond.instanceMethod ({ cls := "EdgeSums", name := "step", desc := "(II)I" } : Jvm.MethodName)) ∈ lw_all := lw_g (lw_at lw_m10 144 rfl) rfl
theorem q2429 : (Jvm.Cond.selects "EdgeSums" ({ cls := "EdgeSums", name := "step", desc := "(II)I" } : Jvm.MethodName) ({ cls := "EdgeSums", name := "step", desc := "(II)I" } : Jvm.MethodName)) ∈ lw_all := lw_g (lw_at lw_m10 145 rfl) rfl
theorem q2430 : (Jvm.Cond.code ({ cls := "EdgeSums", name := "step", desc := "(II)I" } : Jvm.MethodName) prog_1_method_57_code (4 : Nat) (Option.some Jvm.ClassFile.FieldType.int)) ∈ lw_all := lw_g (lw_at lw_m10 146 rfl) rfl
theorem q2432 : (Jvm.Cond.instanceMethod ({ cls := "EdgeSums", name := "rank", desc := "(I)I" } : Jvm.MethodName)) ∈ lw_all := lw_g (lw_at lw_m10 148 rfl) rfl
theorem q2433 : (Jvm.Cond.selects "EdgeSums" ({ cls := "EdgeSums", name := "rank", desc := "(I)I" } : Jvm.MethodName) ({ cls := "EdgeSums", name := "rank", desc := "(I)I" } : Jvm.MethodName)) ∈ lw_all := lw_g (lw_at lw_m10 149 rfl) rfl
theorem q2434 : (Jvm.Cond.code ({ cls := "EdgeSums", name := "rank", desc := "(I)I" } : Jvm.MethodName) prog_1_method_58_code (2 : Nat) (Option.some Jvm.ClassFile.FieldType.int)) ∈ lw_all := lw_g (lw_at lw_m10 150 rfl) rfl
theorem q2435 : (Jvm.Cond.methodLink "EdgeSums" (427 : Nat) ({ cls := "EdgeSums$Run", name := "rank", desc := "(I)I" } : Jvm.MethodName)) ∈ lw_all := lw_g (lw_at lw_m10 151 rfl) rfl
theorem q2442 : (Jvm.Cond.instanceMethod ({ cls := "EdgeSums", name := "suppose", desc := "(III)I" } : Jvm.MethodName)) ∈ lw_all := lw_g (lw_at lw_m10 158 rfl) rfl
theorem q2443 : (Jvm.Cond.selects "EdgeSums" ({ cls := "EdgeSums", name := "suppose", desc := "(III)I" } : Jvm.MethodName) ({ cls := "EdgeSums", name := "suppose", desc := "(III)I" } : Jvm.MethodName)) ∈ lw_all := lw_g (lw_at lw_m10 159 rfl) rfl
theorem q2444 : (Jvm.Cond.code ({ cls := "EdgeSums", name := "suppose", desc := "(III)I" } : Jvm.MethodName) prog_1_method_59_code (6 : Nat) (Option.some Jvm.ClassFile.FieldType.int)) ∈ lw_all := lw_g (lw_at lw_m10 160 rfl) rfl
theorem q2445 : (Jvm.Cond.methodLink "EdgeSums" (430 : Nat) ({ cls := "EdgeSums$Board", name := "copy", desc := "()LEdgeSums$Board;" } : Jvm.MethodName)) ∈ lw_all := lw_g (lw_at lw_m10 161 rfl) rfl
theorem q2453 : (Jvm.Cond.instanceMethod ({ cls := "EdgeSums", name := "needed", desc := "(II)I" } : Jvm.MethodName)) ∈ lw_all := lw_g (lw_at lw_m10 169 rfl) rfl
theorem q2454 : (Jvm.Cond.selects "EdgeSums" ({ cls := "EdgeSums", name := "needed", desc := "(II)I" } : Jvm.MethodName) ({ cls := "EdgeSums", name := "needed", desc := "(II)I" } : Jvm.MethodName)) ∈ lw_all := lw_g (lw_at lw_m10 170 rfl) rfl
theorem q2455 : (Jvm.Cond.code ({ cls := "EdgeSums", name := "needed", desc := "(II)I" } : Jvm.MethodName) prog_1_method_60_code (4 : Nat) (Option.some Jvm.ClassFile.FieldType.int)) ∈ lw_all := lw_g (lw_at lw_m10 171 rfl) rfl
theorem q2456 : (Jvm.Cond.methodLink "EdgeSums" (432 : Nat) ({ cls := "EdgeSums$Page", name := "copy", desc := "()LEdgeSums$Page;" } : Jvm.MethodName)) ∈ lw_all := lw_g (lw_at lw_m10 172 rfl) rfl
theorem q2458 : (Jvm.Cond.instanceMethod ({ cls := "EdgeSums", name := "enough", desc := "()I" } : Jvm.MethodName)) ∈ lw_all := lw_g (lw_at lw_m10 174 rfl) rfl
theorem q2459 : (Jvm.Cond.selects "EdgeSums" ({ cls := "EdgeSums", name := "enough", desc := "()I" } : Jvm.MethodName) ({ cls := "EdgeSums", name := "enough", desc := "()I" } : Jvm.MethodName)) ∈ lw_all := lw_g (lw_at lw_m10 175 rfl) rfl
theorem q2460 : (Jvm.Cond.code ({ cls := "EdgeSums", name := "enough", desc := "()I" } : Jvm.MethodName) prog_1_method_61_code (6 : Nat) (Option.some Jvm.ClassFile.FieldType.int)) ∈ lw_all := lw_g (lw_at lw_m10 176 rfl) rfl
theorem q2461 : (Jvm.Cond.classLink "EdgeSums" (434 : Nat) "java/util/TreeMap") ∈ lw_all := lw_g (lw_at lw_m10 177 rfl) rfl
theorem q2462 : (Jvm.Cond.classLink "EdgeSums" (436 : Nat) "EdgeSums$ByMerit") ∈ lw_all := lw_g (lw_at lw_m10 178 rfl) rfl
theorem q2464 : (Jvm.Cond.methodLinkNest "EdgeSums" (438 : Nat) ({ cls := "EdgeSums$ByMerit", name := "<init>", desc := "(LEdgeSums;)V" } : Jvm.MethodName) "EdgeSums") ∈ lw_tbl := lw_at lw_m10 180 rfl
theorem q2472 : (Jvm.Cond.methodLink "EdgeSums" (439 : Nat) ({ cls := "java/util/TreeMap", name := "<init>", desc := "(Ljava/util/Comparator;)V" } : Jvm.MethodName)) ∈ lw_all := lw_g (lw_at lw_m10 188 rfl) rfl
theorem q2475 : (Jvm.Cond.methodLink "EdgeSums" (440 : Nat) ({ cls := "java/util/TreeMap", name := "isEmpty", desc := "()Z" } : Jvm.MethodName)) ∈ lw_all := lw_g (lw_at lw_m10 191 rfl) rfl
theorem q2486 : (Jvm.Cond.methodLink "EdgeSums" (441 : Nat) ({ cls := "java/util/TreeMap", name := "firstKey", desc := "()Ljava/lang/Object;" } : Jvm.MethodName)) ∈ lw_all := lw_g (lw_at lw_m10 202 rfl) rfl
theorem q2497 : (Jvm.Cond.classLink "EdgeSums" (4 : Nat) "java/lang/Integer") ∈ lw_all := lw_g (lw_at lw_m10 213 rfl) rfl
theorem q2498 : (Jvm.Cond.methodLink "EdgeSums" (444 : Nat) ({ cls := "java/lang/Integer", name := "intValue", desc := "()I" } : Jvm.MethodName)) ∈ lw_all := lw_g (lw_at lw_m10 214 rfl) rfl
theorem q2499 : (Jvm.Cond.methodLink "EdgeSums" (447 : Nat) ({ cls := "java/lang/Integer", name := "valueOf", desc := "(I)Ljava/lang/Integer;" } : Jvm.MethodName)) ∈ lw_all := lw_g (lw_at lw_m10 215 rfl) rfl
theorem q2500 : (Jvm.Cond.methodLink "EdgeSums" (451 : Nat) ({ cls := "java/util/TreeMap", name := "put", desc := "(Ljava/lang/Object;Ljava/lang/Object;)Ljava/lang/Object;" } : Jvm.MethodName)) ∈ lw_all := lw_g (lw_at lw_m10 216 rfl) rfl
theorem q2502 : (Jvm.Cond.instanceMethod ({ cls := "EdgeSums", name := "printed", desc := "(II)I" } : Jvm.MethodName)) ∈ lw_all := lw_g (lw_at lw_m10 218 rfl) rfl
theorem q2503 : (Jvm.Cond.selects "EdgeSums" ({ cls := "EdgeSums", name := "printed", desc := "(II)I" } : Jvm.MethodName) ({ cls := "EdgeSums", name := "printed", desc := "(II)I" } : Jvm.MethodName)) ∈ lw_all := lw_g (lw_at lw_m10 219 rfl) rfl
theorem q2504 : (Jvm.Cond.code ({ cls := "EdgeSums", name := "printed", desc := "(II)I" } : Jvm.MethodName) prog_1_method_64_code (4 : Nat) (Option.some Jvm.ClassFile.FieldType.int)) ∈ lw_all := lw_g (lw_at lw_m10 220 rfl) rfl
theorem q2505 : (Jvm.Cond.methodLink "EdgeSums" (475 : Nat) ({ cls := "EdgeSums", name := "printedRow", desc := "(I)Ljava/lang/CharSequence;" } : Jvm.MethodName)) ∈ lw_all := lw_g (lw_at lw_m10 221 rfl) rfl
theorem q2506 : (Jvm.Cond.privateMethod ({ cls := "EdgeSums", name := "printedRow", desc := "(I)Ljava/lang/CharSequence;" } : Jvm.MethodName)) ∈ lw_tbl := lw_at lw_m10 222 rfl
theorem q2507 : (Jvm.Cond.instanceMethod ({ cls := "EdgeSums", name := "printedRow", desc := "(I)Ljava/lang/CharSequence;" } : Jvm.MethodName)) ∈ lw_all := lw_g (lw_at lw_m10 223 rfl) rfl
theorem q2508 : (Jvm.Cond.code ({ cls := "EdgeSums", name := "printedRow", desc := "(I)Ljava/lang/CharSequence;" } : Jvm.MethodName) prog_1_method_63_code (5 : Nat) (Option.some (Jvm.ClassFile.FieldType.object "java/lang/CharSequence"))) ∈ lw_all := lw_g (lw_at lw_m10 224 rfl) rfl
theorem q2509 : (Jvm.Cond.stringRef "EdgeSums" (462 : Nat) "") ∈ lw_tbl := lw_at lw_m10 225 rfl
theorem q2510 : (Jvm.Cond.stringRef "EdgeSums" (464 : Nat) " ") ∈ lw_tbl := lw_at lw_m10 226 rfl
theorem q2511 : (Jvm.Cond.methodLink "EdgeSums" (466 : Nat) ({ cls := "java/lang/StringBuilder", name := "append", desc := "(Ljava/lang/String;)Ljava/lang/StringBuilder;" } : Jvm.MethodName)) ∈ lw_all := lw_g (lw_at lw_m10 227 rfl) rfl
theorem q2550 : (Jvm.Cond.methodLink "EdgeSums" (469 : Nat) ({ cls := "EdgeSums", name := "printedSum", desc := "(I)Ljava/lang/String;" } : Jvm.MethodName)) ∈ lw_all := lw_g (lw_at lw_m11 26 rfl) rfl
theorem q2551 : (Jvm.Cond.privateMethod ({ cls := "EdgeSums", name := "printedSum", desc := "(I)Ljava/lang/String;" } : Jvm.MethodName)) ∈ lw_tbl := lw_at lw_m11 27 rfl
theorem q2552 : (Jvm.Cond.instanceMethod ({ cls := "EdgeSums", name := "printedSum", desc := "(I)Ljava/lang/String;" } : Jvm.MethodName)) ∈ lw_all := lw_g (lw_at lw_m11 28 rfl) rfl
theorem q2553 : (Jvm.Cond.code ({ cls := "EdgeSums", name := "printedSum", desc := "(I)Ljava/lang/String;" } : Jvm.MethodName) prog_1_method_62_code (2 : Nat) (Option.some (Jvm.ClassFile.FieldType.object "java/lang/String"))) ∈ lw_all := lw_g (lw_at lw_m11 29 rfl) rfl
theorem q2554 : (Jvm.Cond.methodLink "EdgeSums" (455 : Nat) ({ cls := "java/lang/String", name := "valueOf", desc := "(I)Ljava/lang/String;" } : Jvm.MethodName)) ∈ lw_all := lw_g (lw_at lw_m11 30 rfl) rfl
theorem q2580 : (Jvm.Cond.stringRef "EdgeSums" (460 : Nat) "-") ∈ lw_tbl := lw_at lw_m11 56 rfl
theorem q2581 : (Jvm.Cond.methodLink "EdgeSums" (472 : Nat) ({ cls := "java/lang/StringBuilder", name := "append", desc := "(I)Ljava/lang/StringBuilder;" } : Jvm.MethodName)) ∈ lw_all := lw_g (lw_at lw_m11 57 rfl) rfl
theorem q2594 : (Jvm.Cond.interfaceEntry "EdgeSums" (479 : Nat)) ∈ lw_tbl := lw_at lw_m11 70 rfl
theorem q2595 : (Jvm.Cond.methodLink "EdgeSums" (479 : Nat) ({ cls := "java/lang/CharSequence", name := "length", desc := "()I" } : Jvm.MethodName)) ∈ lw_all := lw_g (lw_at lw_m11 71 rfl) rfl
theorem q2607 : (Jvm.Cond.interfaceEntry "EdgeSums" (482 : Nat)) ∈ lw_tbl := lw_at lw_m11 83 rfl
theorem q2608 : (Jvm.Cond.methodLink "EdgeSums" (482 : Nat) ({ cls := "java/lang/CharSequence", name := "charAt", desc := "(I)C" } : Jvm.MethodName)) ∈ lw_all := lw_g (lw_at lw_m11 84 rfl) rfl
theorem q3191 : (Jvm.Cond.castable "EdgeSums" "java/lang/Object") ∈ lw_tbl := lw_at lw_m13 187 rfl
theorem in_X0 : ∀ w ∈ wsX00, w ∈ lw_all := lw_in wsX00 [993, 995, 997, 999] (by decide +kernel) (by decide +kernel)
/-! EdgeSums$State -/
set_option maxRecDepth 100000
def RX1 : String := "EdgeSums$State"
def TX1 : u_T := fun k => match k with
  | 0 => ("EdgeSums$State", "sheet", "LEdgeSums$Sheet;", false)
  | _ => ("EdgeSums$State", "slots", "[LEdgeSums$Sheet;", true)
def tyX1 : Nat → FieldType := fun k => match k with
  | 0 => .object "EdgeSums$Sheet"
  | _ => .array (.object "EdgeSums$Sheet")
abbrev wsX10 : List Cond := u_ws RX1 TX1 2
theorem nmX1 : ∀ a, a < 2 → ∀ b, b < 2 → a ≠ b → (TX1 a).2.1 ≠ (TX1 b).2.1 := by decide +kernel
theorem tyX1_ok : ∀ k, k < 2 → parseFieldDescriptor (TX1 k).2.2.1 = some (tyX1 k) := by decide +kernel
abbrev cX1_init : ByteArray := prog_23_method_1_code
def yX1_init : MethodName := ⟨RX1, "<init>", "(LEdgeSums$Sheet;)V"⟩
def dkwX1_init_0 : List UInt8 := [42, 183, 0, 3, 42, 5, 189, 0, 9, 181, 0, 11, 42, 43, 181, 0, 17, 177]
abbrev dktX1_init_0 : List UInt8 := dkwX1_init_0 ++ []
theorem dksX1_init_0 : cX1_init.data.toList.drop 0 = dktX1_init_0 := by decide +kernel
theorem dX1_init_0 : decode cX1_init 0 = .ok (.aload_n 0, 1) := dk_42 (dk_at dksX1_init_0 0 rfl rfl)
theorem dX1_init_1 : decode cX1_init 1 = .ok (.invokespecial 3, 3) := dk_183 0 3 (dk_at dksX1_init_0 1 rfl rfl)
theorem dX1_init_4 : decode cX1_init 4 = .ok (.aload_n 0, 1) := dk_42 (dk_at dksX1_init_0 4 rfl rfl)
theorem dX1_init_5 : decode cX1_init 5 = .ok (.iconst 2, 1) := dk_5 (dk_at dksX1_init_0 5 rfl rfl)
theorem dX1_init_6 : decode cX1_init 6 = .ok (.anewarray 9, 3) := dk_189 0 9 (dk_at dksX1_init_0 6 rfl rfl)
theorem dX1_init_9 : decode cX1_init 9 = .ok (.putfield 11, 3) := dk_181 0 11 (dk_at dksX1_init_0 9 rfl rfl)
theorem dX1_init_12 : decode cX1_init 12 = .ok (.aload_n 0, 1) := dk_42 (dk_at dksX1_init_0 12 rfl rfl)
theorem dX1_init_13 : decode cX1_init 13 = .ok (.aload_n 1, 1) := dk_43 (dk_at dksX1_init_0 13 rfl rfl)
theorem dX1_init_14 : decode cX1_init 14 = .ok (.putfield 17, 3) := dk_181 0 17 (dk_at dksX1_init_0 14 rfl rfl)
theorem dX1_init_17 : decode cX1_init 17 = .ok (.return_, 1) := dk_177 (dk_at dksX1_init_0 17 rfl rfl)
abbrev cX1_copy : ByteArray := prog_23_method_2_code
def yX1_copy : MethodName := ⟨RX1, "copy", "()LEdgeSums$State;"⟩
def dkwX1_copy_1 : List UInt8 := [3, 5, 184, 0, 28, 43, 176]
abbrev dktX1_copy_1 : List UInt8 := dkwX1_copy_1 ++ []
def dkwX1_copy_0 : List UInt8 := [187, 0, 12, 89, 42, 180, 0, 17, 182, 0, 21, 183, 0, 25, 76, 42, 180, 0, 11, 3, 43, 180, 0, 11]
abbrev dktX1_copy_0 : List UInt8 := dkwX1_copy_0 ++ dktX1_copy_1
theorem dksX1_copy_0 : cX1_copy.data.toList.drop 0 = dktX1_copy_0 := by decide +kernel
theorem dksX1_copy_1 : cX1_copy.data.toList.drop 24 = dktX1_copy_1 := dk_seg dksX1_copy_0 24 rfl rfl
theorem dX1_copy_0 : decode cX1_copy 0 = .ok (.new 12, 3) := dk_187 0 12 (dk_at dksX1_copy_0 0 rfl rfl)
theorem dX1_copy_3 : decode cX1_copy 3 = .ok (.dup, 1) := dk_89 (dk_at dksX1_copy_0 3 rfl rfl)
theorem dX1_copy_4 : decode cX1_copy 4 = .ok (.aload_n 0, 1) := dk_42 (dk_at dksX1_copy_0 4 rfl rfl)
theorem dX1_copy_5 : decode cX1_copy 5 = .ok (.getfield 17, 3) := dk_180 0 17 (dk_at dksX1_copy_0 5 rfl rfl)
theorem dX1_copy_8 : decode cX1_copy 8 = .ok (.invokevirtual 21, 3) := dk_182 0 21 (dk_at dksX1_copy_0 8 rfl rfl)
theorem dX1_copy_11 : decode cX1_copy 11 = .ok (.invokespecial 25, 3) := dk_183 0 25 (dk_at dksX1_copy_0 11 rfl rfl)
theorem dX1_copy_14 : decode cX1_copy 14 = .ok (.astore_n 1, 1) := dk_76 (dk_at dksX1_copy_0 14 rfl rfl)
theorem dX1_copy_15 : decode cX1_copy 15 = .ok (.aload_n 0, 1) := dk_42 (dk_at dksX1_copy_0 15 rfl rfl)
theorem dX1_copy_16 : decode cX1_copy 16 = .ok (.getfield 11, 3) := dk_180 0 11 (dk_at dksX1_copy_0 16 rfl rfl)
theorem dX1_copy_19 : decode cX1_copy 19 = .ok (.iconst 0, 1) := dk_3 (dk_at dksX1_copy_0 19 rfl rfl)
theorem dX1_copy_20 : decode cX1_copy 20 = .ok (.aload_n 1, 1) := dk_43 (dk_at dksX1_copy_0 20 rfl rfl)
theorem dX1_copy_21 : decode cX1_copy 21 = .ok (.getfield 11, 3) := dk_180 0 11 (dk_at dksX1_copy_0 21 rfl rfl)
theorem dX1_copy_24 : decode cX1_copy 24 = .ok (.iconst 0, 1) := dk_3 (dk_at dksX1_copy_1 0 rfl rfl)
theorem dX1_copy_25 : decode cX1_copy 25 = .ok (.iconst 2, 1) := dk_5 (dk_at dksX1_copy_1 1 rfl rfl)
theorem dX1_copy_26 : decode cX1_copy 26 = .ok (.invokestatic 28, 3) := dk_184 0 28 (dk_at dksX1_copy_1 2 rfl rfl)
theorem dX1_copy_29 : decode cX1_copy 29 = .ok (.aload_n 1, 1) := dk_43 (dk_at dksX1_copy_1 5 rfl rfl)
theorem dX1_copy_30 : decode cX1_copy 30 = .ok (.areturn, 1) := dk_176 (dk_at dksX1_copy_1 6 rfl rfl)
theorem q126 : (Jvm.Cond.initialized "EdgeSums$State") ∈ lw_all := lw_g (lw_at lw_m1 2 rfl) rfl
theorem q192 : (Jvm.Cond.instantiable "EdgeSums$State" (2 : Nat)) ∈ lw_all := lw_g (lw_at lw_m1 68 rfl) rfl
theorem q781 : (Jvm.Cond.instanceMethod ({ cls := "EdgeSums$State", name := "<init>", desc := "(LEdgeSums$Sheet;)V" } : Jvm.MethodName)) ∈ lw_all := lw_g (lw_at lw_m3 177 rfl) rfl
theorem q782 : (Jvm.Cond.code ({ cls := "EdgeSums$State", name := "<init>", desc := "(LEdgeSums$Sheet;)V" } : Jvm.MethodName) prog_23_method_1_code (2 : Nat) (Option.none : Option Jvm.ClassFile.FieldType)) ∈ lw_all := lw_g (lw_at lw_m3 178 rfl) rfl
theorem q783 : (Jvm.Cond.methodLink "EdgeSums$State" (3 : Nat) ({ cls := "java/lang/Object", name := "<init>", desc := "()V" } : Jvm.MethodName)) ∈ lw_all := lw_g (lw_at lw_m3 179 rfl) rfl
theorem q784 : (Jvm.Cond.classLink "EdgeSums$State" (9 : Nat) "EdgeSums$Sheet") ∈ lw_all := lw_g (lw_at lw_m3 180 rfl) rfl
theorem q786 : (Jvm.Cond.fieldLink "EdgeSums$State" (17 : Nat) "EdgeSums$State" "sheet" "LEdgeSums$Sheet;") ∈ lw_all := lw_g (lw_at lw_m3 182 rfl) rfl
theorem q789 : (Jvm.Cond.fieldLink "EdgeSums$State" (11 : Nat) "EdgeSums$State" "slots" "[LEdgeSums$Sheet;") ∈ lw_all := lw_g (lw_at lw_m3 185 rfl) rfl
theorem q791 : (Jvm.Cond.lays "EdgeSums$State" "EdgeSums$State" "sheet" "LEdgeSums$Sheet;") ∈ lw_all := lw_g (lw_at lw_m3 187 rfl) rfl
theorem q792 : (Jvm.Cond.soleField "EdgeSums$State" "sheet") ∈ lw_all := lw_g (lw_at lw_m3 188 rfl) rfl
theorem q793 : (Jvm.Cond.laysFinal "EdgeSums$State" "EdgeSums$State" "slots" "[LEdgeSums$Sheet;") ∈ lw_all := lw_g (lw_at lw_m3 189 rfl) rfl
theorem q794 : (Jvm.Cond.soleField "EdgeSums$State" "slots") ∈ lw_all := lw_g (lw_at lw_m3 190 rfl) rfl
theorem q795 : (Jvm.Cond.superclass "EdgeSums$State" "java/lang/Object") ∈ lw_all := lw_g (lw_at lw_m3 191 rfl) rfl
theorem q1017 : (Jvm.Cond.instanceMethod ({ cls := "EdgeSums$State", name := "copy", desc := "()LEdgeSums$State;" } : Jvm.MethodName)) ∈ lw_all := lw_g (lw_at lw_m4 173 rfl) rfl
theorem q1018 : (Jvm.Cond.selects "EdgeSums$State" ({ cls := "EdgeSums$State", name := "copy", desc := "()LEdgeSums$State;" } : Jvm.MethodName) ({ cls := "EdgeSums$State", name := "copy", desc := "()LEdgeSums$State;" } : Jvm.MethodName)) ∈ lw_all := lw_g (lw_at lw_m4 174 rfl) rfl
theorem q1019 : (Jvm.Cond.code ({ cls := "EdgeSums$State", name := "copy", desc := "()LEdgeSums$State;" } : Jvm.MethodName) prog_23_method_2_code (2 : Nat) (Option.some (Jvm.ClassFile.FieldType.object "EdgeSums$State"))) ∈ lw_all := lw_g (lw_at lw_m4 175 rfl) rfl
theorem q1020 : (Jvm.Cond.classLink "EdgeSums$State" (12 : Nat) "EdgeSums$State") ∈ lw_all := lw_g (lw_at lw_m4 176 rfl) rfl
theorem q1021 : (Jvm.Cond.methodLink "EdgeSums$State" (21 : Nat) ({ cls := "EdgeSums$Sheet", name := "copy", desc := "()LEdgeSums$Sheet;" } : Jvm.MethodName)) ∈ lw_all := lw_g (lw_at lw_m4 177 rfl) rfl
theorem q1039 : (Jvm.Cond.methodLink "EdgeSums$State" (25 : Nat) ({ cls := "EdgeSums$State", name := "<init>", desc := "(LEdgeSums$Sheet;)V" } : Jvm.MethodName)) ∈ lw_all := lw_g (lw_at lw_m4 195 rfl) rfl
theorem q1040 : (Jvm.Cond.methodLink "EdgeSums$State" (28 : Nat) ({ cls := "java/lang/System", name := "arraycopy", desc := "(Ljava/lang/Object;ILjava/lang/Object;II)V" } : Jvm.MethodName)) ∈ lw_all := lw_g (lw_at lw_m4 196 rfl) rfl
theorem q1105 : (Jvm.Cond.selects "EdgeSums$State" ({ cls := "java/lang/Object", name := "getClass", desc := "()Ljava/lang/Class;" } : Jvm.MethodName) ({ cls := "java/lang/Object", name := "getClass", desc := "()Ljava/lang/Class;" } : Jvm.MethodName)) ∈ lw_all := lw_g (lw_at lw_m5 21 rfl) rfl
theorem q3192 : (Jvm.Cond.castable "EdgeSums$State" "java/lang/Object") ∈ lw_tbl := lw_at lw_m13 188 rfl
theorem in_X1 : ∀ w ∈ wsX10, w ∈ lw_all := lw_in wsX10 [791, 793] (by decide +kernel) (by decide +kernel)
/-! EdgeSums$Sheet -/
set_option maxRecDepth 100000
def RX2 : String := "EdgeSums$Sheet"
def TX2 : u_T := fun k => match k with
  | 0 => ("EdgeSums$Sheet", "page", "LEdgeSums$Page;", false)
  | 1 => ("EdgeSums$Sheet", "board", "LEdgeSums$Board;", false)
  | 2 => ("EdgeSums$Sheet", "allowed", "I", false)
  | _ => ("EdgeSums$Sheet", "costs", "[I", true)
def tyX2 : Nat → FieldType := fun k => match k with
  | 0 => .object "EdgeSums$Page"
  | 1 => .object "EdgeSums$Board"
  | 2 => .int
  | _ => .array .int
abbrev wsX20 : List Cond := u_ws RX2 TX2 4
theorem nmX2 : ∀ a, a < 4 → ∀ b, b < 4 → a ≠ b → (TX2 a).2.1 ≠ (TX2 b).2.1 := by decide +kernel
theorem tyX2_ok : ∀ k, k < 4 → parseFieldDescriptor (TX2 k).2.2.1 = some (tyX2 k) := by decide +kernel
abbrev cX2_cost : ByteArray := prog_20_method_4_code
def yX2_cost : MethodName := ⟨RX2, "cost", "(I)I"⟩
def dkwX2_cost_1 : List UInt8 := [167, 0, 4, 3, 96, 61, 132, 3, 1, 167, 255, 227, 28, 172]
abbrev dktX2_cost_1 : List UInt8 := dkwX2_cost_1 ++ []
def dkwX2_cost_0 : List UInt8 := [3, 61, 3, 62, 29, 8, 162, 0, 30, 28, 27, 29, 184, 0, 51, 153, 0, 12, 42, 180, 0, 15, 29, 46]
abbrev dktX2_cost_0 : List UInt8 := dkwX2_cost_0 ++ dktX2_cost_1
theorem dksX2_cost_0 : cX2_cost.data.toList.drop 0 = dktX2_cost_0 := by decide +kernel
theorem dksX2_cost_1 : cX2_cost.data.toList.drop 24 = dktX2_cost_1 := dk_seg dksX2_cost_0 24 rfl rfl
theorem dX2_cost_0 : decode cX2_cost 0 = .ok (.iconst 0, 1) := dk_3 (dk_at dksX2_cost_0 0 rfl rfl)
theorem dX2_cost_1 : decode cX2_cost 1 = .ok (.istore_n 2, 1) := dk_61 (dk_at dksX2_cost_0 1 rfl rfl)
theorem dX2_cost_2 : decode cX2_cost 2 = .ok (.iconst 0, 1) := dk_3 (dk_at dksX2_cost_0 2 rfl rfl)
theorem dX2_cost_3 : decode cX2_cost 3 = .ok (.istore_n 3, 1) := dk_62 (dk_at dksX2_cost_0 3 rfl rfl)
theorem dX2_cost_4 : decode cX2_cost 4 = .ok (.iload_n 3, 1) := dk_29 (dk_at dksX2_cost_0 4 rfl rfl)
theorem dX2_cost_5 : decode cX2_cost 5 = .ok (.iconst 5, 1) := dk_8 (dk_at dksX2_cost_0 5 rfl rfl)
theorem dX2_cost_6 : decode cX2_cost 6 = .ok (.if_icmp .ge 30, 3) := dk_162 0 30 (dk_at dksX2_cost_0 6 rfl rfl)
theorem dX2_cost_9 : decode cX2_cost 9 = .ok (.iload_n 2, 1) := dk_28 (dk_at dksX2_cost_0 9 rfl rfl)
theorem dX2_cost_10 : decode cX2_cost 10 = .ok (.iload_n 1, 1) := dk_27 (dk_at dksX2_cost_0 10 rfl rfl)
theorem dX2_cost_11 : decode cX2_cost 11 = .ok (.iload_n 3, 1) := dk_29 (dk_at dksX2_cost_0 11 rfl rfl)
theorem dX2_cost_12 : decode cX2_cost 12 = .ok (.invokestatic 51, 3) := dk_184 0 51 (dk_at dksX2_cost_0 12 rfl rfl)
theorem dX2_cost_15 : decode cX2_cost 15 = .ok (.ifCond .eq 12, 3) := dk_153 0 12 (dk_at dksX2_cost_0 15 rfl rfl)
theorem dX2_cost_18 : decode cX2_cost 18 = .ok (.aload_n 0, 1) := dk_42 (dk_at dksX2_cost_0 18 rfl rfl)
theorem dX2_cost_19 : decode cX2_cost 19 = .ok (.getfield 15, 3) := dk_180 0 15 (dk_at dksX2_cost_0 19 rfl rfl)
theorem dX2_cost_22 : decode cX2_cost 22 = .ok (.iload_n 3, 1) := dk_29 (dk_at dksX2_cost_0 22 rfl rfl)
theorem dX2_cost_23 : decode cX2_cost 23 = .ok (.iaload, 1) := dk_46 (dk_at dksX2_cost_0 23 rfl rfl)
theorem dX2_cost_24 : decode cX2_cost 24 = .ok (.goto 4, 3) := dk_167 0 4 (dk_at dksX2_cost_1 0 rfl rfl)
theorem dX2_cost_27 : decode cX2_cost 27 = .ok (.iconst 0, 1) := dk_3 (dk_at dksX2_cost_1 3 rfl rfl)
theorem dX2_cost_28 : decode cX2_cost 28 = .ok (.iadd, 1) := dk_96 (dk_at dksX2_cost_1 4 rfl rfl)
theorem dX2_cost_29 : decode cX2_cost 29 = .ok (.istore_n 2, 1) := dk_61 (dk_at dksX2_cost_1 5 rfl rfl)
theorem dX2_cost_30 : decode cX2_cost 30 = .ok (.iinc 3 1, 3) := dk_132 3 1 (dk_at dksX2_cost_1 6 rfl rfl)
theorem dX2_cost_33 : decode cX2_cost 33 = .ok (.goto (-29), 3) := dk_167 255 227 (dk_at dksX2_cost_1 9 rfl rfl)
theorem dX2_cost_36 : decode cX2_cost 36 = .ok (.iload_n 2, 1) := dk_28 (dk_at dksX2_cost_1 12 rfl rfl)
theorem dX2_cost_37 : decode cX2_cost 37 = .ok (.ireturn, 1) := dk_172 (dk_at dksX2_cost_1 13 rfl rfl)
abbrev cX2_init : ByteArray := prog_20_method_1_code
def yX2_init : MethodName := ⟨RX2, "<init>", "(LEdgeSums$Page;)V"⟩
def dkwX2_init_1 : List UInt8 := [6, 79, 89, 6, 7, 79, 89, 7, 8, 79, 181, 0, 15, 42, 43, 181, 0, 19, 42, 182, 0, 23, 177]
abbrev dktX2_init_1 : List UInt8 := dkwX2_init_1 ++ []
def dkwX2_init_0 : List UInt8 := [42, 183, 0, 3, 42, 16, 31, 181, 0, 9, 42, 8, 188, 10, 89, 3, 4, 79, 89, 4, 5, 79, 89, 5]
abbrev dktX2_init_0 : List UInt8 := dkwX2_init_0 ++ dktX2_init_1
theorem dksX2_init_0 : cX2_init.data.toList.drop 0 = dktX2_init_0 := by decide +kernel
theorem dksX2_init_1 : cX2_init.data.toList.drop 24 = dktX2_init_1 := dk_seg dksX2_init_0 24 rfl rfl
theorem dX2_init_0 : decode cX2_init 0 = .ok (.aload_n 0, 1) := dk_42 (dk_at dksX2_init_0 0 rfl rfl)
theorem dX2_init_1 : decode cX2_init 1 = .ok (.invokespecial 3, 3) := dk_183 0 3 (dk_at dksX2_init_0 1 rfl rfl)
theorem dX2_init_4 : decode cX2_init 4 = .ok (.aload_n 0, 1) := dk_42 (dk_at dksX2_init_0 4 rfl rfl)
theorem dX2_init_5 : decode cX2_init 5 = .ok (.bipush 31, 2) := dk_16 31 (dk_at dksX2_init_0 5 rfl rfl)
theorem dX2_init_7 : decode cX2_init 7 = .ok (.putfield 9, 3) := dk_181 0 9 (dk_at dksX2_init_0 7 rfl rfl)
theorem dX2_init_10 : decode cX2_init 10 = .ok (.aload_n 0, 1) := dk_42 (dk_at dksX2_init_0 10 rfl rfl)
theorem dX2_init_11 : decode cX2_init 11 = .ok (.iconst 5, 1) := dk_8 (dk_at dksX2_init_0 11 rfl rfl)
theorem dX2_init_12 : decode cX2_init 12 = .ok (.newarray .int, 2) := dk_188_10 (dk_at dksX2_init_0 12 rfl rfl)
theorem dX2_init_14 : decode cX2_init 14 = .ok (.dup, 1) := dk_89 (dk_at dksX2_init_0 14 rfl rfl)
theorem dX2_init_15 : decode cX2_init 15 = .ok (.iconst 0, 1) := dk_3 (dk_at dksX2_init_0 15 rfl rfl)
theorem dX2_init_16 : decode cX2_init 16 = .ok (.iconst 1, 1) := dk_4 (dk_at dksX2_init_0 16 rfl rfl)
theorem dX2_init_17 : decode cX2_init 17 = .ok (.iastore, 1) := dk_79 (dk_at dksX2_init_0 17 rfl rfl)
theorem dX2_init_18 : decode cX2_init 18 = .ok (.dup, 1) := dk_89 (dk_at dksX2_init_0 18 rfl rfl)
theorem dX2_init_19 : decode cX2_init 19 = .ok (.iconst 1, 1) := dk_4 (dk_at dksX2_init_0 19 rfl rfl)
theorem dX2_init_20 : decode cX2_init 20 = .ok (.iconst 2, 1) := dk_5 (dk_at dksX2_init_0 20 rfl rfl)
theorem dX2_init_21 : decode cX2_init 21 = .ok (.iastore, 1) := dk_79 (dk_at dksX2_init_0 21 rfl rfl)
theorem dX2_init_22 : decode cX2_init 22 = .ok (.dup, 1) := dk_89 (dk_at dksX2_init_0 22 rfl rfl)
theorem dX2_init_23 : decode cX2_init 23 = .ok (.iconst 2, 1) := dk_5 (dk_at dksX2_init_0 23 rfl rfl)
theorem dX2_init_24 : decode cX2_init 24 = .ok (.iconst 3, 1) := dk_6 (dk_at dksX2_init_1 0 rfl rfl)
theorem dX2_init_25 : decode cX2_init 25 = .ok (.iastore, 1) := dk_79 (dk_at dksX2_init_1 1 rfl rfl)
theorem dX2_init_26 : decode cX2_init 26 = .ok (.dup, 1) := dk_89 (dk_at dksX2_init_1 2 rfl rfl)
theorem dX2_init_27 : decode cX2_init 27 = .ok (.iconst 3, 1) := dk_6 (dk_at dksX2_init_1 3 rfl rfl)
theorem dX2_init_28 : decode cX2_init 28 = .ok (.iconst 4, 1) := dk_7 (dk_at dksX2_init_1 4 rfl rfl)
theorem dX2_init_29 : decode cX2_init 29 = .ok (.iastore, 1) := dk_79 (dk_at dksX2_init_1 5 rfl rfl)
theorem dX2_init_30 : decode cX2_init 30 = .ok (.dup, 1) := dk_89 (dk_at dksX2_init_1 6 rfl rfl)
theorem dX2_init_31 : decode cX2_init 31 = .ok (.iconst 4, 1) := dk_7 (dk_at dksX2_init_1 7 rfl rfl)
theorem dX2_init_32 : decode cX2_init 32 = .ok (.iconst 5, 1) := dk_8 (dk_at dksX2_init_1 8 rfl rfl)
theorem dX2_init_33 : decode cX2_init 33 = .ok (.iastore, 1) := dk_79 (dk_at dksX2_init_1 9 rfl rfl)
theorem dX2_init_34 : decode cX2_init 34 = .ok (.putfield 15, 3) := dk_181 0 15 (dk_at dksX2_init_1 10 rfl rfl)
theorem dX2_init_37 : decode cX2_init 37 = .ok (.aload_n 0, 1) := dk_42 (dk_at dksX2_init_1 13 rfl rfl)
theorem dX2_init_38 : decode cX2_init 38 = .ok (.aload_n 1, 1) := dk_43 (dk_at dksX2_init_1 14 rfl rfl)
theorem dX2_init_39 : decode cX2_init 39 = .ok (.putfield 19, 3) := dk_181 0 19 (dk_at dksX2_init_1 15 rfl rfl)
theorem dX2_init_42 : decode cX2_init 42 = .ok (.aload_n 0, 1) := dk_42 (dk_at dksX2_init_1 18 rfl rfl)
theorem dX2_init_43 : decode cX2_init 43 = .ok (.invokevirtual 23, 3) := dk_182 0 23 (dk_at dksX2_init_1 19 rfl rfl)
theorem dX2_init_46 : decode cX2_init 46 = .ok (.return_, 1) := dk_177 (dk_at dksX2_init_1 22 rfl rfl)
abbrev cX2_reset : ByteArray := prog_20_method_3_code
def yX2_reset : MethodName := ⟨RX2, "reset", "()V"⟩
def dkwX2_reset_0 : List UInt8 := [42, 187, 0, 40, 89, 42, 180, 0, 19, 183, 0, 50, 181, 0, 35, 177]
abbrev dktX2_reset_0 : List UInt8 := dkwX2_reset_0 ++ []
theorem dksX2_reset_0 : cX2_reset.data.toList.drop 0 = dktX2_reset_0 := by decide +kernel
theorem dX2_reset_0 : decode cX2_reset 0 = .ok (.aload_n 0, 1) := dk_42 (dk_at dksX2_reset_0 0 rfl rfl)
theorem dX2_reset_1 : decode cX2_reset 1 = .ok (.new 40, 3) := dk_187 0 40 (dk_at dksX2_reset_0 1 rfl rfl)
theorem dX2_reset_4 : decode cX2_reset 4 = .ok (.dup, 1) := dk_89 (dk_at dksX2_reset_0 4 rfl rfl)
theorem dX2_reset_5 : decode cX2_reset 5 = .ok (.aload_n 0, 1) := dk_42 (dk_at dksX2_reset_0 5 rfl rfl)
theorem dX2_reset_6 : decode cX2_reset 6 = .ok (.getfield 19, 3) := dk_180 0 19 (dk_at dksX2_reset_0 6 rfl rfl)
theorem dX2_reset_9 : decode cX2_reset 9 = .ok (.invokespecial 50, 3) := dk_183 0 50 (dk_at dksX2_reset_0 9 rfl rfl)
theorem dX2_reset_12 : decode cX2_reset 12 = .ok (.putfield 35, 3) := dk_181 0 35 (dk_at dksX2_reset_0 12 rfl rfl)
theorem dX2_reset_15 : decode cX2_reset 15 = .ok (.return_, 1) := dk_177 (dk_at dksX2_reset_0 15 rfl rfl)
abbrev cX2_copy : ByteArray := prog_20_method_2_code
def yX2_copy : MethodName := ⟨RX2, "copy", "()LEdgeSums$Sheet;"⟩
def dkwX2_copy_2 : List UInt8 := [3, 43, 180, 0, 15, 3, 8, 184, 0, 44, 43, 176]
abbrev dktX2_copy_2 : List UInt8 := dkwX2_copy_2 ++ []
def dkwX2_copy_1 : List UInt8 := [180, 0, 35, 180, 0, 39, 3, 16, 25, 184, 0, 44, 43, 42, 180, 0, 9, 181, 0, 9, 42, 180, 0, 15]
abbrev dktX2_copy_1 : List UInt8 := dkwX2_copy_1 ++ dktX2_copy_2
def dkwX2_copy_0 : List UInt8 := [187, 0, 10, 89, 42, 180, 0, 19, 182, 0, 26, 183, 0, 32, 76, 42, 180, 0, 35, 180, 0, 39, 3, 43]
abbrev dktX2_copy_0 : List UInt8 := dkwX2_copy_0 ++ dktX2_copy_1
theorem dksX2_copy_0 : cX2_copy.data.toList.drop 0 = dktX2_copy_0 := by decide +kernel
theorem dksX2_copy_1 : cX2_copy.data.toList.drop 24 = dktX2_copy_1 := dk_seg dksX2_copy_0 24 rfl rfl
theorem dksX2_copy_2 : cX2_copy.data.toList.drop 48 = dktX2_copy_2 := dk_seg dksX2_copy_1 24 rfl rfl
theorem dX2_copy_0 : decode cX2_copy 0 = .ok (.new 10, 3) := dk_187 0 10 (dk_at dksX2_copy_0 0 rfl rfl)
theorem dX2_copy_3 : decode cX2_copy 3 = .ok (.dup, 1) := dk_89 (dk_at dksX2_copy_0 3 rfl rfl)
theorem dX2_copy_4 : decode cX2_copy 4 = .ok (.aload_n 0, 1) := dk_42 (dk_at dksX2_copy_0 4 rfl rfl)
theorem dX2_copy_5 : decode cX2_copy 5 = .ok (.getfield 19, 3) := dk_180 0 19 (dk_at dksX2_copy_0 5 rfl rfl)
theorem dX2_copy_8 : decode cX2_copy 8 = .ok (.invokevirtual 26, 3) := dk_182 0 26 (dk_at dksX2_copy_0 8 rfl rfl)
theorem dX2_copy_11 : decode cX2_copy 11 = .ok (.invokespecial 32, 3) := dk_183 0 32 (dk_at dksX2_copy_0 11 rfl rfl)
theorem dX2_copy_14 : decode cX2_copy 14 = .ok (.astore_n 1, 1) := dk_76 (dk_at dksX2_copy_0 14 rfl rfl)
theorem dX2_copy_15 : decode cX2_copy 15 = .ok (.aload_n 0, 1) := dk_42 (dk_at dksX2_copy_0 15 rfl rfl)
theorem dX2_copy_16 : decode cX2_copy 16 = .ok (.getfield 35, 3) := dk_180 0 35 (dk_at dksX2_copy_0 16 rfl rfl)
theorem dX2_copy_19 : decode cX2_copy 19 = .ok (.getfield 39, 3) := dk_180 0 39 (dk_at dksX2_copy_0 19 rfl rfl)
theorem dX2_copy_22 : decode cX2_copy 22 = .ok (.iconst 0, 1) := dk_3 (dk_at dksX2_copy_0 22 rfl rfl)
theorem dX2_copy_23 : decode cX2_copy 23 = .ok (.aload_n 1, 1) := dk_43 (dk_at dksX2_copy_0 23 rfl rfl)
theorem dX2_copy_24 : decode cX2_copy 24 = .ok (.getfield 35, 3) := dk_180 0 35 (dk_at dksX2_copy_1 0 rfl rfl)
theorem dX2_copy_27 : decode cX2_copy 27 = .ok (.getfield 39, 3) := dk_180 0 39 (dk_at dksX2_copy_1 3 rfl rfl)
theorem dX2_copy_30 : decode cX2_copy 30 = .ok (.iconst 0, 1) := dk_3 (dk_at dksX2_copy_1 6 rfl rfl)
theorem dX2_copy_31 : decode cX2_copy 31 = .ok (.bipush 25, 2) := dk_16 25 (dk_at dksX2_copy_1 7 rfl rfl)
theorem dX2_copy_33 : decode cX2_copy 33 = .ok (.invokestatic 44, 3) := dk_184 0 44 (dk_at dksX2_copy_1 9 rfl rfl)
theorem dX2_copy_36 : decode cX2_copy 36 = .ok (.aload_n 1, 1) := dk_43 (dk_at dksX2_copy_1 12 rfl rfl)
theorem dX2_copy_37 : decode cX2_copy 37 = .ok (.aload_n 0, 1) := dk_42 (dk_at dksX2_copy_1 13 rfl rfl)
theorem dX2_copy_38 : decode cX2_copy 38 = .ok (.getfield 9, 3) := dk_180 0 9 (dk_at dksX2_copy_1 14 rfl rfl)
theorem dX2_copy_41 : decode cX2_copy 41 = .ok (.putfield 9, 3) := dk_181 0 9 (dk_at dksX2_copy_1 17 rfl rfl)
theorem dX2_copy_44 : decode cX2_copy 44 = .ok (.aload_n 0, 1) := dk_42 (dk_at dksX2_copy_1 20 rfl rfl)
theorem dX2_copy_45 : decode cX2_copy 45 = .ok (.getfield 15, 3) := dk_180 0 15 (dk_at dksX2_copy_1 21 rfl rfl)
theorem dX2_copy_48 : decode cX2_copy 48 = .ok (.iconst 0, 1) := dk_3 (dk_at dksX2_copy_2 0 rfl rfl)
theorem dX2_copy_49 : decode cX2_copy 49 = .ok (.aload_n 1, 1) := dk_43 (dk_at dksX2_copy_2 1 rfl rfl)
theorem dX2_copy_50 : decode cX2_copy 50 = .ok (.getfield 15, 3) := dk_180 0 15 (dk_at dksX2_copy_2 2 rfl rfl)
theorem dX2_copy_53 : decode cX2_copy 53 = .ok (.iconst 0, 1) := dk_3 (dk_at dksX2_copy_2 5 rfl rfl)
theorem dX2_copy_54 : decode cX2_copy 54 = .ok (.iconst 5, 1) := dk_8 (dk_at dksX2_copy_2 6 rfl rfl)
theorem dX2_copy_55 : decode cX2_copy 55 = .ok (.invokestatic 44, 3) := dk_184 0 44 (dk_at dksX2_copy_2 7 rfl rfl)
theorem dX2_copy_58 : decode cX2_copy 58 = .ok (.aload_n 1, 1) := dk_43 (dk_at dksX2_copy_2 10 rfl rfl)
theorem dX2_copy_59 : decode cX2_copy 59 = .ok (.areturn, 1) := dk_176 (dk_at dksX2_copy_2 11 rfl rfl)
theorem q127 : (Jvm.Cond.initialized "EdgeSums$Sheet") ∈ lw_all := lw_g (lw_at lw_m1 3 rfl) rfl
theorem q194 : (Jvm.Cond.instantiable "EdgeSums$Sheet" (4 : Nat)) ∈ lw_all := lw_g (lw_at lw_m1 70 rfl) rfl
theorem q321 : (Jvm.Cond.instanceMethod ({ cls := "EdgeSums$Sheet", name := "cost", desc := "(I)I" } : Jvm.MethodName)) ∈ lw_all := lw_g (lw_at lw_m1 197 rfl) rfl
theorem q322 : (Jvm.Cond.selects "EdgeSums$Sheet" ({ cls := "EdgeSums$Sheet", name := "cost", desc := "(I)I" } : Jvm.MethodName) ({ cls := "EdgeSums$Sheet", name := "cost", desc := "(I)I" } : Jvm.MethodName)) ∈ lw_all := lw_g (lw_at lw_m1 198 rfl) rfl
theorem q323 : (Jvm.Cond.code ({ cls := "EdgeSums$Sheet", name := "cost", desc := "(I)I" } : Jvm.MethodName) prog_20_method_4_code (4 : Nat) (Option.some Jvm.ClassFile.FieldType.int)) ∈ lw_all := lw_g (lw_at lw_m1 199 rfl) rfl
theorem q324 : (Jvm.Cond.methodLinkNest "EdgeSums$Sheet" (51 : Nat) ({ cls := "EdgeSums", name := "has", desc := "(II)Z" } : Jvm.MethodName) "EdgeSums") ∈ lw_tbl := lw_at lw_m1 200 rfl
theorem q721 : (Jvm.Cond.instanceMethod ({ cls := "EdgeSums$Sheet", name := "<init>", desc := "(LEdgeSums$Page;)V" } : Jvm.MethodName)) ∈ lw_all := lw_g (lw_at lw_m3 117 rfl) rfl
theorem q722 : (Jvm.Cond.code ({ cls := "EdgeSums$Sheet", name := "<init>", desc := "(LEdgeSums$Page;)V" } : Jvm.MethodName) prog_20_method_1_code (2 : Nat) (Option.none : Option Jvm.ClassFile.FieldType)) ∈ lw_all := lw_g (lw_at lw_m3 118 rfl) rfl
theorem q723 : (Jvm.Cond.methodLink "EdgeSums$Sheet" (3 : Nat) ({ cls := "java/lang/Object", name := "<init>", desc := "()V" } : Jvm.MethodName)) ∈ lw_all := lw_g (lw_at lw_m3 119 rfl) rfl
theorem q724 : (Jvm.Cond.methodLink "EdgeSums$Sheet" (23 : Nat) ({ cls := "EdgeSums$Sheet", name := "reset", desc := "()V" } : Jvm.MethodName)) ∈ lw_all := lw_g (lw_at lw_m3 120 rfl) rfl
theorem q725 : (Jvm.Cond.instanceMethod ({ cls := "EdgeSums$Sheet", name := "reset", desc := "()V" } : Jvm.MethodName)) ∈ lw_all := lw_g (lw_at lw_m3 121 rfl) rfl
theorem q726 : (Jvm.Cond.selects "EdgeSums$Sheet" ({ cls := "EdgeSums$Sheet", name := "reset", desc := "()V" } : Jvm.MethodName) ({ cls := "EdgeSums$Sheet", name := "reset", desc := "()V" } : Jvm.MethodName)) ∈ lw_all := lw_g (lw_at lw_m3 122 rfl) rfl
theorem q727 : (Jvm.Cond.code ({ cls := "EdgeSums$Sheet", name := "reset", desc := "()V" } : Jvm.MethodName) prog_20_method_3_code (1 : Nat) (Option.none : Option Jvm.ClassFile.FieldType)) ∈ lw_all := lw_g (lw_at lw_m3 123 rfl) rfl
theorem q728 : (Jvm.Cond.classLink "EdgeSums$Sheet" (40 : Nat) "EdgeSums$Board") ∈ lw_all := lw_g (lw_at lw_m3 124 rfl) rfl
theorem q730 : (Jvm.Cond.methodLink "EdgeSums$Sheet" (50 : Nat) ({ cls := "EdgeSums$Board", name := "<init>", desc := "(LEdgeSums$Page;)V" } : Jvm.MethodName)) ∈ lw_all := lw_g (lw_at lw_m3 126 rfl) rfl
theorem q747 : (Jvm.Cond.fieldLinkNest "EdgeSums$Sheet" (39 : Nat) "EdgeSums$Board" "sets" "[I" "EdgeSums") ∈ lw_tbl := lw_at lw_m3 143 rfl
theorem q758 : (Jvm.Cond.fieldLink "EdgeSums$Sheet" (19 : Nat) "EdgeSums$Sheet" "page" "LEdgeSums$Page;") ∈ lw_all := lw_g (lw_at lw_m3 154 rfl) rfl
theorem q761 : (Jvm.Cond.fieldLink "EdgeSums$Sheet" (35 : Nat) "EdgeSums$Sheet" "board" "LEdgeSums$Board;") ∈ lw_all := lw_g (lw_at lw_m3 157 rfl) rfl
theorem q763 : (Jvm.Cond.fieldLink "EdgeSums$Sheet" (9 : Nat) "EdgeSums$Sheet" "allowed" "I") ∈ lw_all := lw_g (lw_at lw_m3 159 rfl) rfl
theorem q767 : (Jvm.Cond.fieldLink "EdgeSums$Sheet" (15 : Nat) "EdgeSums$Sheet" "costs" "[I") ∈ lw_all := lw_g (lw_at lw_m3 163 rfl) rfl
theorem q771 : (Jvm.Cond.lays "EdgeSums$Sheet" "EdgeSums$Sheet" "page" "LEdgeSums$Page;") ∈ lw_all := lw_g (lw_at lw_m3 167 rfl) rfl
theorem q772 : (Jvm.Cond.soleField "EdgeSums$Sheet" "page") ∈ lw_all := lw_g (lw_at lw_m3 168 rfl) rfl
theorem q773 : (Jvm.Cond.lays "EdgeSums$Sheet" "EdgeSums$Sheet" "board" "LEdgeSums$Board;") ∈ lw_all := lw_g (lw_at lw_m3 169 rfl) rfl
theorem q774 : (Jvm.Cond.soleField "EdgeSums$Sheet" "board") ∈ lw_all := lw_g (lw_at lw_m3 170 rfl) rfl
theorem q775 : (Jvm.Cond.lays "EdgeSums$Sheet" "EdgeSums$Sheet" "allowed" "I") ∈ lw_all := lw_g (lw_at lw_m3 171 rfl) rfl
theorem q776 : (Jvm.Cond.soleField "EdgeSums$Sheet" "allowed") ∈ lw_all := lw_g (lw_at lw_m3 172 rfl) rfl
theorem q777 : (Jvm.Cond.laysFinal "EdgeSums$Sheet" "EdgeSums$Sheet" "costs" "[I") ∈ lw_all := lw_g (lw_at lw_m3 173 rfl) rfl
theorem q778 : (Jvm.Cond.soleField "EdgeSums$Sheet" "costs") ∈ lw_all := lw_g (lw_at lw_m3 174 rfl) rfl
theorem q779 : (Jvm.Cond.superclass "EdgeSums$Sheet" "java/lang/Object") ∈ lw_all := lw_g (lw_at lw_m3 175 rfl) rfl
theorem q1022 : (Jvm.Cond.instanceMethod ({ cls := "EdgeSums$Sheet", name := "copy", desc := "()LEdgeSums$Sheet;" } : Jvm.MethodName)) ∈ lw_all := lw_g (lw_at lw_m4 178 rfl) rfl
theorem q1023 : (Jvm.Cond.selects "EdgeSums$Sheet" ({ cls := "EdgeSums$Sheet", name := "copy", desc := "()LEdgeSums$Sheet;" } : Jvm.MethodName) ({ cls := "EdgeSums$Sheet", name := "copy", desc := "()LEdgeSums$Sheet;" } : Jvm.MethodName)) ∈ lw_all := lw_g (lw_at lw_m4 179 rfl) rfl
theorem q1024 : (Jvm.Cond.code ({ cls := "EdgeSums$Sheet", name := "copy", desc := "()LEdgeSums$Sheet;" } : Jvm.MethodName) prog_20_method_2_code (2 : Nat) (Option.some (Jvm.ClassFile.FieldType.object "EdgeSums$Sheet"))) ∈ lw_all := lw_g (lw_at lw_m4 180 rfl) rfl
theorem q1025 : (Jvm.Cond.classLink "EdgeSums$Sheet" (10 : Nat) "EdgeSums$Sheet") ∈ lw_all := lw_g (lw_at lw_m4 181 rfl) rfl
theorem q1026 : (Jvm.Cond.methodLink "EdgeSums$Sheet" (26 : Nat) ({ cls := "EdgeSums$Page", name := "copy", desc := "()LEdgeSums$Page;" } : Jvm.MethodName)) ∈ lw_all := lw_g (lw_at lw_m4 182 rfl) rfl
theorem q1037 : (Jvm.Cond.methodLink "EdgeSums$Sheet" (32 : Nat) ({ cls := "EdgeSums$Sheet", name := "<init>", desc := "(LEdgeSums$Page;)V" } : Jvm.MethodName)) ∈ lw_all := lw_g (lw_at lw_m4 193 rfl) rfl
theorem q1038 : (Jvm.Cond.methodLink "EdgeSums$Sheet" (44 : Nat) ({ cls := "java/lang/System", name := "arraycopy", desc := "(Ljava/lang/Object;ILjava/lang/Object;II)V" } : Jvm.MethodName)) ∈ lw_all := lw_g (lw_at lw_m4 194 rfl) rfl
theorem q1102 : (Jvm.Cond.selects "EdgeSums$Sheet" ({ cls := "java/lang/Object", name := "getClass", desc := "()Ljava/lang/Class;" } : Jvm.MethodName) ({ cls := "java/lang/Object", name := "getClass", desc := "()Ljava/lang/Class;" } : Jvm.MethodName)) ∈ lw_all := lw_g (lw_at lw_m5 18 rfl) rfl
theorem q3189 : (Jvm.Cond.castable "EdgeSums$Sheet" "java/lang/Object") ∈ lw_tbl := lw_at lw_m13 185 rfl
theorem in_X2 : ∀ w ∈ wsX20, w ∈ lw_all := lw_in wsX20 [771, 773, 775, 777] (by decide +kernel) (by decide +kernel)
/-! EdgeSums$Page -/
set_option maxRecDepth 100000
def RX3 : String := "EdgeSums$Page"
def TX3 : u_T := fun k => match k with
  | 0 => ("EdgeSums$Page", "rows", "I", true)
  | 1 => ("EdgeSums$Page", "columns", "I", true)
  | 2 => ("EdgeSums$Page", "blocks", "[I", true)
  | 3 => ("EdgeSums$Page", "numbers", "[I", true)
  | 4 => ("EdgeSums$Page", "given", "[Z", true)
  | 5 => ("EdgeSums$Page", "shown", "[Z", true)
  | _ => ("EdgeSums$Page", "members", "[[I", false)
def tyX3 : Nat → FieldType := fun k => match k with
  | 0 => .int
  | 1 => .int
  | 2 => .array .int
  | 3 => .array .int
  | 4 => .array .boolean
  | 5 => .array .boolean
  | _ => .array (.array .int)
abbrev wsX30 : List Cond := u_ws RX3 TX3 7
theorem nmX3 : ∀ a, a < 7 → ∀ b, b < 7 → a ≠ b → (TX3 a).2.1 ≠ (TX3 b).2.1 := by decide +kernel
theorem tyX3_ok : ∀ k, k < 7 → parseFieldDescriptor (TX3 k).2.2.1 = some (tyX3 k) := by decide +kernel
abbrev cX3_init : ByteArray := prog_14_method_1_code
def yX3_init : MethodName := ⟨RX3, "<init>", "(II)V"⟩
def dkwX3_init_3 : List UInt8 := [42, 182, 0, 36, 177]
abbrev dktX3_init_3 : List UInt8 := dkwX3_init_3 ++ []
def dkwX3_init_2 : List UInt8 := [62, 29, 42, 182, 0, 32, 162, 0, 18, 42, 180, 0, 9, 29, 29, 28, 108, 79, 132, 3, 1, 167, 255, 236]
abbrev dktX3_init_2 : List UInt8 := dkwX3_init_2 ++ dktX3_init_3
def dkwX3_init_1 : List UInt8 := [188, 4, 181, 0, 18, 42, 16, 10, 188, 4, 181, 0, 22, 42, 27, 181, 0, 25, 42, 28, 181, 0, 29, 3]
abbrev dktX3_init_1 : List UInt8 := dkwX3_init_1 ++ dktX3_init_2
def dkwX3_init_0 : List UInt8 := [42, 183, 0, 3, 42, 16, 25, 188, 10, 181, 0, 9, 42, 16, 25, 188, 10, 181, 0, 15, 42, 16, 25]
abbrev dktX3_init_0 : List UInt8 := dkwX3_init_0 ++ dktX3_init_1
theorem dksX3_init_0 : cX3_init.data.toList.drop 0 = dktX3_init_0 := by decide +kernel
theorem dksX3_init_1 : cX3_init.data.toList.drop 23 = dktX3_init_1 := dk_seg dksX3_init_0 23 rfl rfl
theorem dksX3_init_2 : cX3_init.data.toList.drop 47 = dktX3_init_2 := dk_seg dksX3_init_1 24 rfl rfl
theorem dksX3_init_3 : cX3_init.data.toList.drop 71 = dktX3_init_3 := dk_seg dksX3_init_2 24 rfl rfl
theorem dX3_init_0 : decode cX3_init 0 = .ok (.aload_n 0, 1) := dk_42 (dk_at dksX3_init_0 0 rfl rfl)
theorem dX3_init_1 : decode cX3_init 1 = .ok (.invokespecial 3, 3) := dk_183 0 3 (dk_at dksX3_init_0 1 rfl rfl)
theorem dX3_init_4 : decode cX3_init 4 = .ok (.aload_n 0, 1) := dk_42 (dk_at dksX3_init_0 4 rfl rfl)
theorem dX3_init_5 : decode cX3_init 5 = .ok (.bipush 25, 2) := dk_16 25 (dk_at dksX3_init_0 5 rfl rfl)
theorem dX3_init_7 : decode cX3_init 7 = .ok (.newarray .int, 2) := dk_188_10 (dk_at dksX3_init_0 7 rfl rfl)
theorem dX3_init_9 : decode cX3_init 9 = .ok (.putfield 9, 3) := dk_181 0 9 (dk_at dksX3_init_0 9 rfl rfl)
theorem dX3_init_12 : decode cX3_init 12 = .ok (.aload_n 0, 1) := dk_42 (dk_at dksX3_init_0 12 rfl rfl)
theorem dX3_init_13 : decode cX3_init 13 = .ok (.bipush 25, 2) := dk_16 25 (dk_at dksX3_init_0 13 rfl rfl)
theorem dX3_init_15 : decode cX3_init 15 = .ok (.newarray .int, 2) := dk_188_10 (dk_at dksX3_init_0 15 rfl rfl)
theorem dX3_init_17 : decode cX3_init 17 = .ok (.putfield 15, 3) := dk_181 0 15 (dk_at dksX3_init_0 17 rfl rfl)
theorem dX3_init_20 : decode cX3_init 20 = .ok (.aload_n 0, 1) := dk_42 (dk_at dksX3_init_0 20 rfl rfl)
theorem dX3_init_21 : decode cX3_init 21 = .ok (.bipush 25, 2) := dk_16 25 (dk_at dksX3_init_0 21 rfl rfl)
theorem dX3_init_23 : decode cX3_init 23 = .ok (.newarray .boolean, 2) := dk_188_4 (dk_at dksX3_init_1 0 rfl rfl)
theorem dX3_init_25 : decode cX3_init 25 = .ok (.putfield 18, 3) := dk_181 0 18 (dk_at dksX3_init_1 2 rfl rfl)
theorem dX3_init_28 : decode cX3_init 28 = .ok (.aload_n 0, 1) := dk_42 (dk_at dksX3_init_1 5 rfl rfl)
theorem dX3_init_29 : decode cX3_init 29 = .ok (.bipush 10, 2) := dk_16 10 (dk_at dksX3_init_1 6 rfl rfl)
theorem dX3_init_31 : decode cX3_init 31 = .ok (.newarray .boolean, 2) := dk_188_4 (dk_at dksX3_init_1 8 rfl rfl)
theorem dX3_init_33 : decode cX3_init 33 = .ok (.putfield 22, 3) := dk_181 0 22 (dk_at dksX3_init_1 10 rfl rfl)
theorem dX3_init_36 : decode cX3_init 36 = .ok (.aload_n 0, 1) := dk_42 (dk_at dksX3_init_1 13 rfl rfl)
theorem dX3_init_37 : decode cX3_init 37 = .ok (.iload_n 1, 1) := dk_27 (dk_at dksX3_init_1 14 rfl rfl)
theorem dX3_init_38 : decode cX3_init 38 = .ok (.putfield 25, 3) := dk_181 0 25 (dk_at dksX3_init_1 15 rfl rfl)
theorem dX3_init_41 : decode cX3_init 41 = .ok (.aload_n 0, 1) := dk_42 (dk_at dksX3_init_1 18 rfl rfl)
theorem dX3_init_42 : decode cX3_init 42 = .ok (.iload_n 2, 1) := dk_28 (dk_at dksX3_init_1 19 rfl rfl)
theorem dX3_init_43 : decode cX3_init 43 = .ok (.putfield 29, 3) := dk_181 0 29 (dk_at dksX3_init_1 20 rfl rfl)
theorem dX3_init_46 : decode cX3_init 46 = .ok (.iconst 0, 1) := dk_3 (dk_at dksX3_init_1 23 rfl rfl)
theorem dX3_init_47 : decode cX3_init 47 = .ok (.istore_n 3, 1) := dk_62 (dk_at dksX3_init_2 0 rfl rfl)
theorem dX3_init_48 : decode cX3_init 48 = .ok (.iload_n 3, 1) := dk_29 (dk_at dksX3_init_2 1 rfl rfl)
theorem dX3_init_49 : decode cX3_init 49 = .ok (.aload_n 0, 1) := dk_42 (dk_at dksX3_init_2 2 rfl rfl)
theorem dX3_init_50 : decode cX3_init 50 = .ok (.invokevirtual 32, 3) := dk_182 0 32 (dk_at dksX3_init_2 3 rfl rfl)
theorem dX3_init_53 : decode cX3_init 53 = .ok (.if_icmp .ge 18, 3) := dk_162 0 18 (dk_at dksX3_init_2 6 rfl rfl)
theorem dX3_init_56 : decode cX3_init 56 = .ok (.aload_n 0, 1) := dk_42 (dk_at dksX3_init_2 9 rfl rfl)
theorem dX3_init_57 : decode cX3_init 57 = .ok (.getfield 9, 3) := dk_180 0 9 (dk_at dksX3_init_2 10 rfl rfl)
theorem dX3_init_60 : decode cX3_init 60 = .ok (.iload_n 3, 1) := dk_29 (dk_at dksX3_init_2 13 rfl rfl)
theorem dX3_init_61 : decode cX3_init 61 = .ok (.iload_n 3, 1) := dk_29 (dk_at dksX3_init_2 14 rfl rfl)
theorem dX3_init_62 : decode cX3_init 62 = .ok (.iload_n 2, 1) := dk_28 (dk_at dksX3_init_2 15 rfl rfl)
theorem dX3_init_63 : decode cX3_init 63 = .ok (.idiv, 1) := dk_108 (dk_at dksX3_init_2 16 rfl rfl)
theorem dX3_init_64 : decode cX3_init 64 = .ok (.iastore, 1) := dk_79 (dk_at dksX3_init_2 17 rfl rfl)
theorem dX3_init_65 : decode cX3_init 65 = .ok (.iinc 3 1, 3) := dk_132 3 1 (dk_at dksX3_init_2 18 rfl rfl)
theorem dX3_init_68 : decode cX3_init 68 = .ok (.goto (-20), 3) := dk_167 255 236 (dk_at dksX3_init_2 21 rfl rfl)
theorem dX3_init_71 : decode cX3_init 71 = .ok (.aload_n 0, 1) := dk_42 (dk_at dksX3_init_3 0 rfl rfl)
theorem dX3_init_72 : decode cX3_init 72 = .ok (.invokevirtual 36, 3) := dk_182 0 36 (dk_at dksX3_init_3 1 rfl rfl)
theorem dX3_init_75 : decode cX3_init 75 = .ok (.return_, 1) := dk_177 (dk_at dksX3_init_3 4 rfl rfl)
abbrev cX3_cells : ByteArray := prog_14_method_4_code
def yX3_cells : MethodName := ⟨RX3, "cells", "()I"⟩
def dkwX3_cells_0 : List UInt8 := [42, 180, 0, 25, 42, 180, 0, 29, 104, 172]
abbrev dktX3_cells_0 : List UInt8 := dkwX3_cells_0 ++ []
theorem dksX3_cells_0 : cX3_cells.data.toList.drop 0 = dktX3_cells_0 := by decide +kernel
theorem dX3_cells_0 : decode cX3_cells 0 = .ok (.aload_n 0, 1) := dk_42 (dk_at dksX3_cells_0 0 rfl rfl)
theorem dX3_cells_1 : decode cX3_cells 1 = .ok (.getfield 25, 3) := dk_180 0 25 (dk_at dksX3_cells_0 1 rfl rfl)
theorem dX3_cells_4 : decode cX3_cells 4 = .ok (.aload_n 0, 1) := dk_42 (dk_at dksX3_cells_0 4 rfl rfl)
theorem dX3_cells_5 : decode cX3_cells 5 = .ok (.getfield 29, 3) := dk_180 0 29 (dk_at dksX3_cells_0 5 rfl rfl)
theorem dX3_cells_8 : decode cX3_cells 8 = .ok (.imul, 1) := dk_104 (dk_at dksX3_cells_0 8 rfl rfl)
theorem dX3_cells_9 : decode cX3_cells 9 = .ok (.ireturn, 1) := dk_172 (dk_at dksX3_cells_0 9 rfl rfl)
abbrev cX3_renumber : ByteArray := prog_14_method_17_code
def yX3_renumber : MethodName := ⟨RX3, "renumber", "()V"⟩
def dkwX3_renumber_8 : List UInt8 := [167, 255, 222, 177]
abbrev dktX3_renumber_8 : List UInt8 := dkwX3_renumber_8 ++ []
def dkwX3_renumber_7 : List UInt8 := [92, 46, 4, 100, 79, 42, 29, 182, 0, 71, 44, 42, 180, 0, 9, 29, 46, 46, 29, 79, 132, 3, 255]
abbrev dktX3_renumber_7 : List UInt8 := dkwX3_renumber_7 ++ dktX3_renumber_8
def dkwX3_renumber_6 : List UInt8 := [132, 3, 1, 167, 255, 233, 42, 182, 0, 32, 4, 100, 62, 29, 155, 0, 36, 44, 42, 180, 0, 9, 29, 46]
abbrev dktX3_renumber_6 : List UInt8 := dkwX3_renumber_6 ++ dktX3_renumber_7
def dkwX3_renumber_5 : List UInt8 := [3, 62, 29, 42, 180, 0, 48, 190, 162, 0, 20, 42, 180, 0, 48, 29, 44, 29, 46, 188, 10, 83]
abbrev dktX3_renumber_5 : List UInt8 := dkwX3_renumber_5 ++ dktX3_renumber_6
def dkwX3_renumber_4 : List UInt8 := [29, 46, 92, 46, 4, 96, 79, 132, 3, 1, 167, 255, 167, 42, 43, 182, 0, 90, 189, 0, 103, 181, 0, 48]
abbrev dktX3_renumber_4 : List UInt8 := dkwX3_renumber_4 ++ dktX3_renumber_5
def dkwX3_renumber_3 : List UInt8 := [42, 180, 0, 9, 29, 46, 184, 0, 80, 182, 0, 96, 192, 0, 81, 182, 0, 100, 79, 44, 42, 180, 0, 9]
abbrev dktX3_renumber_3 : List UInt8 := dkwX3_renumber_3 ++ dktX3_renumber_4
def dkwX3_renumber_2 : List UInt8 := [184, 0, 80, 43, 182, 0, 90, 184, 0, 80, 182, 0, 92, 192, 0, 81, 58, 4, 42, 180, 0, 9, 29, 43]
abbrev dktX3_renumber_2 : List UInt8 := dkwX3_renumber_2 ++ dktX3_renumber_3
def dkwX3_renumber_1 : List UInt8 := [42, 180, 0, 9, 29, 46, 184, 0, 80, 182, 0, 86, 154, 0, 28, 43, 42, 180, 0, 9, 29, 46]
abbrev dktX3_renumber_1 : List UInt8 := dkwX3_renumber_1 ++ dktX3_renumber_2
def dkwX3_renumber_0 : List UInt8 := [187, 0, 77, 89, 183, 0, 79, 76, 16, 25, 188, 10, 77, 3, 62, 29, 42, 182, 0, 32, 162, 0, 87, 43]
abbrev dktX3_renumber_0 : List UInt8 := dkwX3_renumber_0 ++ dktX3_renumber_1
theorem dksX3_renumber_0 : cX3_renumber.data.toList.drop 0 = dktX3_renumber_0 := by decide +kernel
theorem dksX3_renumber_1 : cX3_renumber.data.toList.drop 24 = dktX3_renumber_1 := dk_seg dksX3_renumber_0 24 rfl rfl
theorem dksX3_renumber_2 : cX3_renumber.data.toList.drop 46 = dktX3_renumber_2 := dk_seg dksX3_renumber_1 22 rfl rfl
theorem dksX3_renumber_3 : cX3_renumber.data.toList.drop 70 = dktX3_renumber_3 := dk_seg dksX3_renumber_2 24 rfl rfl
theorem dksX3_renumber_4 : cX3_renumber.data.toList.drop 94 = dktX3_renumber_4 := dk_seg dksX3_renumber_3 24 rfl rfl
theorem dksX3_renumber_5 : cX3_renumber.data.toList.drop 118 = dktX3_renumber_5 := dk_seg dksX3_renumber_4 24 rfl rfl
theorem dksX3_renumber_6 : cX3_renumber.data.toList.drop 140 = dktX3_renumber_6 := dk_seg dksX3_renumber_5 22 rfl rfl
theorem dksX3_renumber_7 : cX3_renumber.data.toList.drop 164 = dktX3_renumber_7 := dk_seg dksX3_renumber_6 24 rfl rfl
theorem dksX3_renumber_8 : cX3_renumber.data.toList.drop 187 = dktX3_renumber_8 := dk_seg dksX3_renumber_7 23 rfl rfl
theorem dX3_renumber_0 : decode cX3_renumber 0 = .ok (.new 77, 3) := dk_187 0 77 (dk_at dksX3_renumber_0 0 rfl rfl)
theorem dX3_renumber_3 : decode cX3_renumber 3 = .ok (.dup, 1) := dk_89 (dk_at dksX3_renumber_0 3 rfl rfl)
theorem dX3_renumber_4 : decode cX3_renumber 4 = .ok (.invokespecial 79, 3) := dk_183 0 79 (dk_at dksX3_renumber_0 4 rfl rfl)
theorem dX3_renumber_7 : decode cX3_renumber 7 = .ok (.astore_n 1, 1) := dk_76 (dk_at dksX3_renumber_0 7 rfl rfl)
theorem dX3_renumber_8 : decode cX3_renumber 8 = .ok (.bipush 25, 2) := dk_16 25 (dk_at dksX3_renumber_0 8 rfl rfl)
theorem dX3_renumber_10 : decode cX3_renumber 10 = .ok (.newarray .int, 2) := dk_188_10 (dk_at dksX3_renumber_0 10 rfl rfl)
theorem dX3_renumber_12 : decode cX3_renumber 12 = .ok (.astore_n 2, 1) := dk_77 (dk_at dksX3_renumber_0 12 rfl rfl)
theorem dX3_renumber_13 : decode cX3_renumber 13 = .ok (.iconst 0, 1) := dk_3 (dk_at dksX3_renumber_0 13 rfl rfl)
theorem dX3_renumber_14 : decode cX3_renumber 14 = .ok (.istore_n 3, 1) := dk_62 (dk_at dksX3_renumber_0 14 rfl rfl)
theorem dX3_renumber_15 : decode cX3_renumber 15 = .ok (.iload_n 3, 1) := dk_29 (dk_at dksX3_renumber_0 15 rfl rfl)
theorem dX3_renumber_16 : decode cX3_renumber 16 = .ok (.aload_n 0, 1) := dk_42 (dk_at dksX3_renumber_0 16 rfl rfl)
theorem dX3_renumber_17 : decode cX3_renumber 17 = .ok (.invokevirtual 32, 3) := dk_182 0 32 (dk_at dksX3_renumber_0 17 rfl rfl)
theorem dX3_renumber_20 : decode cX3_renumber 20 = .ok (.if_icmp .ge 87, 3) := dk_162 0 87 (dk_at dksX3_renumber_0 20 rfl rfl)
theorem dX3_renumber_23 : decode cX3_renumber 23 = .ok (.aload_n 1, 1) := dk_43 (dk_at dksX3_renumber_0 23 rfl rfl)
theorem dX3_renumber_24 : decode cX3_renumber 24 = .ok (.aload_n 0, 1) := dk_42 (dk_at dksX3_renumber_1 0 rfl rfl)
theorem dX3_renumber_25 : decode cX3_renumber 25 = .ok (.getfield 9, 3) := dk_180 0 9 (dk_at dksX3_renumber_1 1 rfl rfl)
theorem dX3_renumber_28 : decode cX3_renumber 28 = .ok (.iload_n 3, 1) := dk_29 (dk_at dksX3_renumber_1 4 rfl rfl)
theorem dX3_renumber_29 : decode cX3_renumber 29 = .ok (.iaload, 1) := dk_46 (dk_at dksX3_renumber_1 5 rfl rfl)
theorem dX3_renumber_30 : decode cX3_renumber 30 = .ok (.invokestatic 80, 3) := dk_184 0 80 (dk_at dksX3_renumber_1 6 rfl rfl)
theorem dX3_renumber_33 : decode cX3_renumber 33 = .ok (.invokevirtual 86, 3) := dk_182 0 86 (dk_at dksX3_renumber_1 9 rfl rfl)
theorem dX3_renumber_36 : decode cX3_renumber 36 = .ok (.ifCond .ne 28, 3) := dk_154 0 28 (dk_at dksX3_renumber_1 12 rfl rfl)
theorem dX3_renumber_39 : decode cX3_renumber 39 = .ok (.aload_n 1, 1) := dk_43 (dk_at dksX3_renumber_1 15 rfl rfl)
theorem dX3_renumber_40 : decode cX3_renumber 40 = .ok (.aload_n 0, 1) := dk_42 (dk_at dksX3_renumber_1 16 rfl rfl)
theorem dX3_renumber_41 : decode cX3_renumber 41 = .ok (.getfield 9, 3) := dk_180 0 9 (dk_at dksX3_renumber_1 17 rfl rfl)
theorem dX3_renumber_44 : decode cX3_renumber 44 = .ok (.iload_n 3, 1) := dk_29 (dk_at dksX3_renumber_1 20 rfl rfl)
theorem dX3_renumber_45 : decode cX3_renumber 45 = .ok (.iaload, 1) := dk_46 (dk_at dksX3_renumber_1 21 rfl rfl)
theorem dX3_renumber_46 : decode cX3_renumber 46 = .ok (.invokestatic 80, 3) := dk_184 0 80 (dk_at dksX3_renumber_2 0 rfl rfl)
theorem dX3_renumber_49 : decode cX3_renumber 49 = .ok (.aload_n 1, 1) := dk_43 (dk_at dksX3_renumber_2 3 rfl rfl)
theorem dX3_renumber_50 : decode cX3_renumber 50 = .ok (.invokevirtual 90, 3) := dk_182 0 90 (dk_at dksX3_renumber_2 4 rfl rfl)
theorem dX3_renumber_53 : decode cX3_renumber 53 = .ok (.invokestatic 80, 3) := dk_184 0 80 (dk_at dksX3_renumber_2 7 rfl rfl)
theorem dX3_renumber_56 : decode cX3_renumber 56 = .ok (.invokevirtual 92, 3) := dk_182 0 92 (dk_at dksX3_renumber_2 10 rfl rfl)
theorem dX3_renumber_59 : decode cX3_renumber 59 = .ok (.checkcast 81, 3) := dk_192 0 81 (dk_at dksX3_renumber_2 13 rfl rfl)
theorem dX3_renumber_62 : decode cX3_renumber 62 = .ok (.astore 4, 2) := dk_58 4 (dk_at dksX3_renumber_2 16 rfl rfl)
theorem dX3_renumber_64 : decode cX3_renumber 64 = .ok (.aload_n 0, 1) := dk_42 (dk_at dksX3_renumber_2 18 rfl rfl)
theorem dX3_renumber_65 : decode cX3_renumber 65 = .ok (.getfield 9, 3) := dk_180 0 9 (dk_at dksX3_renumber_2 19 rfl rfl)
theorem dX3_renumber_68 : decode cX3_renumber 68 = .ok (.iload_n 3, 1) := dk_29 (dk_at dksX3_renumber_2 22 rfl rfl)
theorem dX3_renumber_69 : decode cX3_renumber 69 = .ok (.aload_n 1, 1) := dk_43 (dk_at dksX3_renumber_2 23 rfl rfl)
theorem dX3_renumber_70 : decode cX3_renumber 70 = .ok (.aload_n 0, 1) := dk_42 (dk_at dksX3_renumber_3 0 rfl rfl)
theorem dX3_renumber_71 : decode cX3_renumber 71 = .ok (.getfield 9, 3) := dk_180 0 9 (dk_at dksX3_renumber_3 1 rfl rfl)
theorem dX3_renumber_74 : decode cX3_renumber 74 = .ok (.iload_n 3, 1) := dk_29 (dk_at dksX3_renumber_3 4 rfl rfl)
theorem dX3_renumber_75 : decode cX3_renumber 75 = .ok (.iaload, 1) := dk_46 (dk_at dksX3_renumber_3 5 rfl rfl)
theorem dX3_renumber_76 : decode cX3_renumber 76 = .ok (.invokestatic 80, 3) := dk_184 0 80 (dk_at dksX3_renumber_3 6 rfl rfl)
theorem dX3_renumber_79 : decode cX3_renumber 79 = .ok (.invokevirtual 96, 3) := dk_182 0 96 (dk_at dksX3_renumber_3 9 rfl rfl)
theorem dX3_renumber_82 : decode cX3_renumber 82 = .ok (.checkcast 81, 3) := dk_192 0 81 (dk_at dksX3_renumber_3 12 rfl rfl)
theorem dX3_renumber_85 : decode cX3_renumber 85 = .ok (.invokevirtual 100, 3) := dk_182 0 100 (dk_at dksX3_renumber_3 15 rfl rfl)
theorem dX3_renumber_88 : decode cX3_renumber 88 = .ok (.iastore, 1) := dk_79 (dk_at dksX3_renumber_3 18 rfl rfl)
theorem dX3_renumber_89 : decode cX3_renumber 89 = .ok (.aload_n 2, 1) := dk_44 (dk_at dksX3_renumber_3 19 rfl rfl)
theorem dX3_renumber_90 : decode cX3_renumber 90 = .ok (.aload_n 0, 1) := dk_42 (dk_at dksX3_renumber_3 20 rfl rfl)
theorem dX3_renumber_91 : decode cX3_renumber 91 = .ok (.getfield 9, 3) := dk_180 0 9 (dk_at dksX3_renumber_3 21 rfl rfl)
theorem dX3_renumber_94 : decode cX3_renumber 94 = .ok (.iload_n 3, 1) := dk_29 (dk_at dksX3_renumber_4 0 rfl rfl)
theorem dX3_renumber_95 : decode cX3_renumber 95 = .ok (.iaload, 1) := dk_46 (dk_at dksX3_renumber_4 1 rfl rfl)
theorem dX3_renumber_96 : decode cX3_renumber 96 = .ok (.dup2, 1) := dk_92 (dk_at dksX3_renumber_4 2 rfl rfl)
theorem dX3_renumber_97 : decode cX3_renumber 97 = .ok (.iaload, 1) := dk_46 (dk_at dksX3_renumber_4 3 rfl rfl)
theorem dX3_renumber_98 : decode cX3_renumber 98 = .ok (.iconst 1, 1) := dk_4 (dk_at dksX3_renumber_4 4 rfl rfl)
theorem dX3_renumber_99 : decode cX3_renumber 99 = .ok (.iadd, 1) := dk_96 (dk_at dksX3_renumber_4 5 rfl rfl)
theorem dX3_renumber_100 : decode cX3_renumber 100 = .ok (.iastore, 1) := dk_79 (dk_at dksX3_renumber_4 6 rfl rfl)
theorem dX3_renumber_101 : decode cX3_renumber 101 = .ok (.iinc 3 1, 3) := dk_132 3 1 (dk_at dksX3_renumber_4 7 rfl rfl)
theorem dX3_renumber_104 : decode cX3_renumber 104 = .ok (.goto (-89), 3) := dk_167 255 167 (dk_at dksX3_renumber_4 10 rfl rfl)
theorem dX3_renumber_107 : decode cX3_renumber 107 = .ok (.aload_n 0, 1) := dk_42 (dk_at dksX3_renumber_4 13 rfl rfl)
theorem dX3_renumber_108 : decode cX3_renumber 108 = .ok (.aload_n 1, 1) := dk_43 (dk_at dksX3_renumber_4 14 rfl rfl)
theorem dX3_renumber_109 : decode cX3_renumber 109 = .ok (.invokevirtual 90, 3) := dk_182 0 90 (dk_at dksX3_renumber_4 15 rfl rfl)
theorem dX3_renumber_112 : decode cX3_renumber 112 = .ok (.anewarray 103, 3) := dk_189 0 103 (dk_at dksX3_renumber_4 18 rfl rfl)
theorem dX3_renumber_115 : decode cX3_renumber 115 = .ok (.putfield 48, 3) := dk_181 0 48 (dk_at dksX3_renumber_4 21 rfl rfl)
theorem dX3_renumber_118 : decode cX3_renumber 118 = .ok (.iconst 0, 1) := dk_3 (dk_at dksX3_renumber_5 0 rfl rfl)
theorem dX3_renumber_119 : decode cX3_renumber 119 = .ok (.istore_n 3, 1) := dk_62 (dk_at dksX3_renumber_5 1 rfl rfl)
theorem dX3_renumber_120 : decode cX3_renumber 120 = .ok (.iload_n 3, 1) := dk_29 (dk_at dksX3_renumber_5 2 rfl rfl)
theorem dX3_renumber_121 : decode cX3_renumber 121 = .ok (.aload_n 0, 1) := dk_42 (dk_at dksX3_renumber_5 3 rfl rfl)
theorem dX3_renumber_122 : decode cX3_renumber 122 = .ok (.getfield 48, 3) := dk_180 0 48 (dk_at dksX3_renumber_5 4 rfl rfl)
theorem dX3_renumber_125 : decode cX3_renumber 125 = .ok (.arraylength, 1) := dk_190 (dk_at dksX3_renumber_5 7 rfl rfl)
theorem dX3_renumber_126 : decode cX3_renumber 126 = .ok (.if_icmp .ge 20, 3) := dk_162 0 20 (dk_at dksX3_renumber_5 8 rfl rfl)
theorem dX3_renumber_129 : decode cX3_renumber 129 = .ok (.aload_n 0, 1) := dk_42 (dk_at dksX3_renumber_5 11 rfl rfl)
theorem dX3_renumber_130 : decode cX3_renumber 130 = .ok (.getfield 48, 3) := dk_180 0 48 (dk_at dksX3_renumber_5 12 rfl rfl)
theorem dX3_renumber_133 : decode cX3_renumber 133 = .ok (.iload_n 3, 1) := dk_29 (dk_at dksX3_renumber_5 15 rfl rfl)
theorem dX3_renumber_134 : decode cX3_renumber 134 = .ok (.aload_n 2, 1) := dk_44 (dk_at dksX3_renumber_5 16 rfl rfl)
theorem dX3_renumber_135 : decode cX3_renumber 135 = .ok (.iload_n 3, 1) := dk_29 (dk_at dksX3_renumber_5 17 rfl rfl)
theorem dX3_renumber_136 : decode cX3_renumber 136 = .ok (.iaload, 1) := dk_46 (dk_at dksX3_renumber_5 18 rfl rfl)
theorem dX3_renumber_137 : decode cX3_renumber 137 = .ok (.newarray .int, 2) := dk_188_10 (dk_at dksX3_renumber_5 19 rfl rfl)
theorem dX3_renumber_139 : decode cX3_renumber 139 = .ok (.aastore, 1) := dk_83 (dk_at dksX3_renumber_5 21 rfl rfl)
theorem dX3_renumber_140 : decode cX3_renumber 140 = .ok (.iinc 3 1, 3) := dk_132 3 1 (dk_at dksX3_renumber_6 0 rfl rfl)
theorem dX3_renumber_143 : decode cX3_renumber 143 = .ok (.goto (-23), 3) := dk_167 255 233 (dk_at dksX3_renumber_6 3 rfl rfl)
theorem dX3_renumber_146 : decode cX3_renumber 146 = .ok (.aload_n 0, 1) := dk_42 (dk_at dksX3_renumber_6 6 rfl rfl)
theorem dX3_renumber_147 : decode cX3_renumber 147 = .ok (.invokevirtual 32, 3) := dk_182 0 32 (dk_at dksX3_renumber_6 7 rfl rfl)
theorem dX3_renumber_150 : decode cX3_renumber 150 = .ok (.iconst 1, 1) := dk_4 (dk_at dksX3_renumber_6 10 rfl rfl)
theorem dX3_renumber_151 : decode cX3_renumber 151 = .ok (.isub, 1) := dk_100 (dk_at dksX3_renumber_6 11 rfl rfl)
theorem dX3_renumber_152 : decode cX3_renumber 152 = .ok (.istore_n 3, 1) := dk_62 (dk_at dksX3_renumber_6 12 rfl rfl)
theorem dX3_renumber_153 : decode cX3_renumber 153 = .ok (.iload_n 3, 1) := dk_29 (dk_at dksX3_renumber_6 13 rfl rfl)
theorem dX3_renumber_154 : decode cX3_renumber 154 = .ok (.ifCond .lt 36, 3) := dk_155 0 36 (dk_at dksX3_renumber_6 14 rfl rfl)
theorem dX3_renumber_157 : decode cX3_renumber 157 = .ok (.aload_n 2, 1) := dk_44 (dk_at dksX3_renumber_6 17 rfl rfl)
theorem dX3_renumber_158 : decode cX3_renumber 158 = .ok (.aload_n 0, 1) := dk_42 (dk_at dksX3_renumber_6 18 rfl rfl)
theorem dX3_renumber_159 : decode cX3_renumber 159 = .ok (.getfield 9, 3) := dk_180 0 9 (dk_at dksX3_renumber_6 19 rfl rfl)
theorem dX3_renumber_162 : decode cX3_renumber 162 = .ok (.iload_n 3, 1) := dk_29 (dk_at dksX3_renumber_6 22 rfl rfl)
theorem dX3_renumber_163 : decode cX3_renumber 163 = .ok (.iaload, 1) := dk_46 (dk_at dksX3_renumber_6 23 rfl rfl)
theorem dX3_renumber_164 : decode cX3_renumber 164 = .ok (.dup2, 1) := dk_92 (dk_at dksX3_renumber_7 0 rfl rfl)
theorem dX3_renumber_165 : decode cX3_renumber 165 = .ok (.iaload, 1) := dk_46 (dk_at dksX3_renumber_7 1 rfl rfl)
theorem dX3_renumber_166 : decode cX3_renumber 166 = .ok (.iconst 1, 1) := dk_4 (dk_at dksX3_renumber_7 2 rfl rfl)
theorem dX3_renumber_167 : decode cX3_renumber 167 = .ok (.isub, 1) := dk_100 (dk_at dksX3_renumber_7 3 rfl rfl)
theorem dX3_renumber_168 : decode cX3_renumber 168 = .ok (.iastore, 1) := dk_79 (dk_at dksX3_renumber_7 4 rfl rfl)
theorem dX3_renumber_169 : decode cX3_renumber 169 = .ok (.aload_n 0, 1) := dk_42 (dk_at dksX3_renumber_7 5 rfl rfl)
theorem dX3_renumber_170 : decode cX3_renumber 170 = .ok (.iload_n 3, 1) := dk_29 (dk_at dksX3_renumber_7 6 rfl rfl)
theorem dX3_renumber_171 : decode cX3_renumber 171 = .ok (.invokevirtual 71, 3) := dk_182 0 71 (dk_at dksX3_renumber_7 7 rfl rfl)
theorem dX3_renumber_174 : decode cX3_renumber 174 = .ok (.aload_n 2, 1) := dk_44 (dk_at dksX3_renumber_7 10 rfl rfl)
theorem dX3_renumber_175 : decode cX3_renumber 175 = .ok (.aload_n 0, 1) := dk_42 (dk_at dksX3_renumber_7 11 rfl rfl)
theorem dX3_renumber_176 : decode cX3_renumber 176 = .ok (.getfield 9, 3) := dk_180 0 9 (dk_at dksX3_renumber_7 12 rfl rfl)
theorem dX3_renumber_179 : decode cX3_renumber 179 = .ok (.iload_n 3, 1) := dk_29 (dk_at dksX3_renumber_7 15 rfl rfl)
theorem dX3_renumber_180 : decode cX3_renumber 180 = .ok (.iaload, 1) := dk_46 (dk_at dksX3_renumber_7 16 rfl rfl)
theorem dX3_renumber_181 : decode cX3_renumber 181 = .ok (.iaload, 1) := dk_46 (dk_at dksX3_renumber_7 17 rfl rfl)
theorem dX3_renumber_182 : decode cX3_renumber 182 = .ok (.iload_n 3, 1) := dk_29 (dk_at dksX3_renumber_7 18 rfl rfl)
theorem dX3_renumber_183 : decode cX3_renumber 183 = .ok (.iastore, 1) := dk_79 (dk_at dksX3_renumber_7 19 rfl rfl)
theorem dX3_renumber_184 : decode cX3_renumber 184 = .ok (.iinc 3 (-1), 3) := dk_132 3 255 (dk_at dksX3_renumber_7 20 rfl rfl)
theorem dX3_renumber_187 : decode cX3_renumber 187 = .ok (.goto (-34), 3) := dk_167 255 222 (dk_at dksX3_renumber_8 0 rfl rfl)
theorem dX3_renumber_190 : decode cX3_renumber 190 = .ok (.return_, 1) := dk_177 (dk_at dksX3_renumber_8 3 rfl rfl)
abbrev cX3_members : ByteArray := prog_14_method_14_code
def yX3_members : MethodName := ⟨RX3, "members", "(I)[I"⟩
def dkwX3_members_0 : List UInt8 := [42, 180, 0, 48, 42, 180, 0, 9, 27, 46, 50, 176]
abbrev dktX3_members_0 : List UInt8 := dkwX3_members_0 ++ []
theorem dksX3_members_0 : cX3_members.data.toList.drop 0 = dktX3_members_0 := by decide +kernel
theorem dX3_members_0 : decode cX3_members 0 = .ok (.aload_n 0, 1) := dk_42 (dk_at dksX3_members_0 0 rfl rfl)
theorem dX3_members_1 : decode cX3_members 1 = .ok (.getfield 48, 3) := dk_180 0 48 (dk_at dksX3_members_0 1 rfl rfl)
theorem dX3_members_4 : decode cX3_members 4 = .ok (.aload_n 0, 1) := dk_42 (dk_at dksX3_members_0 4 rfl rfl)
theorem dX3_members_5 : decode cX3_members 5 = .ok (.getfield 9, 3) := dk_180 0 9 (dk_at dksX3_members_0 5 rfl rfl)
theorem dX3_members_8 : decode cX3_members 8 = .ok (.iload_n 1, 1) := dk_27 (dk_at dksX3_members_0 8 rfl rfl)
theorem dX3_members_9 : decode cX3_members 9 = .ok (.iaload, 1) := dk_46 (dk_at dksX3_members_0 9 rfl rfl)
theorem dX3_members_10 : decode cX3_members 10 = .ok (.aaload, 1) := dk_50 (dk_at dksX3_members_0 10 rfl rfl)
theorem dX3_members_11 : decode cX3_members 11 = .ok (.areturn, 1) := dk_176 (dk_at dksX3_members_0 11 rfl rfl)
abbrev cX3_size : ByteArray := prog_14_method_15_code
def yX3_size : MethodName := ⟨RX3, "size", "(I)I"⟩
def dkwX3_size_0 : List UInt8 := [42, 27, 182, 0, 71, 190, 172]
abbrev dktX3_size_0 : List UInt8 := dkwX3_size_0 ++ []
theorem dksX3_size_0 : cX3_size.data.toList.drop 0 = dktX3_size_0 := by decide +kernel
theorem dX3_size_0 : decode cX3_size 0 = .ok (.aload_n 0, 1) := dk_42 (dk_at dksX3_size_0 0 rfl rfl)
theorem dX3_size_1 : decode cX3_size 1 = .ok (.iload_n 1, 1) := dk_27 (dk_at dksX3_size_0 1 rfl rfl)
theorem dX3_size_2 : decode cX3_size 2 = .ok (.invokevirtual 71, 3) := dk_182 0 71 (dk_at dksX3_size_0 2 rfl rfl)
theorem dX3_size_5 : decode cX3_size 5 = .ok (.arraylength, 1) := dk_190 (dk_at dksX3_size_0 5 rfl rfl)
theorem dX3_size_6 : decode cX3_size 6 = .ok (.ireturn, 1) := dk_172 (dk_at dksX3_size_0 6 rfl rfl)
abbrev cX3_copy : ByteArray := prog_14_method_2_code
def yX3_copy : MethodName := ⟨RX3, "copy", "()LEdgeSums$Page;"⟩
def dkwX3_copy_2 : List UInt8 := [3, 16, 10, 184, 0, 42, 43, 176]
abbrev dktX3_copy_2 : List UInt8 := dkwX3_copy_2 ++ []
def dkwX3_copy_1 : List UInt8 := [42, 180, 0, 18, 3, 43, 180, 0, 18, 3, 16, 25, 184, 0, 42, 42, 180, 0, 22, 3, 43, 180, 0, 22]
abbrev dktX3_copy_1 : List UInt8 := dkwX3_copy_1 ++ dktX3_copy_2
def dkwX3_copy_0 : List UInt8 := [187, 0, 10, 89, 42, 183, 0, 39, 76, 42, 180, 0, 15, 3, 43, 180, 0, 15, 3, 16, 25, 184, 0, 42]
abbrev dktX3_copy_0 : List UInt8 := dkwX3_copy_0 ++ dktX3_copy_1
theorem dksX3_copy_0 : cX3_copy.data.toList.drop 0 = dktX3_copy_0 := by decide +kernel
theorem dksX3_copy_1 : cX3_copy.data.toList.drop 24 = dktX3_copy_1 := dk_seg dksX3_copy_0 24 rfl rfl
theorem dksX3_copy_2 : cX3_copy.data.toList.drop 48 = dktX3_copy_2 := dk_seg dksX3_copy_1 24 rfl rfl
theorem dX3_copy_0 : decode cX3_copy 0 = .ok (.new 10, 3) := dk_187 0 10 (dk_at dksX3_copy_0 0 rfl rfl)
theorem dX3_copy_3 : decode cX3_copy 3 = .ok (.dup, 1) := dk_89 (dk_at dksX3_copy_0 3 rfl rfl)
theorem dX3_copy_4 : decode cX3_copy 4 = .ok (.aload_n 0, 1) := dk_42 (dk_at dksX3_copy_0 4 rfl rfl)
theorem dX3_copy_5 : decode cX3_copy 5 = .ok (.invokespecial 39, 3) := dk_183 0 39 (dk_at dksX3_copy_0 5 rfl rfl)
theorem dX3_copy_8 : decode cX3_copy 8 = .ok (.astore_n 1, 1) := dk_76 (dk_at dksX3_copy_0 8 rfl rfl)
theorem dX3_copy_9 : decode cX3_copy 9 = .ok (.aload_n 0, 1) := dk_42 (dk_at dksX3_copy_0 9 rfl rfl)
theorem dX3_copy_10 : decode cX3_copy 10 = .ok (.getfield 15, 3) := dk_180 0 15 (dk_at dksX3_copy_0 10 rfl rfl)
theorem dX3_copy_13 : decode cX3_copy 13 = .ok (.iconst 0, 1) := dk_3 (dk_at dksX3_copy_0 13 rfl rfl)
theorem dX3_copy_14 : decode cX3_copy 14 = .ok (.aload_n 1, 1) := dk_43 (dk_at dksX3_copy_0 14 rfl rfl)
theorem dX3_copy_15 : decode cX3_copy 15 = .ok (.getfield 15, 3) := dk_180 0 15 (dk_at dksX3_copy_0 15 rfl rfl)
theorem dX3_copy_18 : decode cX3_copy 18 = .ok (.iconst 0, 1) := dk_3 (dk_at dksX3_copy_0 18 rfl rfl)
theorem dX3_copy_19 : decode cX3_copy 19 = .ok (.bipush 25, 2) := dk_16 25 (dk_at dksX3_copy_0 19 rfl rfl)
theorem dX3_copy_21 : decode cX3_copy 21 = .ok (.invokestatic 42, 3) := dk_184 0 42 (dk_at dksX3_copy_0 21 rfl rfl)
theorem dX3_copy_24 : decode cX3_copy 24 = .ok (.aload_n 0, 1) := dk_42 (dk_at dksX3_copy_1 0 rfl rfl)
theorem dX3_copy_25 : decode cX3_copy 25 = .ok (.getfield 18, 3) := dk_180 0 18 (dk_at dksX3_copy_1 1 rfl rfl)
theorem dX3_copy_28 : decode cX3_copy 28 = .ok (.iconst 0, 1) := dk_3 (dk_at dksX3_copy_1 4 rfl rfl)
theorem dX3_copy_29 : decode cX3_copy 29 = .ok (.aload_n 1, 1) := dk_43 (dk_at dksX3_copy_1 5 rfl rfl)
theorem dX3_copy_30 : decode cX3_copy 30 = .ok (.getfield 18, 3) := dk_180 0 18 (dk_at dksX3_copy_1 6 rfl rfl)
theorem dX3_copy_33 : decode cX3_copy 33 = .ok (.iconst 0, 1) := dk_3 (dk_at dksX3_copy_1 9 rfl rfl)
theorem dX3_copy_34 : decode cX3_copy 34 = .ok (.bipush 25, 2) := dk_16 25 (dk_at dksX3_copy_1 10 rfl rfl)
theorem dX3_copy_36 : decode cX3_copy 36 = .ok (.invokestatic 42, 3) := dk_184 0 42 (dk_at dksX3_copy_1 12 rfl rfl)
theorem dX3_copy_39 : decode cX3_copy 39 = .ok (.aload_n 0, 1) := dk_42 (dk_at dksX3_copy_1 15 rfl rfl)
theorem dX3_copy_40 : decode cX3_copy 40 = .ok (.getfield 22, 3) := dk_180 0 22 (dk_at dksX3_copy_1 16 rfl rfl)
theorem dX3_copy_43 : decode cX3_copy 43 = .ok (.iconst 0, 1) := dk_3 (dk_at dksX3_copy_1 19 rfl rfl)
theorem dX3_copy_44 : decode cX3_copy 44 = .ok (.aload_n 1, 1) := dk_43 (dk_at dksX3_copy_1 20 rfl rfl)
theorem dX3_copy_45 : decode cX3_copy 45 = .ok (.getfield 22, 3) := dk_180 0 22 (dk_at dksX3_copy_1 21 rfl rfl)
theorem dX3_copy_48 : decode cX3_copy 48 = .ok (.iconst 0, 1) := dk_3 (dk_at dksX3_copy_2 0 rfl rfl)
theorem dX3_copy_49 : decode cX3_copy 49 = .ok (.bipush 10, 2) := dk_16 10 (dk_at dksX3_copy_2 1 rfl rfl)
theorem dX3_copy_51 : decode cX3_copy 51 = .ok (.invokestatic 42, 3) := dk_184 0 42 (dk_at dksX3_copy_2 3 rfl rfl)
theorem dX3_copy_54 : decode cX3_copy 54 = .ok (.aload_n 1, 1) := dk_43 (dk_at dksX3_copy_2 6 rfl rfl)
theorem dX3_copy_55 : decode cX3_copy 55 = .ok (.areturn, 1) := dk_176 (dk_at dksX3_copy_2 7 rfl rfl)
abbrev cX3_init_2 : ByteArray := prog_14_method_3_code
def yX3_init_2 : MethodName := ⟨RX3, "<init>", "(LEdgeSums$Page;)V"⟩
def dkwX3_init_2_3 : List UInt8 := [16, 25, 184, 0, 42, 177]
abbrev dktX3_init_2_3 : List UInt8 := dkwX3_init_2_3 ++ []
def dkwX3_init_2_2 : List UInt8 := [180, 0, 29, 181, 0, 29, 42, 43, 180, 0, 48, 181, 0, 48, 43, 180, 0, 9, 3, 42, 180, 0, 9, 3]
abbrev dktX3_init_2_2 : List UInt8 := dkwX3_init_2_2 ++ dktX3_init_2_3
def dkwX3_init_2_1 : List UInt8 := [188, 4, 181, 0, 18, 42, 16, 10, 188, 4, 181, 0, 22, 42, 43, 180, 0, 25, 181, 0, 25, 42, 43]
abbrev dktX3_init_2_1 : List UInt8 := dkwX3_init_2_1 ++ dktX3_init_2_2
def dkwX3_init_2_0 : List UInt8 := [42, 183, 0, 3, 42, 16, 25, 188, 10, 181, 0, 9, 42, 16, 25, 188, 10, 181, 0, 15, 42, 16, 25]
abbrev dktX3_init_2_0 : List UInt8 := dkwX3_init_2_0 ++ dktX3_init_2_1
theorem dksX3_init_2_0 : cX3_init_2.data.toList.drop 0 = dktX3_init_2_0 := by decide +kernel
theorem dksX3_init_2_1 : cX3_init_2.data.toList.drop 23 = dktX3_init_2_1 := dk_seg dksX3_init_2_0 23 rfl rfl
theorem dksX3_init_2_2 : cX3_init_2.data.toList.drop 46 = dktX3_init_2_2 := dk_seg dksX3_init_2_1 23 rfl rfl
theorem dksX3_init_2_3 : cX3_init_2.data.toList.drop 70 = dktX3_init_2_3 := dk_seg dksX3_init_2_2 24 rfl rfl
theorem dX3_init_2_0 : decode cX3_init_2 0 = .ok (.aload_n 0, 1) := dk_42 (dk_at dksX3_init_2_0 0 rfl rfl)
theorem dX3_init_2_1 : decode cX3_init_2 1 = .ok (.invokespecial 3, 3) := dk_183 0 3 (dk_at dksX3_init_2_0 1 rfl rfl)
theorem dX3_init_2_4 : decode cX3_init_2 4 = .ok (.aload_n 0, 1) := dk_42 (dk_at dksX3_init_2_0 4 rfl rfl)
theorem dX3_init_2_5 : decode cX3_init_2 5 = .ok (.bipush 25, 2) := dk_16 25 (dk_at dksX3_init_2_0 5 rfl rfl)
theorem dX3_init_2_7 : decode cX3_init_2 7 = .ok (.newarray .int, 2) := dk_188_10 (dk_at dksX3_init_2_0 7 rfl rfl)
theorem dX3_init_2_9 : decode cX3_init_2 9 = .ok (.putfield 9, 3) := dk_181 0 9 (dk_at dksX3_init_2_0 9 rfl rfl)
theorem dX3_init_2_12 : decode cX3_init_2 12 = .ok (.aload_n 0, 1) := dk_42 (dk_at dksX3_init_2_0 12 rfl rfl)
theorem dX3_init_2_13 : decode cX3_init_2 13 = .ok (.bipush 25, 2) := dk_16 25 (dk_at dksX3_init_2_0 13 rfl rfl)
theorem dX3_init_2_15 : decode cX3_init_2 15 = .ok (.newarray .int, 2) := dk_188_10 (dk_at dksX3_init_2_0 15 rfl rfl)
theorem dX3_init_2_17 : decode cX3_init_2 17 = .ok (.putfield 15, 3) := dk_181 0 15 (dk_at dksX3_init_2_0 17 rfl rfl)
theorem dX3_init_2_20 : decode cX3_init_2 20 = .ok (.aload_n 0, 1) := dk_42 (dk_at dksX3_init_2_0 20 rfl rfl)
theorem dX3_init_2_21 : decode cX3_init_2 21 = .ok (.bipush 25, 2) := dk_16 25 (dk_at dksX3_init_2_0 21 rfl rfl)
theorem dX3_init_2_23 : decode cX3_init_2 23 = .ok (.newarray .boolean, 2) := dk_188_4 (dk_at dksX3_init_2_1 0 rfl rfl)
theorem dX3_init_2_25 : decode cX3_init_2 25 = .ok (.putfield 18, 3) := dk_181 0 18 (dk_at dksX3_init_2_1 2 rfl rfl)
theorem dX3_init_2_28 : decode cX3_init_2 28 = .ok (.aload_n 0, 1) := dk_42 (dk_at dksX3_init_2_1 5 rfl rfl)
theorem dX3_init_2_29 : decode cX3_init_2 29 = .ok (.bipush 10, 2) := dk_16 10 (dk_at dksX3_init_2_1 6 rfl rfl)
theorem dX3_init_2_31 : decode cX3_init_2 31 = .ok (.newarray .boolean, 2) := dk_188_4 (dk_at dksX3_init_2_1 8 rfl rfl)
theorem dX3_init_2_33 : decode cX3_init_2 33 = .ok (.putfield 22, 3) := dk_181 0 22 (dk_at dksX3_init_2_1 10 rfl rfl)
theorem dX3_init_2_36 : decode cX3_init_2 36 = .ok (.aload_n 0, 1) := dk_42 (dk_at dksX3_init_2_1 13 rfl rfl)
theorem dX3_init_2_37 : decode cX3_init_2 37 = .ok (.aload_n 1, 1) := dk_43 (dk_at dksX3_init_2_1 14 rfl rfl)
theorem dX3_init_2_38 : decode cX3_init_2 38 = .ok (.getfield 25, 3) := dk_180 0 25 (dk_at dksX3_init_2_1 15 rfl rfl)
theorem dX3_init_2_41 : decode cX3_init_2 41 = .ok (.putfield 25, 3) := dk_181 0 25 (dk_at dksX3_init_2_1 18 rfl rfl)
theorem dX3_init_2_44 : decode cX3_init_2 44 = .ok (.aload_n 0, 1) := dk_42 (dk_at dksX3_init_2_1 21 rfl rfl)
theorem dX3_init_2_45 : decode cX3_init_2 45 = .ok (.aload_n 1, 1) := dk_43 (dk_at dksX3_init_2_1 22 rfl rfl)
theorem dX3_init_2_46 : decode cX3_init_2 46 = .ok (.getfield 29, 3) := dk_180 0 29 (dk_at dksX3_init_2_2 0 rfl rfl)
theorem dX3_init_2_49 : decode cX3_init_2 49 = .ok (.putfield 29, 3) := dk_181 0 29 (dk_at dksX3_init_2_2 3 rfl rfl)
theorem dX3_init_2_52 : decode cX3_init_2 52 = .ok (.aload_n 0, 1) := dk_42 (dk_at dksX3_init_2_2 6 rfl rfl)
theorem dX3_init_2_53 : decode cX3_init_2 53 = .ok (.aload_n 1, 1) := dk_43 (dk_at dksX3_init_2_2 7 rfl rfl)
theorem dX3_init_2_54 : decode cX3_init_2 54 = .ok (.getfield 48, 3) := dk_180 0 48 (dk_at dksX3_init_2_2 8 rfl rfl)
theorem dX3_init_2_57 : decode cX3_init_2 57 = .ok (.putfield 48, 3) := dk_181 0 48 (dk_at dksX3_init_2_2 11 rfl rfl)
theorem dX3_init_2_60 : decode cX3_init_2 60 = .ok (.aload_n 1, 1) := dk_43 (dk_at dksX3_init_2_2 14 rfl rfl)
theorem dX3_init_2_61 : decode cX3_init_2 61 = .ok (.getfield 9, 3) := dk_180 0 9 (dk_at dksX3_init_2_2 15 rfl rfl)
theorem dX3_init_2_64 : decode cX3_init_2 64 = .ok (.iconst 0, 1) := dk_3 (dk_at dksX3_init_2_2 18 rfl rfl)
theorem dX3_init_2_65 : decode cX3_init_2 65 = .ok (.aload_n 0, 1) := dk_42 (dk_at dksX3_init_2_2 19 rfl rfl)
theorem dX3_init_2_66 : decode cX3_init_2 66 = .ok (.getfield 9, 3) := dk_180 0 9 (dk_at dksX3_init_2_2 20 rfl rfl)
theorem dX3_init_2_69 : decode cX3_init_2 69 = .ok (.iconst 0, 1) := dk_3 (dk_at dksX3_init_2_2 23 rfl rfl)
theorem dX3_init_2_70 : decode cX3_init_2 70 = .ok (.bipush 25, 2) := dk_16 25 (dk_at dksX3_init_2_3 0 rfl rfl)
theorem dX3_init_2_72 : decode cX3_init_2 72 = .ok (.invokestatic 42, 3) := dk_184 0 42 (dk_at dksX3_init_2_3 2 rfl rfl)
theorem dX3_init_2_75 : decode cX3_init_2 75 = .ok (.return_, 1) := dk_177 (dk_at dksX3_init_2_3 5 rfl rfl)
abbrev cX3_blocks : ByteArray := prog_14_method_6_code
def yX3_blocks : MethodName := ⟨RX3, "blocks", "()I"⟩
def dkwX3_blocks_0 : List UInt8 := [42, 180, 0, 48, 190, 172]
abbrev dktX3_blocks_0 : List UInt8 := dkwX3_blocks_0 ++ []
theorem dksX3_blocks_0 : cX3_blocks.data.toList.drop 0 = dktX3_blocks_0 := by decide +kernel
theorem dX3_blocks_0 : decode cX3_blocks 0 = .ok (.aload_n 0, 1) := dk_42 (dk_at dksX3_blocks_0 0 rfl rfl)
theorem dX3_blocks_1 : decode cX3_blocks 1 = .ok (.getfield 48, 3) := dk_180 0 48 (dk_at dksX3_blocks_0 1 rfl rfl)
theorem dX3_blocks_4 : decode cX3_blocks 4 = .ok (.arraylength, 1) := dk_190 (dk_at dksX3_blocks_0 4 rfl rfl)
theorem dX3_blocks_5 : decode cX3_blocks 5 = .ok (.ireturn, 1) := dk_172 (dk_at dksX3_blocks_0 5 rfl rfl)
abbrev cX3_isCell : ByteArray := prog_14_method_7_code
def yX3_isCell : MethodName := ⟨RX3, "isCell", "(I)Z"⟩
def dkwX3_isCell_0 : List UInt8 := [27, 3, 42, 182, 0, 32, 4, 100, 184, 0, 52, 172]
abbrev dktX3_isCell_0 : List UInt8 := dkwX3_isCell_0 ++ []
theorem dksX3_isCell_0 : cX3_isCell.data.toList.drop 0 = dktX3_isCell_0 := by decide +kernel
theorem dX3_isCell_0 : decode cX3_isCell 0 = .ok (.iload_n 1, 1) := dk_27 (dk_at dksX3_isCell_0 0 rfl rfl)
theorem dX3_isCell_1 : decode cX3_isCell 1 = .ok (.iconst 0, 1) := dk_3 (dk_at dksX3_isCell_0 1 rfl rfl)
theorem dX3_isCell_2 : decode cX3_isCell 2 = .ok (.aload_n 0, 1) := dk_42 (dk_at dksX3_isCell_0 2 rfl rfl)
theorem dX3_isCell_3 : decode cX3_isCell 3 = .ok (.invokevirtual 32, 3) := dk_182 0 32 (dk_at dksX3_isCell_0 3 rfl rfl)
theorem dX3_isCell_6 : decode cX3_isCell 6 = .ok (.iconst 1, 1) := dk_4 (dk_at dksX3_isCell_0 6 rfl rfl)
theorem dX3_isCell_7 : decode cX3_isCell 7 = .ok (.isub, 1) := dk_100 (dk_at dksX3_isCell_0 7 rfl rfl)
theorem dX3_isCell_8 : decode cX3_isCell 8 = .ok (.invokestatic 52, 3) := dk_184 0 52 (dk_at dksX3_isCell_0 8 rfl rfl)
theorem dX3_isCell_11 : decode cX3_isCell 11 = .ok (.ireturn, 1) := dk_172 (dk_at dksX3_isCell_0 11 rfl rfl)
abbrev cX3_areNeighbors : ByteArray := prog_14_method_13_code
def yX3_areNeighbors : MethodName := ⟨RX3, "areNeighbors", "(II)Z"⟩
def dkwX3_areNeighbors_1 : List UInt8 := [100, 184, 0, 66, 96, 4, 160, 0, 7, 4, 167, 0, 4, 3, 172]
abbrev dktX3_areNeighbors_1 : List UInt8 := dkwX3_areNeighbors_1 ++ []
def dkwX3_areNeighbors_0 : List UInt8 := [42, 27, 182, 0, 59, 42, 28, 182, 0, 59, 100, 184, 0, 66, 42, 27, 182, 0, 63, 42, 28, 182, 0, 63]
abbrev dktX3_areNeighbors_0 : List UInt8 := dkwX3_areNeighbors_0 ++ dktX3_areNeighbors_1
theorem dksX3_areNeighbors_0 : cX3_areNeighbors.data.toList.drop 0 = dktX3_areNeighbors_0 := by decide +kernel
theorem dksX3_areNeighbors_1 : cX3_areNeighbors.data.toList.drop 24 = dktX3_areNeighbors_1 := dk_seg dksX3_areNeighbors_0 24 rfl rfl
theorem dX3_areNeighbors_0 : decode cX3_areNeighbors 0 = .ok (.aload_n 0, 1) := dk_42 (dk_at dksX3_areNeighbors_0 0 rfl rfl)
theorem dX3_areNeighbors_1 : decode cX3_areNeighbors 1 = .ok (.iload_n 1, 1) := dk_27 (dk_at dksX3_areNeighbors_0 1 rfl rfl)
theorem dX3_areNeighbors_2 : decode cX3_areNeighbors 2 = .ok (.invokevirtual 59, 3) := dk_182 0 59 (dk_at dksX3_areNeighbors_0 2 rfl rfl)
theorem dX3_areNeighbors_5 : decode cX3_areNeighbors 5 = .ok (.aload_n 0, 1) := dk_42 (dk_at dksX3_areNeighbors_0 5 rfl rfl)
theorem dX3_areNeighbors_6 : decode cX3_areNeighbors 6 = .ok (.iload_n 2, 1) := dk_28 (dk_at dksX3_areNeighbors_0 6 rfl rfl)
theorem dX3_areNeighbors_7 : decode cX3_areNeighbors 7 = .ok (.invokevirtual 59, 3) := dk_182 0 59 (dk_at dksX3_areNeighbors_0 7 rfl rfl)
theorem dX3_areNeighbors_10 : decode cX3_areNeighbors 10 = .ok (.isub, 1) := dk_100 (dk_at dksX3_areNeighbors_0 10 rfl rfl)
theorem dX3_areNeighbors_11 : decode cX3_areNeighbors 11 = .ok (.invokestatic 66, 3) := dk_184 0 66 (dk_at dksX3_areNeighbors_0 11 rfl rfl)
theorem dX3_areNeighbors_14 : decode cX3_areNeighbors 14 = .ok (.aload_n 0, 1) := dk_42 (dk_at dksX3_areNeighbors_0 14 rfl rfl)
theorem dX3_areNeighbors_15 : decode cX3_areNeighbors 15 = .ok (.iload_n 1, 1) := dk_27 (dk_at dksX3_areNeighbors_0 15 rfl rfl)
theorem dX3_areNeighbors_16 : decode cX3_areNeighbors 16 = .ok (.invokevirtual 63, 3) := dk_182 0 63 (dk_at dksX3_areNeighbors_0 16 rfl rfl)
theorem dX3_areNeighbors_19 : decode cX3_areNeighbors 19 = .ok (.aload_n 0, 1) := dk_42 (dk_at dksX3_areNeighbors_0 19 rfl rfl)
theorem dX3_areNeighbors_20 : decode cX3_areNeighbors 20 = .ok (.iload_n 2, 1) := dk_28 (dk_at dksX3_areNeighbors_0 20 rfl rfl)
theorem dX3_areNeighbors_21 : decode cX3_areNeighbors 21 = .ok (.invokevirtual 63, 3) := dk_182 0 63 (dk_at dksX3_areNeighbors_0 21 rfl rfl)
theorem dX3_areNeighbors_24 : decode cX3_areNeighbors 24 = .ok (.isub, 1) := dk_100 (dk_at dksX3_areNeighbors_1 0 rfl rfl)
theorem dX3_areNeighbors_25 : decode cX3_areNeighbors 25 = .ok (.invokestatic 66, 3) := dk_184 0 66 (dk_at dksX3_areNeighbors_1 1 rfl rfl)
theorem dX3_areNeighbors_28 : decode cX3_areNeighbors 28 = .ok (.iadd, 1) := dk_96 (dk_at dksX3_areNeighbors_1 4 rfl rfl)
theorem dX3_areNeighbors_29 : decode cX3_areNeighbors 29 = .ok (.iconst 1, 1) := dk_4 (dk_at dksX3_areNeighbors_1 5 rfl rfl)
theorem dX3_areNeighbors_30 : decode cX3_areNeighbors 30 = .ok (.if_icmp .ne 7, 3) := dk_160 0 7 (dk_at dksX3_areNeighbors_1 6 rfl rfl)
theorem dX3_areNeighbors_33 : decode cX3_areNeighbors 33 = .ok (.iconst 1, 1) := dk_4 (dk_at dksX3_areNeighbors_1 9 rfl rfl)
theorem dX3_areNeighbors_34 : decode cX3_areNeighbors 34 = .ok (.goto 4, 3) := dk_167 0 4 (dk_at dksX3_areNeighbors_1 10 rfl rfl)
theorem dX3_areNeighbors_37 : decode cX3_areNeighbors 37 = .ok (.iconst 0, 1) := dk_3 (dk_at dksX3_areNeighbors_1 13 rfl rfl)
theorem dX3_areNeighbors_38 : decode cX3_areNeighbors 38 = .ok (.ireturn, 1) := dk_172 (dk_at dksX3_areNeighbors_1 14 rfl rfl)
abbrev cX3_rowOf : ByteArray := prog_14_method_9_code
def yX3_rowOf : MethodName := ⟨RX3, "rowOf", "(I)I"⟩
def dkwX3_rowOf_0 : List UInt8 := [27, 42, 180, 0, 29, 108, 172]
abbrev dktX3_rowOf_0 : List UInt8 := dkwX3_rowOf_0 ++ []
theorem dksX3_rowOf_0 : cX3_rowOf.data.toList.drop 0 = dktX3_rowOf_0 := by decide +kernel
theorem dX3_rowOf_0 : decode cX3_rowOf 0 = .ok (.iload_n 1, 1) := dk_27 (dk_at dksX3_rowOf_0 0 rfl rfl)
theorem dX3_rowOf_1 : decode cX3_rowOf 1 = .ok (.aload_n 0, 1) := dk_42 (dk_at dksX3_rowOf_0 1 rfl rfl)
theorem dX3_rowOf_2 : decode cX3_rowOf 2 = .ok (.getfield 29, 3) := dk_180 0 29 (dk_at dksX3_rowOf_0 2 rfl rfl)
theorem dX3_rowOf_5 : decode cX3_rowOf 5 = .ok (.idiv, 1) := dk_108 (dk_at dksX3_rowOf_0 5 rfl rfl)
theorem dX3_rowOf_6 : decode cX3_rowOf 6 = .ok (.ireturn, 1) := dk_172 (dk_at dksX3_rowOf_0 6 rfl rfl)
abbrev cX3_columnOf : ByteArray := prog_14_method_10_code
def yX3_columnOf : MethodName := ⟨RX3, "columnOf", "(I)I"⟩
def dkwX3_columnOf_0 : List UInt8 := [27, 42, 180, 0, 29, 112, 172]
abbrev dktX3_columnOf_0 : List UInt8 := dkwX3_columnOf_0 ++ []
theorem dksX3_columnOf_0 : cX3_columnOf.data.toList.drop 0 = dktX3_columnOf_0 := by decide +kernel
theorem dX3_columnOf_0 : decode cX3_columnOf 0 = .ok (.iload_n 1, 1) := dk_27 (dk_at dksX3_columnOf_0 0 rfl rfl)
theorem dX3_columnOf_1 : decode cX3_columnOf 1 = .ok (.aload_n 0, 1) := dk_42 (dk_at dksX3_columnOf_0 1 rfl rfl)
theorem dX3_columnOf_2 : decode cX3_columnOf 2 = .ok (.getfield 29, 3) := dk_180 0 29 (dk_at dksX3_columnOf_0 2 rfl rfl)
theorem dX3_columnOf_5 : decode cX3_columnOf 5 = .ok (.irem, 1) := dk_112 (dk_at dksX3_columnOf_0 5 rfl rfl)
theorem dX3_columnOf_6 : decode cX3_columnOf 6 = .ok (.ireturn, 1) := dk_172 (dk_at dksX3_columnOf_0 6 rfl rfl)
abbrev cX3_isConnected : ByteArray := prog_14_method_18_code
def yX3_isConnected : MethodName := ⟨RX3, "isConnected", "(II)Z"⟩
def dkwX3_isConnected_8 : List UInt8 := [132, 8, 1, 167, 255, 160, 167, 255, 130, 21, 4, 29, 160, 0, 7, 4, 167, 0, 4, 3, 172]
abbrev dktX3_isConnected_8 : List UInt8 := dkwX3_isConnected_8 ++ []
def dkwX3_isConnected_7 : List UInt8 := [182, 0, 108, 153, 0, 10, 4, 21, 13, 120, 167, 0, 4, 3, 128, 54, 4, 132, 12, 1, 167, 255, 196]
abbrev dktX3_isConnected_7 : List UInt8 := dkwX3_isConnected_7 ++ dktX3_isConnected_8
def dkwX3_isConnected_6 : List UInt8 := [21, 9, 184, 0, 104, 153, 0, 30, 29, 21, 13, 184, 0, 104, 153, 0, 21, 42, 21, 9, 21, 13]
abbrev dktX3_isConnected_6 : List UInt8 := dkwX3_isConnected_6 ++ dktX3_isConnected_7
def dkwX3_isConnected_5 : List UInt8 := [190, 54, 11, 3, 54, 12, 21, 12, 21, 11, 162, 0, 59, 25, 10, 21, 12, 46, 54, 13, 21, 4, 21, 5]
abbrev dktX3_isConnected_5 : List UInt8 := dkwX3_isConnected_5 ++ dktX3_isConnected_6
def dkwX3_isConnected_4 : List UInt8 := [21, 8, 21, 7, 162, 0, 95, 25, 6, 21, 8, 46, 54, 9, 42, 180, 0, 48, 27, 50, 58, 10, 25, 10]
abbrev dktX3_isConnected_4 : List UInt8 := dkwX3_isConnected_4 ++ dktX3_isConnected_5
def dkwX3_isConnected_3 : List UInt8 := [159, 0, 125, 21, 4, 54, 5, 42, 180, 0, 48, 27, 50, 58, 6, 25, 6, 190, 54, 7, 3, 54, 8]
abbrev dktX3_isConnected_3 : List UInt8 := dkwX3_isConnected_3 ++ dktX3_isConnected_4
def dkwX3_isConnected_2 : List UInt8 := [120, 128, 62, 132, 6, 1, 167, 255, 222, 29, 29, 116, 126, 54, 4, 3, 54, 5, 21, 4, 21, 5]
abbrev dktX3_isConnected_2 : List UInt8 := dkwX3_isConnected_2 ++ dktX3_isConnected_3
def dkwX3_isConnected_1 : List UInt8 := [162, 0, 33, 25, 4, 21, 6, 46, 54, 7, 29, 21, 7, 28, 160, 0, 7, 3, 167, 0, 7, 4, 21, 7]
abbrev dktX3_isConnected_1 : List UInt8 := dkwX3_isConnected_1 ++ dktX3_isConnected_2
def dkwX3_isConnected_0 : List UInt8 := [3, 62, 42, 180, 0, 48, 27, 50, 58, 4, 25, 4, 190, 54, 5, 3, 54, 6, 21, 6, 21, 5]
abbrev dktX3_isConnected_0 : List UInt8 := dkwX3_isConnected_0 ++ dktX3_isConnected_1
theorem dksX3_isConnected_0 : cX3_isConnected.data.toList.drop 0 = dktX3_isConnected_0 := by decide +kernel
theorem dksX3_isConnected_1 : cX3_isConnected.data.toList.drop 22 = dktX3_isConnected_1 := dk_seg dksX3_isConnected_0 22 rfl rfl
theorem dksX3_isConnected_2 : cX3_isConnected.data.toList.drop 46 = dktX3_isConnected_2 := dk_seg dksX3_isConnected_1 24 rfl rfl
theorem dksX3_isConnected_3 : cX3_isConnected.data.toList.drop 68 = dktX3_isConnected_3 := dk_seg dksX3_isConnected_2 22 rfl rfl
theorem dksX3_isConnected_4 : cX3_isConnected.data.toList.drop 91 = dktX3_isConnected_4 := dk_seg dksX3_isConnected_3 23 rfl rfl
theorem dksX3_isConnected_5 : cX3_isConnected.data.toList.drop 115 = dktX3_isConnected_5 := dk_seg dksX3_isConnected_4 24 rfl rfl
theorem dksX3_isConnected_6 : cX3_isConnected.data.toList.drop 139 = dktX3_isConnected_6 := dk_seg dksX3_isConnected_5 24 rfl rfl
theorem dksX3_isConnected_7 : cX3_isConnected.data.toList.drop 161 = dktX3_isConnected_7 := dk_seg dksX3_isConnected_6 22 rfl rfl
theorem dksX3_isConnected_8 : cX3_isConnected.data.toList.drop 184 = dktX3_isConnected_8 := dk_seg dksX3_isConnected_7 23 rfl rfl
theorem dX3_isConnected_0 : decode cX3_isConnected 0 = .ok (.iconst 0, 1) := dk_3 (dk_at dksX3_isConnected_0 0 rfl rfl)
theorem dX3_isConnected_1 : decode cX3_isConnected 1 = .ok (.istore_n 3, 1) := dk_62 (dk_at dksX3_isConnected_0 1 rfl rfl)
theorem dX3_isConnected_2 : decode cX3_isConnected 2 = .ok (.aload_n 0, 1) := dk_42 (dk_at dksX3_isConnected_0 2 rfl rfl)
theorem dX3_isConnected_3 : decode cX3_isConnected 3 = .ok (.getfield 48, 3) := dk_180 0 48 (dk_at dksX3_isConnected_0 3 rfl rfl)
theorem dX3_isConnected_6 : decode cX3_isConnected 6 = .ok (.iload_n 1, 1) := dk_27 (dk_at dksX3_isConnected_0 6 rfl rfl)
theorem dX3_isConnected_7 : decode cX3_isConnected 7 = .ok (.aaload, 1) := dk_50 (dk_at dksX3_isConnected_0 7 rfl rfl)
theorem dX3_isConnected_8 : decode cX3_isConnected 8 = .ok (.astore 4, 2) := dk_58 4 (dk_at dksX3_isConnected_0 8 rfl rfl)
theorem dX3_isConnected_10 : decode cX3_isConnected 10 = .ok (.aload 4, 2) := dk_25 4 (dk_at dksX3_isConnected_0 10 rfl rfl)
theorem dX3_isConnected_12 : decode cX3_isConnected 12 = .ok (.arraylength, 1) := dk_190 (dk_at dksX3_isConnected_0 12 rfl rfl)
theorem dX3_isConnected_13 : decode cX3_isConnected 13 = .ok (.istore 5, 2) := dk_54 5 (dk_at dksX3_isConnected_0 13 rfl rfl)
theorem dX3_isConnected_15 : decode cX3_isConnected 15 = .ok (.iconst 0, 1) := dk_3 (dk_at dksX3_isConnected_0 15 rfl rfl)
theorem dX3_isConnected_16 : decode cX3_isConnected 16 = .ok (.istore 6, 2) := dk_54 6 (dk_at dksX3_isConnected_0 16 rfl rfl)
theorem dX3_isConnected_18 : decode cX3_isConnected 18 = .ok (.iload 6, 2) := dk_21 6 (dk_at dksX3_isConnected_0 18 rfl rfl)
theorem dX3_isConnected_20 : decode cX3_isConnected 20 = .ok (.iload 5, 2) := dk_21 5 (dk_at dksX3_isConnected_0 20 rfl rfl)
theorem dX3_isConnected_22 : decode cX3_isConnected 22 = .ok (.if_icmp .ge 33, 3) := dk_162 0 33 (dk_at dksX3_isConnected_1 0 rfl rfl)
theorem dX3_isConnected_25 : decode cX3_isConnected 25 = .ok (.aload 4, 2) := dk_25 4 (dk_at dksX3_isConnected_1 3 rfl rfl)
theorem dX3_isConnected_27 : decode cX3_isConnected 27 = .ok (.iload 6, 2) := dk_21 6 (dk_at dksX3_isConnected_1 5 rfl rfl)
theorem dX3_isConnected_29 : decode cX3_isConnected 29 = .ok (.iaload, 1) := dk_46 (dk_at dksX3_isConnected_1 7 rfl rfl)
theorem dX3_isConnected_30 : decode cX3_isConnected 30 = .ok (.istore 7, 2) := dk_54 7 (dk_at dksX3_isConnected_1 8 rfl rfl)
theorem dX3_isConnected_32 : decode cX3_isConnected 32 = .ok (.iload_n 3, 1) := dk_29 (dk_at dksX3_isConnected_1 10 rfl rfl)
theorem dX3_isConnected_33 : decode cX3_isConnected 33 = .ok (.iload 7, 2) := dk_21 7 (dk_at dksX3_isConnected_1 11 rfl rfl)
theorem dX3_isConnected_35 : decode cX3_isConnected 35 = .ok (.iload_n 2, 1) := dk_28 (dk_at dksX3_isConnected_1 13 rfl rfl)
theorem dX3_isConnected_36 : decode cX3_isConnected 36 = .ok (.if_icmp .ne 7, 3) := dk_160 0 7 (dk_at dksX3_isConnected_1 14 rfl rfl)
theorem dX3_isConnected_39 : decode cX3_isConnected 39 = .ok (.iconst 0, 1) := dk_3 (dk_at dksX3_isConnected_1 17 rfl rfl)
theorem dX3_isConnected_40 : decode cX3_isConnected 40 = .ok (.goto 7, 3) := dk_167 0 7 (dk_at dksX3_isConnected_1 18 rfl rfl)
theorem dX3_isConnected_43 : decode cX3_isConnected 43 = .ok (.iconst 1, 1) := dk_4 (dk_at dksX3_isConnected_1 21 rfl rfl)
theorem dX3_isConnected_44 : decode cX3_isConnected 44 = .ok (.iload 7, 2) := dk_21 7 (dk_at dksX3_isConnected_1 22 rfl rfl)
theorem dX3_isConnected_46 : decode cX3_isConnected 46 = .ok (.ishl, 1) := dk_120 (dk_at dksX3_isConnected_2 0 rfl rfl)
theorem dX3_isConnected_47 : decode cX3_isConnected 47 = .ok (.ior, 1) := dk_128 (dk_at dksX3_isConnected_2 1 rfl rfl)
theorem dX3_isConnected_48 : decode cX3_isConnected 48 = .ok (.istore_n 3, 1) := dk_62 (dk_at dksX3_isConnected_2 2 rfl rfl)
theorem dX3_isConnected_49 : decode cX3_isConnected 49 = .ok (.iinc 6 1, 3) := dk_132 6 1 (dk_at dksX3_isConnected_2 3 rfl rfl)
theorem dX3_isConnected_52 : decode cX3_isConnected 52 = .ok (.goto (-34), 3) := dk_167 255 222 (dk_at dksX3_isConnected_2 6 rfl rfl)
theorem dX3_isConnected_55 : decode cX3_isConnected 55 = .ok (.iload_n 3, 1) := dk_29 (dk_at dksX3_isConnected_2 9 rfl rfl)
theorem dX3_isConnected_56 : decode cX3_isConnected 56 = .ok (.iload_n 3, 1) := dk_29 (dk_at dksX3_isConnected_2 10 rfl rfl)
theorem dX3_isConnected_57 : decode cX3_isConnected 57 = .ok (.ineg, 1) := dk_116 (dk_at dksX3_isConnected_2 11 rfl rfl)
theorem dX3_isConnected_58 : decode cX3_isConnected 58 = .ok (.iand, 1) := dk_126 (dk_at dksX3_isConnected_2 12 rfl rfl)
theorem dX3_isConnected_59 : decode cX3_isConnected 59 = .ok (.istore 4, 2) := dk_54 4 (dk_at dksX3_isConnected_2 13 rfl rfl)
theorem dX3_isConnected_61 : decode cX3_isConnected 61 = .ok (.iconst 0, 1) := dk_3 (dk_at dksX3_isConnected_2 15 rfl rfl)
theorem dX3_isConnected_62 : decode cX3_isConnected 62 = .ok (.istore 5, 2) := dk_54 5 (dk_at dksX3_isConnected_2 16 rfl rfl)
theorem dX3_isConnected_64 : decode cX3_isConnected 64 = .ok (.iload 4, 2) := dk_21 4 (dk_at dksX3_isConnected_2 18 rfl rfl)
theorem dX3_isConnected_66 : decode cX3_isConnected 66 = .ok (.iload 5, 2) := dk_21 5 (dk_at dksX3_isConnected_2 20 rfl rfl)
theorem dX3_isConnected_68 : decode cX3_isConnected 68 = .ok (.if_icmp .eq 125, 3) := dk_159 0 125 (dk_at dksX3_isConnected_3 0 rfl rfl)
theorem dX3_isConnected_71 : decode cX3_isConnected 71 = .ok (.iload 4, 2) := dk_21 4 (dk_at dksX3_isConnected_3 3 rfl rfl)
theorem dX3_isConnected_73 : decode cX3_isConnected 73 = .ok (.istore 5, 2) := dk_54 5 (dk_at dksX3_isConnected_3 5 rfl rfl)
theorem dX3_isConnected_75 : decode cX3_isConnected 75 = .ok (.aload_n 0, 1) := dk_42 (dk_at dksX3_isConnected_3 7 rfl rfl)
theorem dX3_isConnected_76 : decode cX3_isConnected 76 = .ok (.getfield 48, 3) := dk_180 0 48 (dk_at dksX3_isConnected_3 8 rfl rfl)
theorem dX3_isConnected_79 : decode cX3_isConnected 79 = .ok (.iload_n 1, 1) := dk_27 (dk_at dksX3_isConnected_3 11 rfl rfl)
theorem dX3_isConnected_80 : decode cX3_isConnected 80 = .ok (.aaload, 1) := dk_50 (dk_at dksX3_isConnected_3 12 rfl rfl)
theorem dX3_isConnected_81 : decode cX3_isConnected 81 = .ok (.astore 6, 2) := dk_58 6 (dk_at dksX3_isConnected_3 13 rfl rfl)
theorem dX3_isConnected_83 : decode cX3_isConnected 83 = .ok (.aload 6, 2) := dk_25 6 (dk_at dksX3_isConnected_3 15 rfl rfl)
theorem dX3_isConnected_85 : decode cX3_isConnected 85 = .ok (.arraylength, 1) := dk_190 (dk_at dksX3_isConnected_3 17 rfl rfl)
theorem dX3_isConnected_86 : decode cX3_isConnected 86 = .ok (.istore 7, 2) := dk_54 7 (dk_at dksX3_isConnected_3 18 rfl rfl)
theorem dX3_isConnected_88 : decode cX3_isConnected 88 = .ok (.iconst 0, 1) := dk_3 (dk_at dksX3_isConnected_3 20 rfl rfl)
theorem dX3_isConnected_89 : decode cX3_isConnected 89 = .ok (.istore 8, 2) := dk_54 8 (dk_at dksX3_isConnected_3 21 rfl rfl)
theorem dX3_isConnected_91 : decode cX3_isConnected 91 = .ok (.iload 8, 2) := dk_21 8 (dk_at dksX3_isConnected_4 0 rfl rfl)
theorem dX3_isConnected_93 : decode cX3_isConnected 93 = .ok (.iload 7, 2) := dk_21 7 (dk_at dksX3_isConnected_4 2 rfl rfl)
theorem dX3_isConnected_95 : decode cX3_isConnected 95 = .ok (.if_icmp .ge 95, 3) := dk_162 0 95 (dk_at dksX3_isConnected_4 4 rfl rfl)
theorem dX3_isConnected_98 : decode cX3_isConnected 98 = .ok (.aload 6, 2) := dk_25 6 (dk_at dksX3_isConnected_4 7 rfl rfl)
theorem dX3_isConnected_100 : decode cX3_isConnected 100 = .ok (.iload 8, 2) := dk_21 8 (dk_at dksX3_isConnected_4 9 rfl rfl)
theorem dX3_isConnected_102 : decode cX3_isConnected 102 = .ok (.iaload, 1) := dk_46 (dk_at dksX3_isConnected_4 11 rfl rfl)
theorem dX3_isConnected_103 : decode cX3_isConnected 103 = .ok (.istore 9, 2) := dk_54 9 (dk_at dksX3_isConnected_4 12 rfl rfl)
theorem dX3_isConnected_105 : decode cX3_isConnected 105 = .ok (.aload_n 0, 1) := dk_42 (dk_at dksX3_isConnected_4 14 rfl rfl)
theorem dX3_isConnected_106 : decode cX3_isConnected 106 = .ok (.getfield 48, 3) := dk_180 0 48 (dk_at dksX3_isConnected_4 15 rfl rfl)
theorem dX3_isConnected_109 : decode cX3_isConnected 109 = .ok (.iload_n 1, 1) := dk_27 (dk_at dksX3_isConnected_4 18 rfl rfl)
theorem dX3_isConnected_110 : decode cX3_isConnected 110 = .ok (.aaload, 1) := dk_50 (dk_at dksX3_isConnected_4 19 rfl rfl)
theorem dX3_isConnected_111 : decode cX3_isConnected 111 = .ok (.astore 10, 2) := dk_58 10 (dk_at dksX3_isConnected_4 20 rfl rfl)
theorem dX3_isConnected_113 : decode cX3_isConnected 113 = .ok (.aload 10, 2) := dk_25 10 (dk_at dksX3_isConnected_4 22 rfl rfl)
theorem dX3_isConnected_115 : decode cX3_isConnected 115 = .ok (.arraylength, 1) := dk_190 (dk_at dksX3_isConnected_5 0 rfl rfl)
theorem dX3_isConnected_116 : decode cX3_isConnected 116 = .ok (.istore 11, 2) := dk_54 11 (dk_at dksX3_isConnected_5 1 rfl rfl)
theorem dX3_isConnected_118 : decode cX3_isConnected 118 = .ok (.iconst 0, 1) := dk_3 (dk_at dksX3_isConnected_5 3 rfl rfl)
theorem dX3_isConnected_119 : decode cX3_isConnected 119 = .ok (.istore 12, 2) := dk_54 12 (dk_at dksX3_isConnected_5 4 rfl rfl)
theorem dX3_isConnected_121 : decode cX3_isConnected 121 = .ok (.iload 12, 2) := dk_21 12 (dk_at dksX3_isConnected_5 6 rfl rfl)
theorem dX3_isConnected_123 : decode cX3_isConnected 123 = .ok (.iload 11, 2) := dk_21 11 (dk_at dksX3_isConnected_5 8 rfl rfl)
theorem dX3_isConnected_125 : decode cX3_isConnected 125 = .ok (.if_icmp .ge 59, 3) := dk_162 0 59 (dk_at dksX3_isConnected_5 10 rfl rfl)
theorem dX3_isConnected_128 : decode cX3_isConnected 128 = .ok (.aload 10, 2) := dk_25 10 (dk_at dksX3_isConnected_5 13 rfl rfl)
theorem dX3_isConnected_130 : decode cX3_isConnected 130 = .ok (.iload 12, 2) := dk_21 12 (dk_at dksX3_isConnected_5 15 rfl rfl)
theorem dX3_isConnected_132 : decode cX3_isConnected 132 = .ok (.iaload, 1) := dk_46 (dk_at dksX3_isConnected_5 17 rfl rfl)
theorem dX3_isConnected_133 : decode cX3_isConnected 133 = .ok (.istore 13, 2) := dk_54 13 (dk_at dksX3_isConnected_5 18 rfl rfl)
theorem dX3_isConnected_135 : decode cX3_isConnected 135 = .ok (.iload 4, 2) := dk_21 4 (dk_at dksX3_isConnected_5 20 rfl rfl)
theorem dX3_isConnected_137 : decode cX3_isConnected 137 = .ok (.iload 5, 2) := dk_21 5 (dk_at dksX3_isConnected_5 22 rfl rfl)
theorem dX3_isConnected_139 : decode cX3_isConnected 139 = .ok (.iload 9, 2) := dk_21 9 (dk_at dksX3_isConnected_6 0 rfl rfl)
theorem dX3_isConnected_141 : decode cX3_isConnected 141 = .ok (.invokestatic 104, 3) := dk_184 0 104 (dk_at dksX3_isConnected_6 2 rfl rfl)
theorem dX3_isConnected_144 : decode cX3_isConnected 144 = .ok (.ifCond .eq 30, 3) := dk_153 0 30 (dk_at dksX3_isConnected_6 5 rfl rfl)
theorem dX3_isConnected_147 : decode cX3_isConnected 147 = .ok (.iload_n 3, 1) := dk_29 (dk_at dksX3_isConnected_6 8 rfl rfl)
theorem dX3_isConnected_148 : decode cX3_isConnected 148 = .ok (.iload 13, 2) := dk_21 13 (dk_at dksX3_isConnected_6 9 rfl rfl)
theorem dX3_isConnected_150 : decode cX3_isConnected 150 = .ok (.invokestatic 104, 3) := dk_184 0 104 (dk_at dksX3_isConnected_6 11 rfl rfl)
theorem dX3_isConnected_153 : decode cX3_isConnected 153 = .ok (.ifCond .eq 21, 3) := dk_153 0 21 (dk_at dksX3_isConnected_6 14 rfl rfl)
theorem dX3_isConnected_156 : decode cX3_isConnected 156 = .ok (.aload_n 0, 1) := dk_42 (dk_at dksX3_isConnected_6 17 rfl rfl)
theorem dX3_isConnected_157 : decode cX3_isConnected 157 = .ok (.iload 9, 2) := dk_21 9 (dk_at dksX3_isConnected_6 18 rfl rfl)
theorem dX3_isConnected_159 : decode cX3_isConnected 159 = .ok (.iload 13, 2) := dk_21 13 (dk_at dksX3_isConnected_6 20 rfl rfl)
theorem dX3_isConnected_161 : decode cX3_isConnected 161 = .ok (.invokevirtual 108, 3) := dk_182 0 108 (dk_at dksX3_isConnected_7 0 rfl rfl)
theorem dX3_isConnected_164 : decode cX3_isConnected 164 = .ok (.ifCond .eq 10, 3) := dk_153 0 10 (dk_at dksX3_isConnected_7 3 rfl rfl)
theorem dX3_isConnected_167 : decode cX3_isConnected 167 = .ok (.iconst 1, 1) := dk_4 (dk_at dksX3_isConnected_7 6 rfl rfl)
theorem dX3_isConnected_168 : decode cX3_isConnected 168 = .ok (.iload 13, 2) := dk_21 13 (dk_at dksX3_isConnected_7 7 rfl rfl)
theorem dX3_isConnected_170 : decode cX3_isConnected 170 = .ok (.ishl, 1) := dk_120 (dk_at dksX3_isConnected_7 9 rfl rfl)
theorem dX3_isConnected_171 : decode cX3_isConnected 171 = .ok (.goto 4, 3) := dk_167 0 4 (dk_at dksX3_isConnected_7 10 rfl rfl)
theorem dX3_isConnected_174 : decode cX3_isConnected 174 = .ok (.iconst 0, 1) := dk_3 (dk_at dksX3_isConnected_7 13 rfl rfl)
theorem dX3_isConnected_175 : decode cX3_isConnected 175 = .ok (.ior, 1) := dk_128 (dk_at dksX3_isConnected_7 14 rfl rfl)
theorem dX3_isConnected_176 : decode cX3_isConnected 176 = .ok (.istore 4, 2) := dk_54 4 (dk_at dksX3_isConnected_7 15 rfl rfl)
theorem dX3_isConnected_178 : decode cX3_isConnected 178 = .ok (.iinc 12 1, 3) := dk_132 12 1 (dk_at dksX3_isConnected_7 17 rfl rfl)
theorem dX3_isConnected_181 : decode cX3_isConnected 181 = .ok (.goto (-60), 3) := dk_167 255 196 (dk_at dksX3_isConnected_7 20 rfl rfl)
theorem dX3_isConnected_184 : decode cX3_isConnected 184 = .ok (.iinc 8 1, 3) := dk_132 8 1 (dk_at dksX3_isConnected_8 0 rfl rfl)
theorem dX3_isConnected_187 : decode cX3_isConnected 187 = .ok (.goto (-96), 3) := dk_167 255 160 (dk_at dksX3_isConnected_8 3 rfl rfl)
theorem dX3_isConnected_190 : decode cX3_isConnected 190 = .ok (.goto (-126), 3) := dk_167 255 130 (dk_at dksX3_isConnected_8 6 rfl rfl)
theorem dX3_isConnected_193 : decode cX3_isConnected 193 = .ok (.iload 4, 2) := dk_21 4 (dk_at dksX3_isConnected_8 9 rfl rfl)
theorem dX3_isConnected_195 : decode cX3_isConnected 195 = .ok (.iload_n 3, 1) := dk_29 (dk_at dksX3_isConnected_8 11 rfl rfl)
theorem dX3_isConnected_196 : decode cX3_isConnected 196 = .ok (.if_icmp .ne 7, 3) := dk_160 0 7 (dk_at dksX3_isConnected_8 12 rfl rfl)
theorem dX3_isConnected_199 : decode cX3_isConnected 199 = .ok (.iconst 1, 1) := dk_4 (dk_at dksX3_isConnected_8 15 rfl rfl)
theorem dX3_isConnected_200 : decode cX3_isConnected 200 = .ok (.goto 4, 3) := dk_167 0 4 (dk_at dksX3_isConnected_8 16 rfl rfl)
theorem dX3_isConnected_203 : decode cX3_isConnected 203 = .ok (.iconst 0, 1) := dk_3 (dk_at dksX3_isConnected_8 19 rfl rfl)
theorem dX3_isConnected_204 : decode cX3_isConnected 204 = .ok (.ireturn, 1) := dk_172 (dk_at dksX3_isConnected_8 20 rfl rfl)
abbrev cX3_clear : ByteArray := prog_14_method_22_code
def yX3_clear : MethodName := ⟨RX3, "clear", "(I)V"⟩
def dkwX3_clear_1 : List UInt8 := [54, 5, 42, 21, 5, 3, 182, 0, 120, 132, 4, 1, 167, 255, 234, 177]
abbrev dktX3_clear_1 : List UInt8 := dkwX3_clear_1 ++ []
def dkwX3_clear_0 : List UInt8 := [42, 180, 0, 48, 27, 50, 77, 44, 190, 62, 3, 54, 4, 21, 4, 29, 162, 0, 22, 44, 21, 4, 46]
abbrev dktX3_clear_0 : List UInt8 := dkwX3_clear_0 ++ dktX3_clear_1
theorem dksX3_clear_0 : cX3_clear.data.toList.drop 0 = dktX3_clear_0 := by decide +kernel
theorem dksX3_clear_1 : cX3_clear.data.toList.drop 23 = dktX3_clear_1 := dk_seg dksX3_clear_0 23 rfl rfl
theorem dX3_clear_0 : decode cX3_clear 0 = .ok (.aload_n 0, 1) := dk_42 (dk_at dksX3_clear_0 0 rfl rfl)
theorem dX3_clear_1 : decode cX3_clear 1 = .ok (.getfield 48, 3) := dk_180 0 48 (dk_at dksX3_clear_0 1 rfl rfl)
theorem dX3_clear_4 : decode cX3_clear 4 = .ok (.iload_n 1, 1) := dk_27 (dk_at dksX3_clear_0 4 rfl rfl)
theorem dX3_clear_5 : decode cX3_clear 5 = .ok (.aaload, 1) := dk_50 (dk_at dksX3_clear_0 5 rfl rfl)
theorem dX3_clear_6 : decode cX3_clear 6 = .ok (.astore_n 2, 1) := dk_77 (dk_at dksX3_clear_0 6 rfl rfl)
theorem dX3_clear_7 : decode cX3_clear 7 = .ok (.aload_n 2, 1) := dk_44 (dk_at dksX3_clear_0 7 rfl rfl)
theorem dX3_clear_8 : decode cX3_clear 8 = .ok (.arraylength, 1) := dk_190 (dk_at dksX3_clear_0 8 rfl rfl)
theorem dX3_clear_9 : decode cX3_clear 9 = .ok (.istore_n 3, 1) := dk_62 (dk_at dksX3_clear_0 9 rfl rfl)
theorem dX3_clear_10 : decode cX3_clear 10 = .ok (.iconst 0, 1) := dk_3 (dk_at dksX3_clear_0 10 rfl rfl)
theorem dX3_clear_11 : decode cX3_clear 11 = .ok (.istore 4, 2) := dk_54 4 (dk_at dksX3_clear_0 11 rfl rfl)
theorem dX3_clear_13 : decode cX3_clear 13 = .ok (.iload 4, 2) := dk_21 4 (dk_at dksX3_clear_0 13 rfl rfl)
theorem dX3_clear_15 : decode cX3_clear 15 = .ok (.iload_n 3, 1) := dk_29 (dk_at dksX3_clear_0 15 rfl rfl)
theorem dX3_clear_16 : decode cX3_clear 16 = .ok (.if_icmp .ge 22, 3) := dk_162 0 22 (dk_at dksX3_clear_0 16 rfl rfl)
theorem dX3_clear_19 : decode cX3_clear 19 = .ok (.aload_n 2, 1) := dk_44 (dk_at dksX3_clear_0 19 rfl rfl)
theorem dX3_clear_20 : decode cX3_clear 20 = .ok (.iload 4, 2) := dk_21 4 (dk_at dksX3_clear_0 20 rfl rfl)
theorem dX3_clear_22 : decode cX3_clear 22 = .ok (.iaload, 1) := dk_46 (dk_at dksX3_clear_0 22 rfl rfl)
theorem dX3_clear_23 : decode cX3_clear 23 = .ok (.istore 5, 2) := dk_54 5 (dk_at dksX3_clear_1 0 rfl rfl)
theorem dX3_clear_25 : decode cX3_clear 25 = .ok (.aload_n 0, 1) := dk_42 (dk_at dksX3_clear_1 2 rfl rfl)
theorem dX3_clear_26 : decode cX3_clear 26 = .ok (.iload 5, 2) := dk_21 5 (dk_at dksX3_clear_1 3 rfl rfl)
theorem dX3_clear_28 : decode cX3_clear 28 = .ok (.iconst 0, 1) := dk_3 (dk_at dksX3_clear_1 5 rfl rfl)
theorem dX3_clear_29 : decode cX3_clear 29 = .ok (.invokevirtual 120, 3) := dk_182 0 120 (dk_at dksX3_clear_1 6 rfl rfl)
theorem dX3_clear_32 : decode cX3_clear 32 = .ok (.iinc 4 1, 3) := dk_132 4 1 (dk_at dksX3_clear_1 9 rfl rfl)
theorem dX3_clear_35 : decode cX3_clear 35 = .ok (.goto (-22), 3) := dk_167 255 234 (dk_at dksX3_clear_1 12 rfl rfl)
theorem dX3_clear_38 : decode cX3_clear 38 = .ok (.return_, 1) := dk_177 (dk_at dksX3_clear_1 15 rfl rfl)
abbrev cX3_write : ByteArray := prog_14_method_21_code
def yX3_write : MethodName := ⟨RX3, "write", "(II)V"⟩
def dkwX3_write_1 : List UInt8 := [4, 182, 0, 116, 3, 84, 42, 180, 0, 22, 42, 27, 3, 182, 0, 116, 3, 84, 177]
abbrev dktX3_write_1 : List UInt8 := dkwX3_write_1 ++ []
def dkwX3_write_0 : List UInt8 := [42, 180, 0, 15, 27, 28, 79, 28, 154, 0, 34, 42, 180, 0, 18, 27, 3, 84, 42, 180, 0, 22, 42, 27]
abbrev dktX3_write_0 : List UInt8 := dkwX3_write_0 ++ dktX3_write_1
theorem dksX3_write_0 : cX3_write.data.toList.drop 0 = dktX3_write_0 := by decide +kernel
theorem dksX3_write_1 : cX3_write.data.toList.drop 24 = dktX3_write_1 := dk_seg dksX3_write_0 24 rfl rfl
theorem dX3_write_0 : decode cX3_write 0 = .ok (.aload_n 0, 1) := dk_42 (dk_at dksX3_write_0 0 rfl rfl)
theorem dX3_write_1 : decode cX3_write 1 = .ok (.getfield 15, 3) := dk_180 0 15 (dk_at dksX3_write_0 1 rfl rfl)
theorem dX3_write_4 : decode cX3_write 4 = .ok (.iload_n 1, 1) := dk_27 (dk_at dksX3_write_0 4 rfl rfl)
theorem dX3_write_5 : decode cX3_write 5 = .ok (.iload_n 2, 1) := dk_28 (dk_at dksX3_write_0 5 rfl rfl)
theorem dX3_write_6 : decode cX3_write 6 = .ok (.iastore, 1) := dk_79 (dk_at dksX3_write_0 6 rfl rfl)
theorem dX3_write_7 : decode cX3_write 7 = .ok (.iload_n 2, 1) := dk_28 (dk_at dksX3_write_0 7 rfl rfl)
theorem dX3_write_8 : decode cX3_write 8 = .ok (.ifCond .ne 34, 3) := dk_154 0 34 (dk_at dksX3_write_0 8 rfl rfl)
theorem dX3_write_11 : decode cX3_write 11 = .ok (.aload_n 0, 1) := dk_42 (dk_at dksX3_write_0 11 rfl rfl)
theorem dX3_write_12 : decode cX3_write 12 = .ok (.getfield 18, 3) := dk_180 0 18 (dk_at dksX3_write_0 12 rfl rfl)
theorem dX3_write_15 : decode cX3_write 15 = .ok (.iload_n 1, 1) := dk_27 (dk_at dksX3_write_0 15 rfl rfl)
theorem dX3_write_16 : decode cX3_write 16 = .ok (.iconst 0, 1) := dk_3 (dk_at dksX3_write_0 16 rfl rfl)
theorem dX3_write_17 : decode cX3_write 17 = .ok (.bastore, 1) := dk_84 (dk_at dksX3_write_0 17 rfl rfl)
theorem dX3_write_18 : decode cX3_write 18 = .ok (.aload_n 0, 1) := dk_42 (dk_at dksX3_write_0 18 rfl rfl)
theorem dX3_write_19 : decode cX3_write 19 = .ok (.getfield 22, 3) := dk_180 0 22 (dk_at dksX3_write_0 19 rfl rfl)
theorem dX3_write_22 : decode cX3_write 22 = .ok (.aload_n 0, 1) := dk_42 (dk_at dksX3_write_0 22 rfl rfl)
theorem dX3_write_23 : decode cX3_write 23 = .ok (.iload_n 1, 1) := dk_27 (dk_at dksX3_write_0 23 rfl rfl)
theorem dX3_write_24 : decode cX3_write 24 = .ok (.iconst 1, 1) := dk_4 (dk_at dksX3_write_1 0 rfl rfl)
theorem dX3_write_25 : decode cX3_write 25 = .ok (.invokevirtual 116, 3) := dk_182 0 116 (dk_at dksX3_write_1 1 rfl rfl)
theorem dX3_write_28 : decode cX3_write 28 = .ok (.iconst 0, 1) := dk_3 (dk_at dksX3_write_1 4 rfl rfl)
theorem dX3_write_29 : decode cX3_write 29 = .ok (.bastore, 1) := dk_84 (dk_at dksX3_write_1 5 rfl rfl)
theorem dX3_write_30 : decode cX3_write 30 = .ok (.aload_n 0, 1) := dk_42 (dk_at dksX3_write_1 6 rfl rfl)
theorem dX3_write_31 : decode cX3_write 31 = .ok (.getfield 22, 3) := dk_180 0 22 (dk_at dksX3_write_1 7 rfl rfl)
theorem dX3_write_34 : decode cX3_write 34 = .ok (.aload_n 0, 1) := dk_42 (dk_at dksX3_write_1 10 rfl rfl)
theorem dX3_write_35 : decode cX3_write 35 = .ok (.iload_n 1, 1) := dk_27 (dk_at dksX3_write_1 11 rfl rfl)
theorem dX3_write_36 : decode cX3_write 36 = .ok (.iconst 0, 1) := dk_3 (dk_at dksX3_write_1 12 rfl rfl)
theorem dX3_write_37 : decode cX3_write 37 = .ok (.invokevirtual 116, 3) := dk_182 0 116 (dk_at dksX3_write_1 13 rfl rfl)
theorem dX3_write_40 : decode cX3_write 40 = .ok (.iconst 0, 1) := dk_3 (dk_at dksX3_write_1 16 rfl rfl)
theorem dX3_write_41 : decode cX3_write 41 = .ok (.bastore, 1) := dk_84 (dk_at dksX3_write_1 17 rfl rfl)
theorem dX3_write_42 : decode cX3_write 42 = .ok (.return_, 1) := dk_177 (dk_at dksX3_write_1 18 rfl rfl)
abbrev cX3_lineOf : ByteArray := prog_14_method_11_code
def yX3_lineOf : MethodName := ⟨RX3, "lineOf", "(IZ)I"⟩
def dkwX3_lineOf_0 : List UInt8 := [28, 153, 0, 11, 42, 27, 182, 0, 59, 167, 0, 13, 42, 180, 0, 25, 42, 27, 182, 0, 63, 96, 172]
abbrev dktX3_lineOf_0 : List UInt8 := dkwX3_lineOf_0 ++ []
theorem dksX3_lineOf_0 : cX3_lineOf.data.toList.drop 0 = dktX3_lineOf_0 := by decide +kernel
theorem dX3_lineOf_0 : decode cX3_lineOf 0 = .ok (.iload_n 2, 1) := dk_28 (dk_at dksX3_lineOf_0 0 rfl rfl)
theorem dX3_lineOf_1 : decode cX3_lineOf 1 = .ok (.ifCond .eq 11, 3) := dk_153 0 11 (dk_at dksX3_lineOf_0 1 rfl rfl)
theorem dX3_lineOf_4 : decode cX3_lineOf 4 = .ok (.aload_n 0, 1) := dk_42 (dk_at dksX3_lineOf_0 4 rfl rfl)
theorem dX3_lineOf_5 : decode cX3_lineOf 5 = .ok (.iload_n 1, 1) := dk_27 (dk_at dksX3_lineOf_0 5 rfl rfl)
theorem dX3_lineOf_6 : decode cX3_lineOf 6 = .ok (.invokevirtual 59, 3) := dk_182 0 59 (dk_at dksX3_lineOf_0 6 rfl rfl)
theorem dX3_lineOf_9 : decode cX3_lineOf 9 = .ok (.goto 13, 3) := dk_167 0 13 (dk_at dksX3_lineOf_0 9 rfl rfl)
theorem dX3_lineOf_12 : decode cX3_lineOf 12 = .ok (.aload_n 0, 1) := dk_42 (dk_at dksX3_lineOf_0 12 rfl rfl)
theorem dX3_lineOf_13 : decode cX3_lineOf 13 = .ok (.getfield 25, 3) := dk_180 0 25 (dk_at dksX3_lineOf_0 13 rfl rfl)
theorem dX3_lineOf_16 : decode cX3_lineOf 16 = .ok (.aload_n 0, 1) := dk_42 (dk_at dksX3_lineOf_0 16 rfl rfl)
theorem dX3_lineOf_17 : decode cX3_lineOf 17 = .ok (.iload_n 1, 1) := dk_27 (dk_at dksX3_lineOf_0 17 rfl rfl)
theorem dX3_lineOf_18 : decode cX3_lineOf 18 = .ok (.invokevirtual 63, 3) := dk_182 0 63 (dk_at dksX3_lineOf_0 18 rfl rfl)
theorem dX3_lineOf_21 : decode cX3_lineOf 21 = .ok (.iadd, 1) := dk_96 (dk_at dksX3_lineOf_0 21 rfl rfl)
theorem dX3_lineOf_22 : decode cX3_lineOf 22 = .ok (.ireturn, 1) := dk_172 (dk_at dksX3_lineOf_0 22 rfl rfl)
abbrev cX3_mirrored : ByteArray := prog_14_method_35_code
def yX3_mirrored : MethodName := ⟨RX3, "mirrored", "()LEdgeSums$Page;"⟩
def dkwX3_mirrored_5 : List UInt8 := [42, 180, 0, 29, 96, 4, 100, 28, 100, 51, 84, 132, 2, 1, 167, 255, 216, 43, 182, 0, 36, 43, 176]
abbrev dktX3_mirrored_5 : List UInt8 := dkwX3_mirrored_5 ++ []
def dkwX3_mirrored_4 : List UInt8 := [180, 0, 29, 162, 0, 38, 43, 180, 0, 22, 42, 180, 0, 25, 28, 96, 42, 180, 0, 22, 42, 180, 0, 25]
abbrev dktX3_mirrored_4 : List UInt8 := dkwX3_mirrored_4 ++ dktX3_mirrored_5
def dkwX3_mirrored_3 : List UInt8 := [43, 180, 0, 22, 28, 42, 180, 0, 22, 28, 51, 84, 132, 2, 1, 167, 255, 233, 3, 61, 28, 42]
abbrev dktX3_mirrored_3 : List UInt8 := dkwX3_mirrored_3 ++ dktX3_mirrored_4
def dkwX3_mirrored_2 : List UInt8 := [28, 182, 0, 63, 100, 182, 0, 145, 132, 2, 1, 167, 255, 216, 3, 61, 28, 42, 180, 0, 25, 162, 0, 21]
abbrev dktX3_mirrored_2 : List UInt8 := dkwX3_mirrored_2 ++ dktX3_mirrored_3
def dkwX3_mirrored_1 : List UInt8 := [162, 0, 38, 43, 28, 42, 42, 180, 0, 29, 42, 28, 182, 0, 59, 104, 42, 180, 0, 29, 96, 4, 100, 42]
abbrev dktX3_mirrored_1 : List UInt8 := dkwX3_mirrored_1 ++ dktX3_mirrored_2
def dkwX3_mirrored_0 : List UInt8 := [187, 0, 10, 89, 42, 180, 0, 25, 42, 180, 0, 29, 183, 0, 143, 76, 3, 61, 28, 42, 182, 0, 32]
abbrev dktX3_mirrored_0 : List UInt8 := dkwX3_mirrored_0 ++ dktX3_mirrored_1
theorem dksX3_mirrored_0 : cX3_mirrored.data.toList.drop 0 = dktX3_mirrored_0 := by decide +kernel
theorem dksX3_mirrored_1 : cX3_mirrored.data.toList.drop 23 = dktX3_mirrored_1 := dk_seg dksX3_mirrored_0 23 rfl rfl
theorem dksX3_mirrored_2 : cX3_mirrored.data.toList.drop 47 = dktX3_mirrored_2 := dk_seg dksX3_mirrored_1 24 rfl rfl
theorem dksX3_mirrored_3 : cX3_mirrored.data.toList.drop 71 = dktX3_mirrored_3 := dk_seg dksX3_mirrored_2 24 rfl rfl
theorem dksX3_mirrored_4 : cX3_mirrored.data.toList.drop 93 = dktX3_mirrored_4 := dk_seg dksX3_mirrored_3 22 rfl rfl
theorem dksX3_mirrored_5 : cX3_mirrored.data.toList.drop 117 = dktX3_mirrored_5 := dk_seg dksX3_mirrored_4 24 rfl rfl
theorem dX3_mirrored_0 : decode cX3_mirrored 0 = .ok (.new 10, 3) := dk_187 0 10 (dk_at dksX3_mirrored_0 0 rfl rfl)
theorem dX3_mirrored_3 : decode cX3_mirrored 3 = .ok (.dup, 1) := dk_89 (dk_at dksX3_mirrored_0 3 rfl rfl)
theorem dX3_mirrored_4 : decode cX3_mirrored 4 = .ok (.aload_n 0, 1) := dk_42 (dk_at dksX3_mirrored_0 4 rfl rfl)
theorem dX3_mirrored_5 : decode cX3_mirrored 5 = .ok (.getfield 25, 3) := dk_180 0 25 (dk_at dksX3_mirrored_0 5 rfl rfl)
theorem dX3_mirrored_8 : decode cX3_mirrored 8 = .ok (.aload_n 0, 1) := dk_42 (dk_at dksX3_mirrored_0 8 rfl rfl)
theorem dX3_mirrored_9 : decode cX3_mirrored 9 = .ok (.getfield 29, 3) := dk_180 0 29 (dk_at dksX3_mirrored_0 9 rfl rfl)
theorem dX3_mirrored_12 : decode cX3_mirrored 12 = .ok (.invokespecial 143, 3) := dk_183 0 143 (dk_at dksX3_mirrored_0 12 rfl rfl)
theorem dX3_mirrored_15 : decode cX3_mirrored 15 = .ok (.astore_n 1, 1) := dk_76 (dk_at dksX3_mirrored_0 15 rfl rfl)
theorem dX3_mirrored_16 : decode cX3_mirrored 16 = .ok (.iconst 0, 1) := dk_3 (dk_at dksX3_mirrored_0 16 rfl rfl)
theorem dX3_mirrored_17 : decode cX3_mirrored 17 = .ok (.istore_n 2, 1) := dk_61 (dk_at dksX3_mirrored_0 17 rfl rfl)
theorem dX3_mirrored_18 : decode cX3_mirrored 18 = .ok (.iload_n 2, 1) := dk_28 (dk_at dksX3_mirrored_0 18 rfl rfl)
theorem dX3_mirrored_19 : decode cX3_mirrored 19 = .ok (.aload_n 0, 1) := dk_42 (dk_at dksX3_mirrored_0 19 rfl rfl)
theorem dX3_mirrored_20 : decode cX3_mirrored 20 = .ok (.invokevirtual 32, 3) := dk_182 0 32 (dk_at dksX3_mirrored_0 20 rfl rfl)
theorem dX3_mirrored_23 : decode cX3_mirrored 23 = .ok (.if_icmp .ge 38, 3) := dk_162 0 38 (dk_at dksX3_mirrored_1 0 rfl rfl)
theorem dX3_mirrored_26 : decode cX3_mirrored 26 = .ok (.aload_n 1, 1) := dk_43 (dk_at dksX3_mirrored_1 3 rfl rfl)
theorem dX3_mirrored_27 : decode cX3_mirrored 27 = .ok (.iload_n 2, 1) := dk_28 (dk_at dksX3_mirrored_1 4 rfl rfl)
theorem dX3_mirrored_28 : decode cX3_mirrored 28 = .ok (.aload_n 0, 1) := dk_42 (dk_at dksX3_mirrored_1 5 rfl rfl)
theorem dX3_mirrored_29 : decode cX3_mirrored 29 = .ok (.aload_n 0, 1) := dk_42 (dk_at dksX3_mirrored_1 6 rfl rfl)
theorem dX3_mirrored_30 : decode cX3_mirrored 30 = .ok (.getfield 29, 3) := dk_180 0 29 (dk_at dksX3_mirrored_1 7 rfl rfl)
theorem dX3_mirrored_33 : decode cX3_mirrored 33 = .ok (.aload_n 0, 1) := dk_42 (dk_at dksX3_mirrored_1 10 rfl rfl)
theorem dX3_mirrored_34 : decode cX3_mirrored 34 = .ok (.iload_n 2, 1) := dk_28 (dk_at dksX3_mirrored_1 11 rfl rfl)
theorem dX3_mirrored_35 : decode cX3_mirrored 35 = .ok (.invokevirtual 59, 3) := dk_182 0 59 (dk_at dksX3_mirrored_1 12 rfl rfl)
theorem dX3_mirrored_38 : decode cX3_mirrored 38 = .ok (.imul, 1) := dk_104 (dk_at dksX3_mirrored_1 15 rfl rfl)
theorem dX3_mirrored_39 : decode cX3_mirrored 39 = .ok (.aload_n 0, 1) := dk_42 (dk_at dksX3_mirrored_1 16 rfl rfl)
theorem dX3_mirrored_40 : decode cX3_mirrored 40 = .ok (.getfield 29, 3) := dk_180 0 29 (dk_at dksX3_mirrored_1 17 rfl rfl)
theorem dX3_mirrored_43 : decode cX3_mirrored 43 = .ok (.iadd, 1) := dk_96 (dk_at dksX3_mirrored_1 20 rfl rfl)
theorem dX3_mirrored_44 : decode cX3_mirrored 44 = .ok (.iconst 1, 1) := dk_4 (dk_at dksX3_mirrored_1 21 rfl rfl)
theorem dX3_mirrored_45 : decode cX3_mirrored 45 = .ok (.isub, 1) := dk_100 (dk_at dksX3_mirrored_1 22 rfl rfl)
theorem dX3_mirrored_46 : decode cX3_mirrored 46 = .ok (.aload_n 0, 1) := dk_42 (dk_at dksX3_mirrored_1 23 rfl rfl)
theorem dX3_mirrored_47 : decode cX3_mirrored 47 = .ok (.iload_n 2, 1) := dk_28 (dk_at dksX3_mirrored_2 0 rfl rfl)
theorem dX3_mirrored_48 : decode cX3_mirrored 48 = .ok (.invokevirtual 63, 3) := dk_182 0 63 (dk_at dksX3_mirrored_2 1 rfl rfl)
theorem dX3_mirrored_51 : decode cX3_mirrored 51 = .ok (.isub, 1) := dk_100 (dk_at dksX3_mirrored_2 4 rfl rfl)
theorem dX3_mirrored_52 : decode cX3_mirrored 52 = .ok (.invokevirtual 145, 3) := dk_182 0 145 (dk_at dksX3_mirrored_2 5 rfl rfl)
theorem dX3_mirrored_55 : decode cX3_mirrored 55 = .ok (.iinc 2 1, 3) := dk_132 2 1 (dk_at dksX3_mirrored_2 8 rfl rfl)
theorem dX3_mirrored_58 : decode cX3_mirrored 58 = .ok (.goto (-40), 3) := dk_167 255 216 (dk_at dksX3_mirrored_2 11 rfl rfl)
theorem dX3_mirrored_61 : decode cX3_mirrored 61 = .ok (.iconst 0, 1) := dk_3 (dk_at dksX3_mirrored_2 14 rfl rfl)
theorem dX3_mirrored_62 : decode cX3_mirrored 62 = .ok (.istore_n 2, 1) := dk_61 (dk_at dksX3_mirrored_2 15 rfl rfl)
theorem dX3_mirrored_63 : decode cX3_mirrored 63 = .ok (.iload_n 2, 1) := dk_28 (dk_at dksX3_mirrored_2 16 rfl rfl)
theorem dX3_mirrored_64 : decode cX3_mirrored 64 = .ok (.aload_n 0, 1) := dk_42 (dk_at dksX3_mirrored_2 17 rfl rfl)
theorem dX3_mirrored_65 : decode cX3_mirrored 65 = .ok (.getfield 25, 3) := dk_180 0 25 (dk_at dksX3_mirrored_2 18 rfl rfl)
theorem dX3_mirrored_68 : decode cX3_mirrored 68 = .ok (.if_icmp .ge 21, 3) := dk_162 0 21 (dk_at dksX3_mirrored_2 21 rfl rfl)
theorem dX3_mirrored_71 : decode cX3_mirrored 71 = .ok (.aload_n 1, 1) := dk_43 (dk_at dksX3_mirrored_3 0 rfl rfl)
theorem dX3_mirrored_72 : decode cX3_mirrored 72 = .ok (.getfield 22, 3) := dk_180 0 22 (dk_at dksX3_mirrored_3 1 rfl rfl)
theorem dX3_mirrored_75 : decode cX3_mirrored 75 = .ok (.iload_n 2, 1) := dk_28 (dk_at dksX3_mirrored_3 4 rfl rfl)
theorem dX3_mirrored_76 : decode cX3_mirrored 76 = .ok (.aload_n 0, 1) := dk_42 (dk_at dksX3_mirrored_3 5 rfl rfl)
theorem dX3_mirrored_77 : decode cX3_mirrored 77 = .ok (.getfield 22, 3) := dk_180 0 22 (dk_at dksX3_mirrored_3 6 rfl rfl)
theorem dX3_mirrored_80 : decode cX3_mirrored 80 = .ok (.iload_n 2, 1) := dk_28 (dk_at dksX3_mirrored_3 9 rfl rfl)
theorem dX3_mirrored_81 : decode cX3_mirrored 81 = .ok (.baload, 1) := dk_51 (dk_at dksX3_mirrored_3 10 rfl rfl)
theorem dX3_mirrored_82 : decode cX3_mirrored 82 = .ok (.bastore, 1) := dk_84 (dk_at dksX3_mirrored_3 11 rfl rfl)
theorem dX3_mirrored_83 : decode cX3_mirrored 83 = .ok (.iinc 2 1, 3) := dk_132 2 1 (dk_at dksX3_mirrored_3 12 rfl rfl)
theorem dX3_mirrored_86 : decode cX3_mirrored 86 = .ok (.goto (-23), 3) := dk_167 255 233 (dk_at dksX3_mirrored_3 15 rfl rfl)
theorem dX3_mirrored_89 : decode cX3_mirrored 89 = .ok (.iconst 0, 1) := dk_3 (dk_at dksX3_mirrored_3 18 rfl rfl)
theorem dX3_mirrored_90 : decode cX3_mirrored 90 = .ok (.istore_n 2, 1) := dk_61 (dk_at dksX3_mirrored_3 19 rfl rfl)
theorem dX3_mirrored_91 : decode cX3_mirrored 91 = .ok (.iload_n 2, 1) := dk_28 (dk_at dksX3_mirrored_3 20 rfl rfl)
theorem dX3_mirrored_92 : decode cX3_mirrored 92 = .ok (.aload_n 0, 1) := dk_42 (dk_at dksX3_mirrored_3 21 rfl rfl)
theorem dX3_mirrored_93 : decode cX3_mirrored 93 = .ok (.getfield 29, 3) := dk_180 0 29 (dk_at dksX3_mirrored_4 0 rfl rfl)
theorem dX3_mirrored_96 : decode cX3_mirrored 96 = .ok (.if_icmp .ge 38, 3) := dk_162 0 38 (dk_at dksX3_mirrored_4 3 rfl rfl)
theorem dX3_mirrored_99 : decode cX3_mirrored 99 = .ok (.aload_n 1, 1) := dk_43 (dk_at dksX3_mirrored_4 6 rfl rfl)
theorem dX3_mirrored_100 : decode cX3_mirrored 100 = .ok (.getfield 22, 3) := dk_180 0 22 (dk_at dksX3_mirrored_4 7 rfl rfl)
theorem dX3_mirrored_103 : decode cX3_mirrored 103 = .ok (.aload_n 0, 1) := dk_42 (dk_at dksX3_mirrored_4 10 rfl rfl)
theorem dX3_mirrored_104 : decode cX3_mirrored 104 = .ok (.getfield 25, 3) := dk_180 0 25 (dk_at dksX3_mirrored_4 11 rfl rfl)
theorem dX3_mirrored_107 : decode cX3_mirrored 107 = .ok (.iload_n 2, 1) := dk_28 (dk_at dksX3_mirrored_4 14 rfl rfl)
theorem dX3_mirrored_108 : decode cX3_mirrored 108 = .ok (.iadd, 1) := dk_96 (dk_at dksX3_mirrored_4 15 rfl rfl)
theorem dX3_mirrored_109 : decode cX3_mirrored 109 = .ok (.aload_n 0, 1) := dk_42 (dk_at dksX3_mirrored_4 16 rfl rfl)
theorem dX3_mirrored_110 : decode cX3_mirrored 110 = .ok (.getfield 22, 3) := dk_180 0 22 (dk_at dksX3_mirrored_4 17 rfl rfl)
theorem dX3_mirrored_113 : decode cX3_mirrored 113 = .ok (.aload_n 0, 1) := dk_42 (dk_at dksX3_mirrored_4 20 rfl rfl)
theorem dX3_mirrored_114 : decode cX3_mirrored 114 = .ok (.getfield 25, 3) := dk_180 0 25 (dk_at dksX3_mirrored_4 21 rfl rfl)
theorem dX3_mirrored_117 : decode cX3_mirrored 117 = .ok (.aload_n 0, 1) := dk_42 (dk_at dksX3_mirrored_5 0 rfl rfl)
theorem dX3_mirrored_118 : decode cX3_mirrored 118 = .ok (.getfield 29, 3) := dk_180 0 29 (dk_at dksX3_mirrored_5 1 rfl rfl)
theorem dX3_mirrored_121 : decode cX3_mirrored 121 = .ok (.iadd, 1) := dk_96 (dk_at dksX3_mirrored_5 4 rfl rfl)
theorem dX3_mirrored_122 : decode cX3_mirrored 122 = .ok (.iconst 1, 1) := dk_4 (dk_at dksX3_mirrored_5 5 rfl rfl)
theorem dX3_mirrored_123 : decode cX3_mirrored 123 = .ok (.isub, 1) := dk_100 (dk_at dksX3_mirrored_5 6 rfl rfl)
theorem dX3_mirrored_124 : decode cX3_mirrored 124 = .ok (.iload_n 2, 1) := dk_28 (dk_at dksX3_mirrored_5 7 rfl rfl)
theorem dX3_mirrored_125 : decode cX3_mirrored 125 = .ok (.isub, 1) := dk_100 (dk_at dksX3_mirrored_5 8 rfl rfl)
theorem dX3_mirrored_126 : decode cX3_mirrored 126 = .ok (.baload, 1) := dk_51 (dk_at dksX3_mirrored_5 9 rfl rfl)
theorem dX3_mirrored_127 : decode cX3_mirrored 127 = .ok (.bastore, 1) := dk_84 (dk_at dksX3_mirrored_5 10 rfl rfl)
theorem dX3_mirrored_128 : decode cX3_mirrored 128 = .ok (.iinc 2 1, 3) := dk_132 2 1 (dk_at dksX3_mirrored_5 11 rfl rfl)
theorem dX3_mirrored_131 : decode cX3_mirrored 131 = .ok (.goto (-40), 3) := dk_167 255 216 (dk_at dksX3_mirrored_5 14 rfl rfl)
theorem dX3_mirrored_134 : decode cX3_mirrored 134 = .ok (.aload_n 1, 1) := dk_43 (dk_at dksX3_mirrored_5 17 rfl rfl)
theorem dX3_mirrored_135 : decode cX3_mirrored 135 = .ok (.invokevirtual 36, 3) := dk_182 0 36 (dk_at dksX3_mirrored_5 18 rfl rfl)
theorem dX3_mirrored_138 : decode cX3_mirrored 138 = .ok (.aload_n 1, 1) := dk_43 (dk_at dksX3_mirrored_5 21 rfl rfl)
theorem dX3_mirrored_139 : decode cX3_mirrored 139 = .ok (.areturn, 1) := dk_176 (dk_at dksX3_mirrored_5 22 rfl rfl)
abbrev cX3_take : ByteArray := prog_14_method_34_code
def yX3_take : MethodName := ⟨RX3, "take", "(ILEdgeSums$Page;I)V"⟩
def dkwX3_take_1 : List UInt8 := [42, 180, 0, 18, 27, 44, 180, 0, 18, 29, 51, 84, 177]
abbrev dktX3_take_1 : List UInt8 := dkwX3_take_1 ++ []
def dkwX3_take_0 : List UInt8 := [42, 180, 0, 9, 27, 44, 180, 0, 9, 29, 46, 79, 42, 180, 0, 15, 27, 44, 180, 0, 15, 29, 46, 79]
abbrev dktX3_take_0 : List UInt8 := dkwX3_take_0 ++ dktX3_take_1
theorem dksX3_take_0 : cX3_take.data.toList.drop 0 = dktX3_take_0 := by decide +kernel
theorem dksX3_take_1 : cX3_take.data.toList.drop 24 = dktX3_take_1 := dk_seg dksX3_take_0 24 rfl rfl
theorem dX3_take_0 : decode cX3_take 0 = .ok (.aload_n 0, 1) := dk_42 (dk_at dksX3_take_0 0 rfl rfl)
theorem dX3_take_1 : decode cX3_take 1 = .ok (.getfield 9, 3) := dk_180 0 9 (dk_at dksX3_take_0 1 rfl rfl)
theorem dX3_take_4 : decode cX3_take 4 = .ok (.iload_n 1, 1) := dk_27 (dk_at dksX3_take_0 4 rfl rfl)
theorem dX3_take_5 : decode cX3_take 5 = .ok (.aload_n 2, 1) := dk_44 (dk_at dksX3_take_0 5 rfl rfl)
theorem dX3_take_6 : decode cX3_take 6 = .ok (.getfield 9, 3) := dk_180 0 9 (dk_at dksX3_take_0 6 rfl rfl)
theorem dX3_take_9 : decode cX3_take 9 = .ok (.iload_n 3, 1) := dk_29 (dk_at dksX3_take_0 9 rfl rfl)
theorem dX3_take_10 : decode cX3_take 10 = .ok (.iaload, 1) := dk_46 (dk_at dksX3_take_0 10 rfl rfl)
theorem dX3_take_11 : decode cX3_take 11 = .ok (.iastore, 1) := dk_79 (dk_at dksX3_take_0 11 rfl rfl)
theorem dX3_take_12 : decode cX3_take 12 = .ok (.aload_n 0, 1) := dk_42 (dk_at dksX3_take_0 12 rfl rfl)
theorem dX3_take_13 : decode cX3_take 13 = .ok (.getfield 15, 3) := dk_180 0 15 (dk_at dksX3_take_0 13 rfl rfl)
theorem dX3_take_16 : decode cX3_take 16 = .ok (.iload_n 1, 1) := dk_27 (dk_at dksX3_take_0 16 rfl rfl)
theorem dX3_take_17 : decode cX3_take 17 = .ok (.aload_n 2, 1) := dk_44 (dk_at dksX3_take_0 17 rfl rfl)
theorem dX3_take_18 : decode cX3_take 18 = .ok (.getfield 15, 3) := dk_180 0 15 (dk_at dksX3_take_0 18 rfl rfl)
theorem dX3_take_21 : decode cX3_take 21 = .ok (.iload_n 3, 1) := dk_29 (dk_at dksX3_take_0 21 rfl rfl)
theorem dX3_take_22 : decode cX3_take 22 = .ok (.iaload, 1) := dk_46 (dk_at dksX3_take_0 22 rfl rfl)
theorem dX3_take_23 : decode cX3_take 23 = .ok (.iastore, 1) := dk_79 (dk_at dksX3_take_0 23 rfl rfl)
theorem dX3_take_24 : decode cX3_take 24 = .ok (.aload_n 0, 1) := dk_42 (dk_at dksX3_take_1 0 rfl rfl)
theorem dX3_take_25 : decode cX3_take 25 = .ok (.getfield 18, 3) := dk_180 0 18 (dk_at dksX3_take_1 1 rfl rfl)
theorem dX3_take_28 : decode cX3_take 28 = .ok (.iload_n 1, 1) := dk_27 (dk_at dksX3_take_1 4 rfl rfl)
theorem dX3_take_29 : decode cX3_take 29 = .ok (.aload_n 2, 1) := dk_44 (dk_at dksX3_take_1 5 rfl rfl)
theorem dX3_take_30 : decode cX3_take 30 = .ok (.getfield 18, 3) := dk_180 0 18 (dk_at dksX3_take_1 6 rfl rfl)
theorem dX3_take_33 : decode cX3_take 33 = .ok (.iload_n 3, 1) := dk_29 (dk_at dksX3_take_1 9 rfl rfl)
theorem dX3_take_34 : decode cX3_take 34 = .ok (.baload, 1) := dk_51 (dk_at dksX3_take_1 10 rfl rfl)
theorem dX3_take_35 : decode cX3_take 35 = .ok (.bastore, 1) := dk_84 (dk_at dksX3_take_1 11 rfl rfl)
theorem dX3_take_36 : decode cX3_take 36 = .ok (.return_, 1) := dk_177 (dk_at dksX3_take_1 12 rfl rfl)
abbrev cX3_turned : ByteArray := prog_14_method_36_code
def yX3_turned : MethodName := ⟨RX3, "turned", "()LEdgeSums$Page;"⟩
def dkwX3_turned_5 : List UInt8 := [42, 180, 0, 22, 42, 180, 0, 25, 28, 96, 51, 84, 132, 2, 1, 167, 255, 228, 43, 182, 0, 36, 43, 176]
abbrev dktX3_turned_5 : List UInt8 := dkwX3_turned_5 ++ []
def dkwX3_turned_4 : List UInt8 := [28, 51, 84, 132, 2, 1, 167, 255, 221, 3, 61, 28, 42, 180, 0, 29, 162, 0, 26, 43, 180, 0, 22, 28]
abbrev dktX3_turned_4 : List UInt8 := dkwX3_turned_4 ++ dktX3_turned_5
def dkwX3_turned_3 : List UInt8 := [162, 0, 33, 43, 180, 0, 22, 42, 180, 0, 29, 42, 180, 0, 25, 96, 4, 100, 28, 100, 42, 180, 0, 22]
abbrev dktX3_turned_3 : List UInt8 := dkwX3_turned_3 ++ dktX3_turned_4
def dkwX3_turned_2 : List UInt8 := [182, 0, 59, 100, 42, 28, 182, 0, 145, 132, 2, 1, 167, 255, 216, 3, 61, 28, 42, 180, 0, 25]
abbrev dktX3_turned_2 : List UInt8 := dkwX3_turned_2 ++ dktX3_turned_3
def dkwX3_turned_1 : List UInt8 := [162, 0, 38, 43, 42, 180, 0, 25, 42, 28, 182, 0, 63, 104, 42, 180, 0, 25, 96, 4, 100, 42, 28]
abbrev dktX3_turned_1 : List UInt8 := dkwX3_turned_1 ++ dktX3_turned_2
def dkwX3_turned_0 : List UInt8 := [187, 0, 10, 89, 42, 180, 0, 29, 42, 180, 0, 25, 183, 0, 143, 76, 3, 61, 28, 42, 182, 0, 32]
abbrev dktX3_turned_0 : List UInt8 := dkwX3_turned_0 ++ dktX3_turned_1
theorem dksX3_turned_0 : cX3_turned.data.toList.drop 0 = dktX3_turned_0 := by decide +kernel
theorem dksX3_turned_1 : cX3_turned.data.toList.drop 23 = dktX3_turned_1 := dk_seg dksX3_turned_0 23 rfl rfl
theorem dksX3_turned_2 : cX3_turned.data.toList.drop 46 = dktX3_turned_2 := dk_seg dksX3_turned_1 23 rfl rfl
theorem dksX3_turned_3 : cX3_turned.data.toList.drop 68 = dktX3_turned_3 := dk_seg dksX3_turned_2 22 rfl rfl
theorem dksX3_turned_4 : cX3_turned.data.toList.drop 92 = dktX3_turned_4 := dk_seg dksX3_turned_3 24 rfl rfl
theorem dksX3_turned_5 : cX3_turned.data.toList.drop 116 = dktX3_turned_5 := dk_seg dksX3_turned_4 24 rfl rfl
theorem dX3_turned_0 : decode cX3_turned 0 = .ok (.new 10, 3) := dk_187 0 10 (dk_at dksX3_turned_0 0 rfl rfl)
theorem dX3_turned_3 : decode cX3_turned 3 = .ok (.dup, 1) := dk_89 (dk_at dksX3_turned_0 3 rfl rfl)
theorem dX3_turned_4 : decode cX3_turned 4 = .ok (.aload_n 0, 1) := dk_42 (dk_at dksX3_turned_0 4 rfl rfl)
theorem dX3_turned_5 : decode cX3_turned 5 = .ok (.getfield 29, 3) := dk_180 0 29 (dk_at dksX3_turned_0 5 rfl rfl)
theorem dX3_turned_8 : decode cX3_turned 8 = .ok (.aload_n 0, 1) := dk_42 (dk_at dksX3_turned_0 8 rfl rfl)
theorem dX3_turned_9 : decode cX3_turned 9 = .ok (.getfield 25, 3) := dk_180 0 25 (dk_at dksX3_turned_0 9 rfl rfl)
theorem dX3_turned_12 : decode cX3_turned 12 = .ok (.invokespecial 143, 3) := dk_183 0 143 (dk_at dksX3_turned_0 12 rfl rfl)
theorem dX3_turned_15 : decode cX3_turned 15 = .ok (.astore_n 1, 1) := dk_76 (dk_at dksX3_turned_0 15 rfl rfl)
theorem dX3_turned_16 : decode cX3_turned 16 = .ok (.iconst 0, 1) := dk_3 (dk_at dksX3_turned_0 16 rfl rfl)
theorem dX3_turned_17 : decode cX3_turned 17 = .ok (.istore_n 2, 1) := dk_61 (dk_at dksX3_turned_0 17 rfl rfl)
theorem dX3_turned_18 : decode cX3_turned 18 = .ok (.iload_n 2, 1) := dk_28 (dk_at dksX3_turned_0 18 rfl rfl)
theorem dX3_turned_19 : decode cX3_turned 19 = .ok (.aload_n 0, 1) := dk_42 (dk_at dksX3_turned_0 19 rfl rfl)
theorem dX3_turned_20 : decode cX3_turned 20 = .ok (.invokevirtual 32, 3) := dk_182 0 32 (dk_at dksX3_turned_0 20 rfl rfl)
theorem dX3_turned_23 : decode cX3_turned 23 = .ok (.if_icmp .ge 38, 3) := dk_162 0 38 (dk_at dksX3_turned_1 0 rfl rfl)
theorem dX3_turned_26 : decode cX3_turned 26 = .ok (.aload_n 1, 1) := dk_43 (dk_at dksX3_turned_1 3 rfl rfl)
theorem dX3_turned_27 : decode cX3_turned 27 = .ok (.aload_n 0, 1) := dk_42 (dk_at dksX3_turned_1 4 rfl rfl)
theorem dX3_turned_28 : decode cX3_turned 28 = .ok (.getfield 25, 3) := dk_180 0 25 (dk_at dksX3_turned_1 5 rfl rfl)
theorem dX3_turned_31 : decode cX3_turned 31 = .ok (.aload_n 0, 1) := dk_42 (dk_at dksX3_turned_1 8 rfl rfl)
theorem dX3_turned_32 : decode cX3_turned 32 = .ok (.iload_n 2, 1) := dk_28 (dk_at dksX3_turned_1 9 rfl rfl)
theorem dX3_turned_33 : decode cX3_turned 33 = .ok (.invokevirtual 63, 3) := dk_182 0 63 (dk_at dksX3_turned_1 10 rfl rfl)
theorem dX3_turned_36 : decode cX3_turned 36 = .ok (.imul, 1) := dk_104 (dk_at dksX3_turned_1 13 rfl rfl)
theorem dX3_turned_37 : decode cX3_turned 37 = .ok (.aload_n 0, 1) := dk_42 (dk_at dksX3_turned_1 14 rfl rfl)
theorem dX3_turned_38 : decode cX3_turned 38 = .ok (.getfield 25, 3) := dk_180 0 25 (dk_at dksX3_turned_1 15 rfl rfl)
theorem dX3_turned_41 : decode cX3_turned 41 = .ok (.iadd, 1) := dk_96 (dk_at dksX3_turned_1 18 rfl rfl)
theorem dX3_turned_42 : decode cX3_turned 42 = .ok (.iconst 1, 1) := dk_4 (dk_at dksX3_turned_1 19 rfl rfl)
theorem dX3_turned_43 : decode cX3_turned 43 = .ok (.isub, 1) := dk_100 (dk_at dksX3_turned_1 20 rfl rfl)
theorem dX3_turned_44 : decode cX3_turned 44 = .ok (.aload_n 0, 1) := dk_42 (dk_at dksX3_turned_1 21 rfl rfl)
theorem dX3_turned_45 : decode cX3_turned 45 = .ok (.iload_n 2, 1) := dk_28 (dk_at dksX3_turned_1 22 rfl rfl)
theorem dX3_turned_46 : decode cX3_turned 46 = .ok (.invokevirtual 59, 3) := dk_182 0 59 (dk_at dksX3_turned_2 0 rfl rfl)
theorem dX3_turned_49 : decode cX3_turned 49 = .ok (.isub, 1) := dk_100 (dk_at dksX3_turned_2 3 rfl rfl)
theorem dX3_turned_50 : decode cX3_turned 50 = .ok (.aload_n 0, 1) := dk_42 (dk_at dksX3_turned_2 4 rfl rfl)
theorem dX3_turned_51 : decode cX3_turned 51 = .ok (.iload_n 2, 1) := dk_28 (dk_at dksX3_turned_2 5 rfl rfl)
theorem dX3_turned_52 : decode cX3_turned 52 = .ok (.invokevirtual 145, 3) := dk_182 0 145 (dk_at dksX3_turned_2 6 rfl rfl)
theorem dX3_turned_55 : decode cX3_turned 55 = .ok (.iinc 2 1, 3) := dk_132 2 1 (dk_at dksX3_turned_2 9 rfl rfl)
theorem dX3_turned_58 : decode cX3_turned 58 = .ok (.goto (-40), 3) := dk_167 255 216 (dk_at dksX3_turned_2 12 rfl rfl)
theorem dX3_turned_61 : decode cX3_turned 61 = .ok (.iconst 0, 1) := dk_3 (dk_at dksX3_turned_2 15 rfl rfl)
theorem dX3_turned_62 : decode cX3_turned 62 = .ok (.istore_n 2, 1) := dk_61 (dk_at dksX3_turned_2 16 rfl rfl)
theorem dX3_turned_63 : decode cX3_turned 63 = .ok (.iload_n 2, 1) := dk_28 (dk_at dksX3_turned_2 17 rfl rfl)
theorem dX3_turned_64 : decode cX3_turned 64 = .ok (.aload_n 0, 1) := dk_42 (dk_at dksX3_turned_2 18 rfl rfl)
theorem dX3_turned_65 : decode cX3_turned 65 = .ok (.getfield 25, 3) := dk_180 0 25 (dk_at dksX3_turned_2 19 rfl rfl)
theorem dX3_turned_68 : decode cX3_turned 68 = .ok (.if_icmp .ge 33, 3) := dk_162 0 33 (dk_at dksX3_turned_3 0 rfl rfl)
theorem dX3_turned_71 : decode cX3_turned 71 = .ok (.aload_n 1, 1) := dk_43 (dk_at dksX3_turned_3 3 rfl rfl)
theorem dX3_turned_72 : decode cX3_turned 72 = .ok (.getfield 22, 3) := dk_180 0 22 (dk_at dksX3_turned_3 4 rfl rfl)
theorem dX3_turned_75 : decode cX3_turned 75 = .ok (.aload_n 0, 1) := dk_42 (dk_at dksX3_turned_3 7 rfl rfl)
theorem dX3_turned_76 : decode cX3_turned 76 = .ok (.getfield 29, 3) := dk_180 0 29 (dk_at dksX3_turned_3 8 rfl rfl)
theorem dX3_turned_79 : decode cX3_turned 79 = .ok (.aload_n 0, 1) := dk_42 (dk_at dksX3_turned_3 11 rfl rfl)
theorem dX3_turned_80 : decode cX3_turned 80 = .ok (.getfield 25, 3) := dk_180 0 25 (dk_at dksX3_turned_3 12 rfl rfl)
theorem dX3_turned_83 : decode cX3_turned 83 = .ok (.iadd, 1) := dk_96 (dk_at dksX3_turned_3 15 rfl rfl)
theorem dX3_turned_84 : decode cX3_turned 84 = .ok (.iconst 1, 1) := dk_4 (dk_at dksX3_turned_3 16 rfl rfl)
theorem dX3_turned_85 : decode cX3_turned 85 = .ok (.isub, 1) := dk_100 (dk_at dksX3_turned_3 17 rfl rfl)
theorem dX3_turned_86 : decode cX3_turned 86 = .ok (.iload_n 2, 1) := dk_28 (dk_at dksX3_turned_3 18 rfl rfl)
theorem dX3_turned_87 : decode cX3_turned 87 = .ok (.isub, 1) := dk_100 (dk_at dksX3_turned_3 19 rfl rfl)
theorem dX3_turned_88 : decode cX3_turned 88 = .ok (.aload_n 0, 1) := dk_42 (dk_at dksX3_turned_3 20 rfl rfl)
theorem dX3_turned_89 : decode cX3_turned 89 = .ok (.getfield 22, 3) := dk_180 0 22 (dk_at dksX3_turned_3 21 rfl rfl)
theorem dX3_turned_92 : decode cX3_turned 92 = .ok (.iload_n 2, 1) := dk_28 (dk_at dksX3_turned_4 0 rfl rfl)
theorem dX3_turned_93 : decode cX3_turned 93 = .ok (.baload, 1) := dk_51 (dk_at dksX3_turned_4 1 rfl rfl)
theorem dX3_turned_94 : decode cX3_turned 94 = .ok (.bastore, 1) := dk_84 (dk_at dksX3_turned_4 2 rfl rfl)
theorem dX3_turned_95 : decode cX3_turned 95 = .ok (.iinc 2 1, 3) := dk_132 2 1 (dk_at dksX3_turned_4 3 rfl rfl)
theorem dX3_turned_98 : decode cX3_turned 98 = .ok (.goto (-35), 3) := dk_167 255 221 (dk_at dksX3_turned_4 6 rfl rfl)
theorem dX3_turned_101 : decode cX3_turned 101 = .ok (.iconst 0, 1) := dk_3 (dk_at dksX3_turned_4 9 rfl rfl)
theorem dX3_turned_102 : decode cX3_turned 102 = .ok (.istore_n 2, 1) := dk_61 (dk_at dksX3_turned_4 10 rfl rfl)
theorem dX3_turned_103 : decode cX3_turned 103 = .ok (.iload_n 2, 1) := dk_28 (dk_at dksX3_turned_4 11 rfl rfl)
theorem dX3_turned_104 : decode cX3_turned 104 = .ok (.aload_n 0, 1) := dk_42 (dk_at dksX3_turned_4 12 rfl rfl)
theorem dX3_turned_105 : decode cX3_turned 105 = .ok (.getfield 29, 3) := dk_180 0 29 (dk_at dksX3_turned_4 13 rfl rfl)
theorem dX3_turned_108 : decode cX3_turned 108 = .ok (.if_icmp .ge 26, 3) := dk_162 0 26 (dk_at dksX3_turned_4 16 rfl rfl)
theorem dX3_turned_111 : decode cX3_turned 111 = .ok (.aload_n 1, 1) := dk_43 (dk_at dksX3_turned_4 19 rfl rfl)
theorem dX3_turned_112 : decode cX3_turned 112 = .ok (.getfield 22, 3) := dk_180 0 22 (dk_at dksX3_turned_4 20 rfl rfl)
theorem dX3_turned_115 : decode cX3_turned 115 = .ok (.iload_n 2, 1) := dk_28 (dk_at dksX3_turned_4 23 rfl rfl)
theorem dX3_turned_116 : decode cX3_turned 116 = .ok (.aload_n 0, 1) := dk_42 (dk_at dksX3_turned_5 0 rfl rfl)
theorem dX3_turned_117 : decode cX3_turned 117 = .ok (.getfield 22, 3) := dk_180 0 22 (dk_at dksX3_turned_5 1 rfl rfl)
theorem dX3_turned_120 : decode cX3_turned 120 = .ok (.aload_n 0, 1) := dk_42 (dk_at dksX3_turned_5 4 rfl rfl)
theorem dX3_turned_121 : decode cX3_turned 121 = .ok (.getfield 25, 3) := dk_180 0 25 (dk_at dksX3_turned_5 5 rfl rfl)
theorem dX3_turned_124 : decode cX3_turned 124 = .ok (.iload_n 2, 1) := dk_28 (dk_at dksX3_turned_5 8 rfl rfl)
theorem dX3_turned_125 : decode cX3_turned 125 = .ok (.iadd, 1) := dk_96 (dk_at dksX3_turned_5 9 rfl rfl)
theorem dX3_turned_126 : decode cX3_turned 126 = .ok (.baload, 1) := dk_51 (dk_at dksX3_turned_5 10 rfl rfl)
theorem dX3_turned_127 : decode cX3_turned 127 = .ok (.bastore, 1) := dk_84 (dk_at dksX3_turned_5 11 rfl rfl)
theorem dX3_turned_128 : decode cX3_turned 128 = .ok (.iinc 2 1, 3) := dk_132 2 1 (dk_at dksX3_turned_5 12 rfl rfl)
theorem dX3_turned_131 : decode cX3_turned 131 = .ok (.goto (-28), 3) := dk_167 255 228 (dk_at dksX3_turned_5 15 rfl rfl)
theorem dX3_turned_134 : decode cX3_turned 134 = .ok (.aload_n 1, 1) := dk_43 (dk_at dksX3_turned_5 18 rfl rfl)
theorem dX3_turned_135 : decode cX3_turned 135 = .ok (.invokevirtual 36, 3) := dk_182 0 36 (dk_at dksX3_turned_5 19 rfl rfl)
theorem dX3_turned_138 : decode cX3_turned 138 = .ok (.aload_n 1, 1) := dk_43 (dk_at dksX3_turned_5 22 rfl rfl)
theorem dX3_turned_139 : decode cX3_turned 139 = .ok (.areturn, 1) := dk_176 (dk_at dksX3_turned_5 23 rfl rfl)
abbrev cX3_isNumber : ByteArray := prog_14_method_16_code
def yX3_isNumber : MethodName := ⟨RX3, "isNumber", "(II)Z"⟩
def dkwX3_isNumber_0 : List UInt8 := [28, 4, 42, 27, 182, 0, 74, 184, 0, 52, 172]
abbrev dktX3_isNumber_0 : List UInt8 := dkwX3_isNumber_0 ++ []
theorem dksX3_isNumber_0 : cX3_isNumber.data.toList.drop 0 = dktX3_isNumber_0 := by decide +kernel
theorem dX3_isNumber_0 : decode cX3_isNumber 0 = .ok (.iload_n 2, 1) := dk_28 (dk_at dksX3_isNumber_0 0 rfl rfl)
theorem dX3_isNumber_1 : decode cX3_isNumber 1 = .ok (.iconst 1, 1) := dk_4 (dk_at dksX3_isNumber_0 1 rfl rfl)
theorem dX3_isNumber_2 : decode cX3_isNumber 2 = .ok (.aload_n 0, 1) := dk_42 (dk_at dksX3_isNumber_0 2 rfl rfl)
theorem dX3_isNumber_3 : decode cX3_isNumber 3 = .ok (.iload_n 1, 1) := dk_27 (dk_at dksX3_isNumber_0 3 rfl rfl)
theorem dX3_isNumber_4 : decode cX3_isNumber 4 = .ok (.invokevirtual 74, 3) := dk_182 0 74 (dk_at dksX3_isNumber_0 4 rfl rfl)
theorem dX3_isNumber_7 : decode cX3_isNumber 7 = .ok (.invokestatic 52, 3) := dk_184 0 52 (dk_at dksX3_isNumber_0 7 rfl rfl)
theorem dX3_isNumber_10 : decode cX3_isNumber 10 = .ok (.ireturn, 1) := dk_172 (dk_at dksX3_isNumber_0 10 rfl rfl)
abbrev cX3_hasElsewhere : ByteArray := prog_14_method_20_code
def yX3_hasElsewhere : MethodName := ⟨RX3, "hasElsewhere", "(II)Z"⟩
def dkwX3_hasElsewhere_2 : List UInt8 := [160, 0, 7, 4, 167, 0, 4, 3, 128, 62, 132, 6, 1, 167, 255, 214, 29, 172]
abbrev dktX3_hasElsewhere_2 : List UInt8 := dkwX3_hasElsewhere_2 ++ []
def dkwX3_hasElsewhere_1 : List UInt8 := [25, 4, 21, 6, 46, 54, 7, 29, 21, 7, 27, 159, 0, 18, 42, 180, 0, 15, 21, 7, 46, 28]
abbrev dktX3_hasElsewhere_1 : List UInt8 := dkwX3_hasElsewhere_1 ++ dktX3_hasElsewhere_2
def dkwX3_hasElsewhere_0 : List UInt8 := [3, 62, 42, 27, 182, 0, 71, 58, 4, 25, 4, 190, 54, 5, 3, 54, 6, 21, 6, 21, 5, 162, 0, 41]
abbrev dktX3_hasElsewhere_0 : List UInt8 := dkwX3_hasElsewhere_0 ++ dktX3_hasElsewhere_1
theorem dksX3_hasElsewhere_0 : cX3_hasElsewhere.data.toList.drop 0 = dktX3_hasElsewhere_0 := by decide +kernel
theorem dksX3_hasElsewhere_1 : cX3_hasElsewhere.data.toList.drop 24 = dktX3_hasElsewhere_1 := dk_seg dksX3_hasElsewhere_0 24 rfl rfl
theorem dksX3_hasElsewhere_2 : cX3_hasElsewhere.data.toList.drop 46 = dktX3_hasElsewhere_2 := dk_seg dksX3_hasElsewhere_1 22 rfl rfl
theorem dX3_hasElsewhere_0 : decode cX3_hasElsewhere 0 = .ok (.iconst 0, 1) := dk_3 (dk_at dksX3_hasElsewhere_0 0 rfl rfl)
theorem dX3_hasElsewhere_1 : decode cX3_hasElsewhere 1 = .ok (.istore_n 3, 1) := dk_62 (dk_at dksX3_hasElsewhere_0 1 rfl rfl)
theorem dX3_hasElsewhere_2 : decode cX3_hasElsewhere 2 = .ok (.aload_n 0, 1) := dk_42 (dk_at dksX3_hasElsewhere_0 2 rfl rfl)
theorem dX3_hasElsewhere_3 : decode cX3_hasElsewhere 3 = .ok (.iload_n 1, 1) := dk_27 (dk_at dksX3_hasElsewhere_0 3 rfl rfl)
theorem dX3_hasElsewhere_4 : decode cX3_hasElsewhere 4 = .ok (.invokevirtual 71, 3) := dk_182 0 71 (dk_at dksX3_hasElsewhere_0 4 rfl rfl)
theorem dX3_hasElsewhere_7 : decode cX3_hasElsewhere 7 = .ok (.astore 4, 2) := dk_58 4 (dk_at dksX3_hasElsewhere_0 7 rfl rfl)
theorem dX3_hasElsewhere_9 : decode cX3_hasElsewhere 9 = .ok (.aload 4, 2) := dk_25 4 (dk_at dksX3_hasElsewhere_0 9 rfl rfl)
theorem dX3_hasElsewhere_11 : decode cX3_hasElsewhere 11 = .ok (.arraylength, 1) := dk_190 (dk_at dksX3_hasElsewhere_0 11 rfl rfl)
theorem dX3_hasElsewhere_12 : decode cX3_hasElsewhere 12 = .ok (.istore 5, 2) := dk_54 5 (dk_at dksX3_hasElsewhere_0 12 rfl rfl)
theorem dX3_hasElsewhere_14 : decode cX3_hasElsewhere 14 = .ok (.iconst 0, 1) := dk_3 (dk_at dksX3_hasElsewhere_0 14 rfl rfl)
theorem dX3_hasElsewhere_15 : decode cX3_hasElsewhere 15 = .ok (.istore 6, 2) := dk_54 6 (dk_at dksX3_hasElsewhere_0 15 rfl rfl)
theorem dX3_hasElsewhere_17 : decode cX3_hasElsewhere 17 = .ok (.iload 6, 2) := dk_21 6 (dk_at dksX3_hasElsewhere_0 17 rfl rfl)
theorem dX3_hasElsewhere_19 : decode cX3_hasElsewhere 19 = .ok (.iload 5, 2) := dk_21 5 (dk_at dksX3_hasElsewhere_0 19 rfl rfl)
theorem dX3_hasElsewhere_21 : decode cX3_hasElsewhere 21 = .ok (.if_icmp .ge 41, 3) := dk_162 0 41 (dk_at dksX3_hasElsewhere_0 21 rfl rfl)
theorem dX3_hasElsewhere_24 : decode cX3_hasElsewhere 24 = .ok (.aload 4, 2) := dk_25 4 (dk_at dksX3_hasElsewhere_1 0 rfl rfl)
theorem dX3_hasElsewhere_26 : decode cX3_hasElsewhere 26 = .ok (.iload 6, 2) := dk_21 6 (dk_at dksX3_hasElsewhere_1 2 rfl rfl)
theorem dX3_hasElsewhere_28 : decode cX3_hasElsewhere 28 = .ok (.iaload, 1) := dk_46 (dk_at dksX3_hasElsewhere_1 4 rfl rfl)
theorem dX3_hasElsewhere_29 : decode cX3_hasElsewhere 29 = .ok (.istore 7, 2) := dk_54 7 (dk_at dksX3_hasElsewhere_1 5 rfl rfl)
theorem dX3_hasElsewhere_31 : decode cX3_hasElsewhere 31 = .ok (.iload_n 3, 1) := dk_29 (dk_at dksX3_hasElsewhere_1 7 rfl rfl)
theorem dX3_hasElsewhere_32 : decode cX3_hasElsewhere 32 = .ok (.iload 7, 2) := dk_21 7 (dk_at dksX3_hasElsewhere_1 8 rfl rfl)
theorem dX3_hasElsewhere_34 : decode cX3_hasElsewhere 34 = .ok (.iload_n 1, 1) := dk_27 (dk_at dksX3_hasElsewhere_1 10 rfl rfl)
theorem dX3_hasElsewhere_35 : decode cX3_hasElsewhere 35 = .ok (.if_icmp .eq 18, 3) := dk_159 0 18 (dk_at dksX3_hasElsewhere_1 11 rfl rfl)
theorem dX3_hasElsewhere_38 : decode cX3_hasElsewhere 38 = .ok (.aload_n 0, 1) := dk_42 (dk_at dksX3_hasElsewhere_1 14 rfl rfl)
theorem dX3_hasElsewhere_39 : decode cX3_hasElsewhere 39 = .ok (.getfield 15, 3) := dk_180 0 15 (dk_at dksX3_hasElsewhere_1 15 rfl rfl)
theorem dX3_hasElsewhere_42 : decode cX3_hasElsewhere 42 = .ok (.iload 7, 2) := dk_21 7 (dk_at dksX3_hasElsewhere_1 18 rfl rfl)
theorem dX3_hasElsewhere_44 : decode cX3_hasElsewhere 44 = .ok (.iaload, 1) := dk_46 (dk_at dksX3_hasElsewhere_1 20 rfl rfl)
theorem dX3_hasElsewhere_45 : decode cX3_hasElsewhere 45 = .ok (.iload_n 2, 1) := dk_28 (dk_at dksX3_hasElsewhere_1 21 rfl rfl)
theorem dX3_hasElsewhere_46 : decode cX3_hasElsewhere 46 = .ok (.if_icmp .ne 7, 3) := dk_160 0 7 (dk_at dksX3_hasElsewhere_2 0 rfl rfl)
theorem dX3_hasElsewhere_49 : decode cX3_hasElsewhere 49 = .ok (.iconst 1, 1) := dk_4 (dk_at dksX3_hasElsewhere_2 3 rfl rfl)
theorem dX3_hasElsewhere_50 : decode cX3_hasElsewhere 50 = .ok (.goto 4, 3) := dk_167 0 4 (dk_at dksX3_hasElsewhere_2 4 rfl rfl)
theorem dX3_hasElsewhere_53 : decode cX3_hasElsewhere 53 = .ok (.iconst 0, 1) := dk_3 (dk_at dksX3_hasElsewhere_2 7 rfl rfl)
theorem dX3_hasElsewhere_54 : decode cX3_hasElsewhere 54 = .ok (.ior, 1) := dk_128 (dk_at dksX3_hasElsewhere_2 8 rfl rfl)
theorem dX3_hasElsewhere_55 : decode cX3_hasElsewhere 55 = .ok (.istore_n 3, 1) := dk_62 (dk_at dksX3_hasElsewhere_2 9 rfl rfl)
theorem dX3_hasElsewhere_56 : decode cX3_hasElsewhere 56 = .ok (.iinc 6 1, 3) := dk_132 6 1 (dk_at dksX3_hasElsewhere_2 10 rfl rfl)
theorem dX3_hasElsewhere_59 : decode cX3_hasElsewhere 59 = .ok (.goto (-42), 3) := dk_167 255 214 (dk_at dksX3_hasElsewhere_2 13 rfl rfl)
theorem dX3_hasElsewhere_62 : decode cX3_hasElsewhere 62 = .ok (.iload_n 3, 1) := dk_29 (dk_at dksX3_hasElsewhere_2 16 rfl rfl)
theorem dX3_hasElsewhere_63 : decode cX3_hasElsewhere 63 = .ok (.ireturn, 1) := dk_172 (dk_at dksX3_hasElsewhere_2 17 rfl rfl)
abbrev cX3_untold : ByteArray := prog_14_method_23_code
def yX3_untold : MethodName := ⟨RX3, "untold", "()I"⟩
def dkwX3_untold_1 : List UInt8 := [167, 0, 4, 3, 96, 60, 132, 2, 1, 167, 255, 228, 27, 172]
abbrev dktX3_untold_1 : List UInt8 := dkwX3_untold_1 ++ []
def dkwX3_untold_0 : List UInt8 := [3, 60, 3, 61, 28, 42, 182, 0, 32, 162, 0, 26, 27, 42, 180, 0, 15, 28, 46, 154, 0, 7, 4]
abbrev dktX3_untold_0 : List UInt8 := dkwX3_untold_0 ++ dktX3_untold_1
theorem dksX3_untold_0 : cX3_untold.data.toList.drop 0 = dktX3_untold_0 := by decide +kernel
theorem dksX3_untold_1 : cX3_untold.data.toList.drop 23 = dktX3_untold_1 := dk_seg dksX3_untold_0 23 rfl rfl
theorem dX3_untold_0 : decode cX3_untold 0 = .ok (.iconst 0, 1) := dk_3 (dk_at dksX3_untold_0 0 rfl rfl)
theorem dX3_untold_1 : decode cX3_untold 1 = .ok (.istore_n 1, 1) := dk_60 (dk_at dksX3_untold_0 1 rfl rfl)
theorem dX3_untold_2 : decode cX3_untold 2 = .ok (.iconst 0, 1) := dk_3 (dk_at dksX3_untold_0 2 rfl rfl)
theorem dX3_untold_3 : decode cX3_untold 3 = .ok (.istore_n 2, 1) := dk_61 (dk_at dksX3_untold_0 3 rfl rfl)
theorem dX3_untold_4 : decode cX3_untold 4 = .ok (.iload_n 2, 1) := dk_28 (dk_at dksX3_untold_0 4 rfl rfl)
theorem dX3_untold_5 : decode cX3_untold 5 = .ok (.aload_n 0, 1) := dk_42 (dk_at dksX3_untold_0 5 rfl rfl)
theorem dX3_untold_6 : decode cX3_untold 6 = .ok (.invokevirtual 32, 3) := dk_182 0 32 (dk_at dksX3_untold_0 6 rfl rfl)
theorem dX3_untold_9 : decode cX3_untold 9 = .ok (.if_icmp .ge 26, 3) := dk_162 0 26 (dk_at dksX3_untold_0 9 rfl rfl)
theorem dX3_untold_12 : decode cX3_untold 12 = .ok (.iload_n 1, 1) := dk_27 (dk_at dksX3_untold_0 12 rfl rfl)
theorem dX3_untold_13 : decode cX3_untold 13 = .ok (.aload_n 0, 1) := dk_42 (dk_at dksX3_untold_0 13 rfl rfl)
theorem dX3_untold_14 : decode cX3_untold 14 = .ok (.getfield 15, 3) := dk_180 0 15 (dk_at dksX3_untold_0 14 rfl rfl)
theorem dX3_untold_17 : decode cX3_untold 17 = .ok (.iload_n 2, 1) := dk_28 (dk_at dksX3_untold_0 17 rfl rfl)
theorem dX3_untold_18 : decode cX3_untold 18 = .ok (.iaload, 1) := dk_46 (dk_at dksX3_untold_0 18 rfl rfl)
theorem dX3_untold_19 : decode cX3_untold 19 = .ok (.ifCond .ne 7, 3) := dk_154 0 7 (dk_at dksX3_untold_0 19 rfl rfl)
theorem dX3_untold_22 : decode cX3_untold 22 = .ok (.iconst 1, 1) := dk_4 (dk_at dksX3_untold_0 22 rfl rfl)
theorem dX3_untold_23 : decode cX3_untold 23 = .ok (.goto 4, 3) := dk_167 0 4 (dk_at dksX3_untold_1 0 rfl rfl)
theorem dX3_untold_26 : decode cX3_untold 26 = .ok (.iconst 0, 1) := dk_3 (dk_at dksX3_untold_1 3 rfl rfl)
theorem dX3_untold_27 : decode cX3_untold 27 = .ok (.iadd, 1) := dk_96 (dk_at dksX3_untold_1 4 rfl rfl)
theorem dX3_untold_28 : decode cX3_untold 28 = .ok (.istore_n 1, 1) := dk_60 (dk_at dksX3_untold_1 5 rfl rfl)
theorem dX3_untold_29 : decode cX3_untold 29 = .ok (.iinc 2 1, 3) := dk_132 2 1 (dk_at dksX3_untold_1 6 rfl rfl)
theorem dX3_untold_32 : decode cX3_untold 32 = .ok (.goto (-28), 3) := dk_167 255 228 (dk_at dksX3_untold_1 9 rfl rfl)
theorem dX3_untold_35 : decode cX3_untold 35 = .ok (.iload_n 1, 1) := dk_27 (dk_at dksX3_untold_1 12 rfl rfl)
theorem dX3_untold_36 : decode cX3_untold 36 = .ok (.ireturn, 1) := dk_172 (dk_at dksX3_untold_1 13 rfl rfl)
abbrev cX3_isPlace : ByteArray := prog_14_method_27_code
def yX3_isPlace : MethodName := ⟨RX3, "isPlace", "(II)Z"⟩
def dkwX3_isPlace_1 : List UInt8 := [4, 167, 0, 4, 3, 172]
abbrev dktX3_isPlace_1 : List UInt8 := dkwX3_isPlace_1 ++ []
def dkwX3_isPlace_0 : List UInt8 := [27, 3, 4, 184, 0, 52, 153, 0, 22, 28, 3, 42, 27, 182, 0, 127, 4, 100, 184, 0, 52, 153, 0, 7]
abbrev dktX3_isPlace_0 : List UInt8 := dkwX3_isPlace_0 ++ dktX3_isPlace_1
theorem dksX3_isPlace_0 : cX3_isPlace.data.toList.drop 0 = dktX3_isPlace_0 := by decide +kernel
theorem dksX3_isPlace_1 : cX3_isPlace.data.toList.drop 24 = dktX3_isPlace_1 := dk_seg dksX3_isPlace_0 24 rfl rfl
theorem dX3_isPlace_0 : decode cX3_isPlace 0 = .ok (.iload_n 1, 1) := dk_27 (dk_at dksX3_isPlace_0 0 rfl rfl)
theorem dX3_isPlace_1 : decode cX3_isPlace 1 = .ok (.iconst 0, 1) := dk_3 (dk_at dksX3_isPlace_0 1 rfl rfl)
theorem dX3_isPlace_2 : decode cX3_isPlace 2 = .ok (.iconst 1, 1) := dk_4 (dk_at dksX3_isPlace_0 2 rfl rfl)
theorem dX3_isPlace_3 : decode cX3_isPlace 3 = .ok (.invokestatic 52, 3) := dk_184 0 52 (dk_at dksX3_isPlace_0 3 rfl rfl)
theorem dX3_isPlace_6 : decode cX3_isPlace 6 = .ok (.ifCond .eq 22, 3) := dk_153 0 22 (dk_at dksX3_isPlace_0 6 rfl rfl)
theorem dX3_isPlace_9 : decode cX3_isPlace 9 = .ok (.iload_n 2, 1) := dk_28 (dk_at dksX3_isPlace_0 9 rfl rfl)
theorem dX3_isPlace_10 : decode cX3_isPlace 10 = .ok (.iconst 0, 1) := dk_3 (dk_at dksX3_isPlace_0 10 rfl rfl)
theorem dX3_isPlace_11 : decode cX3_isPlace 11 = .ok (.aload_n 0, 1) := dk_42 (dk_at dksX3_isPlace_0 11 rfl rfl)
theorem dX3_isPlace_12 : decode cX3_isPlace 12 = .ok (.iload_n 1, 1) := dk_27 (dk_at dksX3_isPlace_0 12 rfl rfl)
theorem dX3_isPlace_13 : decode cX3_isPlace 13 = .ok (.invokevirtual 127, 3) := dk_182 0 127 (dk_at dksX3_isPlace_0 13 rfl rfl)
theorem dX3_isPlace_16 : decode cX3_isPlace 16 = .ok (.iconst 1, 1) := dk_4 (dk_at dksX3_isPlace_0 16 rfl rfl)
theorem dX3_isPlace_17 : decode cX3_isPlace 17 = .ok (.isub, 1) := dk_100 (dk_at dksX3_isPlace_0 17 rfl rfl)
theorem dX3_isPlace_18 : decode cX3_isPlace 18 = .ok (.invokestatic 52, 3) := dk_184 0 52 (dk_at dksX3_isPlace_0 18 rfl rfl)
theorem dX3_isPlace_21 : decode cX3_isPlace 21 = .ok (.ifCond .eq 7, 3) := dk_153 0 7 (dk_at dksX3_isPlace_0 21 rfl rfl)
theorem dX3_isPlace_24 : decode cX3_isPlace 24 = .ok (.iconst 1, 1) := dk_4 (dk_at dksX3_isPlace_1 0 rfl rfl)
theorem dX3_isPlace_25 : decode cX3_isPlace 25 = .ok (.goto 4, 3) := dk_167 0 4 (dk_at dksX3_isPlace_1 1 rfl rfl)
theorem dX3_isPlace_28 : decode cX3_isPlace 28 = .ok (.iconst 0, 1) := dk_3 (dk_at dksX3_isPlace_1 4 rfl rfl)
theorem dX3_isPlace_29 : decode cX3_isPlace 29 = .ok (.ireturn, 1) := dk_172 (dk_at dksX3_isPlace_1 5 rfl rfl)
abbrev cX3_places : ByteArray := prog_14_method_26_code
def yX3_places : MethodName := ⟨RX3, "places", "(I)I"⟩
def dkwX3_places_0 : List UInt8 := [27, 154, 0, 10, 42, 182, 0, 32, 167, 0, 7, 42, 182, 0, 56, 172]
abbrev dktX3_places_0 : List UInt8 := dkwX3_places_0 ++ []
theorem dksX3_places_0 : cX3_places.data.toList.drop 0 = dktX3_places_0 := by decide +kernel
theorem dX3_places_0 : decode cX3_places 0 = .ok (.iload_n 1, 1) := dk_27 (dk_at dksX3_places_0 0 rfl rfl)
theorem dX3_places_1 : decode cX3_places 1 = .ok (.ifCond .ne 10, 3) := dk_154 0 10 (dk_at dksX3_places_0 1 rfl rfl)
theorem dX3_places_4 : decode cX3_places 4 = .ok (.aload_n 0, 1) := dk_42 (dk_at dksX3_places_0 4 rfl rfl)
theorem dX3_places_5 : decode cX3_places 5 = .ok (.invokevirtual 32, 3) := dk_182 0 32 (dk_at dksX3_places_0 5 rfl rfl)
theorem dX3_places_8 : decode cX3_places 8 = .ok (.goto 7, 3) := dk_167 0 7 (dk_at dksX3_places_0 8 rfl rfl)
theorem dX3_places_11 : decode cX3_places 11 = .ok (.aload_n 0, 1) := dk_42 (dk_at dksX3_places_0 11 rfl rfl)
theorem dX3_places_12 : decode cX3_places 12 = .ok (.invokevirtual 56, 3) := dk_182 0 56 (dk_at dksX3_places_0 12 rfl rfl)
theorem dX3_places_15 : decode cX3_places 15 = .ok (.ireturn, 1) := dk_172 (dk_at dksX3_places_0 15 rfl rfl)
abbrev cX3_lines : ByteArray := prog_14_method_5_code
def yX3_lines : MethodName := ⟨RX3, "lines", "()I"⟩
def dkwX3_lines_0 : List UInt8 := [42, 180, 0, 25, 42, 180, 0, 29, 96, 172]
abbrev dktX3_lines_0 : List UInt8 := dkwX3_lines_0 ++ []
theorem dksX3_lines_0 : cX3_lines.data.toList.drop 0 = dktX3_lines_0 := by decide +kernel
theorem dX3_lines_0 : decode cX3_lines 0 = .ok (.aload_n 0, 1) := dk_42 (dk_at dksX3_lines_0 0 rfl rfl)
theorem dX3_lines_1 : decode cX3_lines 1 = .ok (.getfield 25, 3) := dk_180 0 25 (dk_at dksX3_lines_0 1 rfl rfl)
theorem dX3_lines_4 : decode cX3_lines 4 = .ok (.aload_n 0, 1) := dk_42 (dk_at dksX3_lines_0 4 rfl rfl)
theorem dX3_lines_5 : decode cX3_lines 5 = .ok (.getfield 29, 3) := dk_180 0 29 (dk_at dksX3_lines_0 5 rfl rfl)
theorem dX3_lines_8 : decode cX3_lines 8 = .ok (.iadd, 1) := dk_96 (dk_at dksX3_lines_0 8 rfl rfl)
theorem dX3_lines_9 : decode cX3_lines 9 = .ok (.ireturn, 1) := dk_172 (dk_at dksX3_lines_0 9 rfl rfl)
abbrev cX3_canBeClue : ByteArray := prog_14_method_28_code
def yX3_canBeClue : MethodName := ⟨RX3, "canBeClue", "(II)Z"⟩
def dkwX3_canBeClue_1 : List UInt8 := [182, 0, 130, 172]
abbrev dktX3_canBeClue_1 : List UInt8 := dkwX3_canBeClue_1 ++ []
def dkwX3_canBeClue_0 : List UInt8 := [27, 154, 0, 20, 42, 180, 0, 15, 28, 46, 158, 0, 7, 4, 167, 0, 12, 3, 167, 0, 8, 42, 28]
abbrev dktX3_canBeClue_0 : List UInt8 := dkwX3_canBeClue_0 ++ dktX3_canBeClue_1
theorem dksX3_canBeClue_0 : cX3_canBeClue.data.toList.drop 0 = dktX3_canBeClue_0 := by decide +kernel
theorem dksX3_canBeClue_1 : cX3_canBeClue.data.toList.drop 23 = dktX3_canBeClue_1 := dk_seg dksX3_canBeClue_0 23 rfl rfl
theorem dX3_canBeClue_0 : decode cX3_canBeClue 0 = .ok (.iload_n 1, 1) := dk_27 (dk_at dksX3_canBeClue_0 0 rfl rfl)
theorem dX3_canBeClue_1 : decode cX3_canBeClue 1 = .ok (.ifCond .ne 20, 3) := dk_154 0 20 (dk_at dksX3_canBeClue_0 1 rfl rfl)
theorem dX3_canBeClue_4 : decode cX3_canBeClue 4 = .ok (.aload_n 0, 1) := dk_42 (dk_at dksX3_canBeClue_0 4 rfl rfl)
theorem dX3_canBeClue_5 : decode cX3_canBeClue 5 = .ok (.getfield 15, 3) := dk_180 0 15 (dk_at dksX3_canBeClue_0 5 rfl rfl)
theorem dX3_canBeClue_8 : decode cX3_canBeClue 8 = .ok (.iload_n 2, 1) := dk_28 (dk_at dksX3_canBeClue_0 8 rfl rfl)
theorem dX3_canBeClue_9 : decode cX3_canBeClue 9 = .ok (.iaload, 1) := dk_46 (dk_at dksX3_canBeClue_0 9 rfl rfl)
theorem dX3_canBeClue_10 : decode cX3_canBeClue 10 = .ok (.ifCond .le 7, 3) := dk_158 0 7 (dk_at dksX3_canBeClue_0 10 rfl rfl)
theorem dX3_canBeClue_13 : decode cX3_canBeClue 13 = .ok (.iconst 1, 1) := dk_4 (dk_at dksX3_canBeClue_0 13 rfl rfl)
theorem dX3_canBeClue_14 : decode cX3_canBeClue 14 = .ok (.goto 12, 3) := dk_167 0 12 (dk_at dksX3_canBeClue_0 14 rfl rfl)
theorem dX3_canBeClue_17 : decode cX3_canBeClue 17 = .ok (.iconst 0, 1) := dk_3 (dk_at dksX3_canBeClue_0 17 rfl rfl)
theorem dX3_canBeClue_18 : decode cX3_canBeClue 18 = .ok (.goto 8, 3) := dk_167 0 8 (dk_at dksX3_canBeClue_0 18 rfl rfl)
theorem dX3_canBeClue_21 : decode cX3_canBeClue 21 = .ok (.aload_n 0, 1) := dk_42 (dk_at dksX3_canBeClue_0 21 rfl rfl)
theorem dX3_canBeClue_22 : decode cX3_canBeClue 22 = .ok (.iload_n 2, 1) := dk_28 (dk_at dksX3_canBeClue_0 22 rfl rfl)
theorem dX3_canBeClue_23 : decode cX3_canBeClue 23 = .ok (.invokevirtual 130, 3) := dk_182 0 130 (dk_at dksX3_canBeClue_1 0 rfl rfl)
theorem dX3_canBeClue_26 : decode cX3_canBeClue 26 = .ok (.ireturn, 1) := dk_172 (dk_at dksX3_canBeClue_1 3 rfl rfl)
abbrev cX3_isTold : ByteArray := prog_14_method_25_code
def yX3_isTold : MethodName := ⟨RX3, "isTold", "(I)Z"⟩
def dkwX3_isTold_1 : List UInt8 := [180, 0, 15, 29, 46, 158, 0, 7, 4, 167, 0, 4, 3, 126, 61, 132, 3, 1, 167, 255, 219, 28, 172]
abbrev dktX3_isTold_1 : List UInt8 := dkwX3_isTold_1 ++ []
def dkwX3_isTold_0 : List UInt8 := [4, 61, 3, 62, 29, 42, 182, 0, 32, 162, 0, 35, 28, 42, 29, 27, 182, 0, 124, 153, 0, 12, 42]
abbrev dktX3_isTold_0 : List UInt8 := dkwX3_isTold_0 ++ dktX3_isTold_1
theorem dksX3_isTold_0 : cX3_isTold.data.toList.drop 0 = dktX3_isTold_0 := by decide +kernel
theorem dksX3_isTold_1 : cX3_isTold.data.toList.drop 23 = dktX3_isTold_1 := dk_seg dksX3_isTold_0 23 rfl rfl
theorem dX3_isTold_0 : decode cX3_isTold 0 = .ok (.iconst 1, 1) := dk_4 (dk_at dksX3_isTold_0 0 rfl rfl)
theorem dX3_isTold_1 : decode cX3_isTold 1 = .ok (.istore_n 2, 1) := dk_61 (dk_at dksX3_isTold_0 1 rfl rfl)
theorem dX3_isTold_2 : decode cX3_isTold 2 = .ok (.iconst 0, 1) := dk_3 (dk_at dksX3_isTold_0 2 rfl rfl)
theorem dX3_isTold_3 : decode cX3_isTold 3 = .ok (.istore_n 3, 1) := dk_62 (dk_at dksX3_isTold_0 3 rfl rfl)
theorem dX3_isTold_4 : decode cX3_isTold 4 = .ok (.iload_n 3, 1) := dk_29 (dk_at dksX3_isTold_0 4 rfl rfl)
theorem dX3_isTold_5 : decode cX3_isTold 5 = .ok (.aload_n 0, 1) := dk_42 (dk_at dksX3_isTold_0 5 rfl rfl)
theorem dX3_isTold_6 : decode cX3_isTold 6 = .ok (.invokevirtual 32, 3) := dk_182 0 32 (dk_at dksX3_isTold_0 6 rfl rfl)
theorem dX3_isTold_9 : decode cX3_isTold 9 = .ok (.if_icmp .ge 35, 3) := dk_162 0 35 (dk_at dksX3_isTold_0 9 rfl rfl)
theorem dX3_isTold_12 : decode cX3_isTold 12 = .ok (.iload_n 2, 1) := dk_28 (dk_at dksX3_isTold_0 12 rfl rfl)
theorem dX3_isTold_13 : decode cX3_isTold 13 = .ok (.aload_n 0, 1) := dk_42 (dk_at dksX3_isTold_0 13 rfl rfl)
theorem dX3_isTold_14 : decode cX3_isTold 14 = .ok (.iload_n 3, 1) := dk_29 (dk_at dksX3_isTold_0 14 rfl rfl)
theorem dX3_isTold_15 : decode cX3_isTold 15 = .ok (.iload_n 1, 1) := dk_27 (dk_at dksX3_isTold_0 15 rfl rfl)
theorem dX3_isTold_16 : decode cX3_isTold 16 = .ok (.invokevirtual 124, 3) := dk_182 0 124 (dk_at dksX3_isTold_0 16 rfl rfl)
theorem dX3_isTold_19 : decode cX3_isTold 19 = .ok (.ifCond .eq 12, 3) := dk_153 0 12 (dk_at dksX3_isTold_0 19 rfl rfl)
theorem dX3_isTold_22 : decode cX3_isTold 22 = .ok (.aload_n 0, 1) := dk_42 (dk_at dksX3_isTold_0 22 rfl rfl)
theorem dX3_isTold_23 : decode cX3_isTold 23 = .ok (.getfield 15, 3) := dk_180 0 15 (dk_at dksX3_isTold_1 0 rfl rfl)
theorem dX3_isTold_26 : decode cX3_isTold 26 = .ok (.iload_n 3, 1) := dk_29 (dk_at dksX3_isTold_1 3 rfl rfl)
theorem dX3_isTold_27 : decode cX3_isTold 27 = .ok (.iaload, 1) := dk_46 (dk_at dksX3_isTold_1 4 rfl rfl)
theorem dX3_isTold_28 : decode cX3_isTold 28 = .ok (.ifCond .le 7, 3) := dk_158 0 7 (dk_at dksX3_isTold_1 5 rfl rfl)
theorem dX3_isTold_31 : decode cX3_isTold 31 = .ok (.iconst 1, 1) := dk_4 (dk_at dksX3_isTold_1 8 rfl rfl)
theorem dX3_isTold_32 : decode cX3_isTold 32 = .ok (.goto 4, 3) := dk_167 0 4 (dk_at dksX3_isTold_1 9 rfl rfl)
theorem dX3_isTold_35 : decode cX3_isTold 35 = .ok (.iconst 0, 1) := dk_3 (dk_at dksX3_isTold_1 12 rfl rfl)
theorem dX3_isTold_36 : decode cX3_isTold 36 = .ok (.iand, 1) := dk_126 (dk_at dksX3_isTold_1 13 rfl rfl)
theorem dX3_isTold_37 : decode cX3_isTold 37 = .ok (.istore_n 2, 1) := dk_61 (dk_at dksX3_isTold_1 14 rfl rfl)
theorem dX3_isTold_38 : decode cX3_isTold 38 = .ok (.iinc 3 1, 3) := dk_132 3 1 (dk_at dksX3_isTold_1 15 rfl rfl)
theorem dX3_isTold_41 : decode cX3_isTold 41 = .ok (.goto (-37), 3) := dk_167 255 219 (dk_at dksX3_isTold_1 18 rfl rfl)
theorem dX3_isTold_44 : decode cX3_isTold 44 = .ok (.iload_n 2, 1) := dk_28 (dk_at dksX3_isTold_1 21 rfl rfl)
theorem dX3_isTold_45 : decode cX3_isTold 45 = .ok (.ireturn, 1) := dk_172 (dk_at dksX3_isTold_1 22 rfl rfl)
abbrev cX3_isIn : ByteArray := prog_14_method_12_code
def yX3_isIn : MethodName := ⟨RX3, "isIn", "(II)Z"⟩
def dkwX3_isIn_1 : List UInt8 := [167, 0, 22, 42, 27, 182, 0, 63, 28, 42, 180, 0, 25, 100, 160, 0, 7, 4, 167, 0, 4, 3, 172]
abbrev dktX3_isIn_1 : List UInt8 := dkwX3_isIn_1 ++ []
def dkwX3_isIn_0 : List UInt8 := [28, 42, 180, 0, 25, 162, 0, 20, 42, 27, 182, 0, 59, 28, 160, 0, 7, 4, 167, 0, 26, 3]
abbrev dktX3_isIn_0 : List UInt8 := dkwX3_isIn_0 ++ dktX3_isIn_1
theorem dksX3_isIn_0 : cX3_isIn.data.toList.drop 0 = dktX3_isIn_0 := by decide +kernel
theorem dksX3_isIn_1 : cX3_isIn.data.toList.drop 22 = dktX3_isIn_1 := dk_seg dksX3_isIn_0 22 rfl rfl
theorem dX3_isIn_0 : decode cX3_isIn 0 = .ok (.iload_n 2, 1) := dk_28 (dk_at dksX3_isIn_0 0 rfl rfl)
theorem dX3_isIn_1 : decode cX3_isIn 1 = .ok (.aload_n 0, 1) := dk_42 (dk_at dksX3_isIn_0 1 rfl rfl)
theorem dX3_isIn_2 : decode cX3_isIn 2 = .ok (.getfield 25, 3) := dk_180 0 25 (dk_at dksX3_isIn_0 2 rfl rfl)
theorem dX3_isIn_5 : decode cX3_isIn 5 = .ok (.if_icmp .ge 20, 3) := dk_162 0 20 (dk_at dksX3_isIn_0 5 rfl rfl)
theorem dX3_isIn_8 : decode cX3_isIn 8 = .ok (.aload_n 0, 1) := dk_42 (dk_at dksX3_isIn_0 8 rfl rfl)
theorem dX3_isIn_9 : decode cX3_isIn 9 = .ok (.iload_n 1, 1) := dk_27 (dk_at dksX3_isIn_0 9 rfl rfl)
theorem dX3_isIn_10 : decode cX3_isIn 10 = .ok (.invokevirtual 59, 3) := dk_182 0 59 (dk_at dksX3_isIn_0 10 rfl rfl)
theorem dX3_isIn_13 : decode cX3_isIn 13 = .ok (.iload_n 2, 1) := dk_28 (dk_at dksX3_isIn_0 13 rfl rfl)
theorem dX3_isIn_14 : decode cX3_isIn 14 = .ok (.if_icmp .ne 7, 3) := dk_160 0 7 (dk_at dksX3_isIn_0 14 rfl rfl)
theorem dX3_isIn_17 : decode cX3_isIn 17 = .ok (.iconst 1, 1) := dk_4 (dk_at dksX3_isIn_0 17 rfl rfl)
theorem dX3_isIn_18 : decode cX3_isIn 18 = .ok (.goto 26, 3) := dk_167 0 26 (dk_at dksX3_isIn_0 18 rfl rfl)
theorem dX3_isIn_21 : decode cX3_isIn 21 = .ok (.iconst 0, 1) := dk_3 (dk_at dksX3_isIn_0 21 rfl rfl)
theorem dX3_isIn_22 : decode cX3_isIn 22 = .ok (.goto 22, 3) := dk_167 0 22 (dk_at dksX3_isIn_1 0 rfl rfl)
theorem dX3_isIn_25 : decode cX3_isIn 25 = .ok (.aload_n 0, 1) := dk_42 (dk_at dksX3_isIn_1 3 rfl rfl)
theorem dX3_isIn_26 : decode cX3_isIn 26 = .ok (.iload_n 1, 1) := dk_27 (dk_at dksX3_isIn_1 4 rfl rfl)
theorem dX3_isIn_27 : decode cX3_isIn 27 = .ok (.invokevirtual 63, 3) := dk_182 0 63 (dk_at dksX3_isIn_1 5 rfl rfl)
theorem dX3_isIn_30 : decode cX3_isIn 30 = .ok (.iload_n 2, 1) := dk_28 (dk_at dksX3_isIn_1 8 rfl rfl)
theorem dX3_isIn_31 : decode cX3_isIn 31 = .ok (.aload_n 0, 1) := dk_42 (dk_at dksX3_isIn_1 9 rfl rfl)
theorem dX3_isIn_32 : decode cX3_isIn 32 = .ok (.getfield 25, 3) := dk_180 0 25 (dk_at dksX3_isIn_1 10 rfl rfl)
theorem dX3_isIn_35 : decode cX3_isIn 35 = .ok (.isub, 1) := dk_100 (dk_at dksX3_isIn_1 13 rfl rfl)
theorem dX3_isIn_36 : decode cX3_isIn 36 = .ok (.if_icmp .ne 7, 3) := dk_160 0 7 (dk_at dksX3_isIn_1 14 rfl rfl)
theorem dX3_isIn_39 : decode cX3_isIn 39 = .ok (.iconst 1, 1) := dk_4 (dk_at dksX3_isIn_1 17 rfl rfl)
theorem dX3_isIn_40 : decode cX3_isIn 40 = .ok (.goto 4, 3) := dk_167 0 4 (dk_at dksX3_isIn_1 18 rfl rfl)
theorem dX3_isIn_43 : decode cX3_isIn 43 = .ok (.iconst 0, 1) := dk_3 (dk_at dksX3_isIn_1 21 rfl rfl)
theorem dX3_isIn_44 : decode cX3_isIn 44 = .ok (.ireturn, 1) := dk_172 (dk_at dksX3_isIn_1 22 rfl rfl)
abbrev cX3_setClue : ByteArray := prog_14_method_30_code
def yX3_setClue : MethodName := ⟨RX3, "setClue", "(IIZ)V"⟩
def dkwX3_setClue_0 : List UInt8 := [27, 154, 0, 13, 42, 180, 0, 18, 28, 29, 84, 167, 0, 10, 42, 180, 0, 22, 28, 29, 84, 177]
abbrev dktX3_setClue_0 : List UInt8 := dkwX3_setClue_0 ++ []
theorem dksX3_setClue_0 : cX3_setClue.data.toList.drop 0 = dktX3_setClue_0 := by decide +kernel
theorem dX3_setClue_0 : decode cX3_setClue 0 = .ok (.iload_n 1, 1) := dk_27 (dk_at dksX3_setClue_0 0 rfl rfl)
theorem dX3_setClue_1 : decode cX3_setClue 1 = .ok (.ifCond .ne 13, 3) := dk_154 0 13 (dk_at dksX3_setClue_0 1 rfl rfl)
theorem dX3_setClue_4 : decode cX3_setClue 4 = .ok (.aload_n 0, 1) := dk_42 (dk_at dksX3_setClue_0 4 rfl rfl)
theorem dX3_setClue_5 : decode cX3_setClue 5 = .ok (.getfield 18, 3) := dk_180 0 18 (dk_at dksX3_setClue_0 5 rfl rfl)
theorem dX3_setClue_8 : decode cX3_setClue 8 = .ok (.iload_n 2, 1) := dk_28 (dk_at dksX3_setClue_0 8 rfl rfl)
theorem dX3_setClue_9 : decode cX3_setClue 9 = .ok (.iload_n 3, 1) := dk_29 (dk_at dksX3_setClue_0 9 rfl rfl)
theorem dX3_setClue_10 : decode cX3_setClue 10 = .ok (.bastore, 1) := dk_84 (dk_at dksX3_setClue_0 10 rfl rfl)
theorem dX3_setClue_11 : decode cX3_setClue 11 = .ok (.goto 10, 3) := dk_167 0 10 (dk_at dksX3_setClue_0 11 rfl rfl)
theorem dX3_setClue_14 : decode cX3_setClue 14 = .ok (.aload_n 0, 1) := dk_42 (dk_at dksX3_setClue_0 14 rfl rfl)
theorem dX3_setClue_15 : decode cX3_setClue 15 = .ok (.getfield 22, 3) := dk_180 0 22 (dk_at dksX3_setClue_0 15 rfl rfl)
theorem dX3_setClue_18 : decode cX3_setClue 18 = .ok (.iload_n 2, 1) := dk_28 (dk_at dksX3_setClue_0 18 rfl rfl)
theorem dX3_setClue_19 : decode cX3_setClue 19 = .ok (.iload_n 3, 1) := dk_29 (dk_at dksX3_setClue_0 19 rfl rfl)
theorem dX3_setClue_20 : decode cX3_setClue 20 = .ok (.bastore, 1) := dk_84 (dk_at dksX3_setClue_0 20 rfl rfl)
theorem dX3_setClue_21 : decode cX3_setClue 21 = .ok (.return_, 1) := dk_177 (dk_at dksX3_setClue_0 21 rfl rfl)
abbrev cX3_clues : ByteArray := prog_14_method_32_code
def yX3_clues : MethodName := ⟨RX3, "clues", "(I)I"⟩
def dkwX3_clues_1 : List UInt8 := [167, 0, 4, 3, 96, 61, 132, 3, 1, 167, 255, 227, 28, 172]
abbrev dktX3_clues_1 : List UInt8 := dkwX3_clues_1 ++ []
def dkwX3_clues_0 : List UInt8 := [3, 61, 3, 62, 29, 42, 27, 182, 0, 127, 162, 0, 26, 28, 42, 27, 29, 182, 0, 137, 153, 0, 7, 4]
abbrev dktX3_clues_0 : List UInt8 := dkwX3_clues_0 ++ dktX3_clues_1
theorem dksX3_clues_0 : cX3_clues.data.toList.drop 0 = dktX3_clues_0 := by decide +kernel
theorem dksX3_clues_1 : cX3_clues.data.toList.drop 24 = dktX3_clues_1 := dk_seg dksX3_clues_0 24 rfl rfl
theorem dX3_clues_0 : decode cX3_clues 0 = .ok (.iconst 0, 1) := dk_3 (dk_at dksX3_clues_0 0 rfl rfl)
theorem dX3_clues_1 : decode cX3_clues 1 = .ok (.istore_n 2, 1) := dk_61 (dk_at dksX3_clues_0 1 rfl rfl)
theorem dX3_clues_2 : decode cX3_clues 2 = .ok (.iconst 0, 1) := dk_3 (dk_at dksX3_clues_0 2 rfl rfl)
theorem dX3_clues_3 : decode cX3_clues 3 = .ok (.istore_n 3, 1) := dk_62 (dk_at dksX3_clues_0 3 rfl rfl)
theorem dX3_clues_4 : decode cX3_clues 4 = .ok (.iload_n 3, 1) := dk_29 (dk_at dksX3_clues_0 4 rfl rfl)
theorem dX3_clues_5 : decode cX3_clues 5 = .ok (.aload_n 0, 1) := dk_42 (dk_at dksX3_clues_0 5 rfl rfl)
theorem dX3_clues_6 : decode cX3_clues 6 = .ok (.iload_n 1, 1) := dk_27 (dk_at dksX3_clues_0 6 rfl rfl)
theorem dX3_clues_7 : decode cX3_clues 7 = .ok (.invokevirtual 127, 3) := dk_182 0 127 (dk_at dksX3_clues_0 7 rfl rfl)
theorem dX3_clues_10 : decode cX3_clues 10 = .ok (.if_icmp .ge 26, 3) := dk_162 0 26 (dk_at dksX3_clues_0 10 rfl rfl)
theorem dX3_clues_13 : decode cX3_clues 13 = .ok (.iload_n 2, 1) := dk_28 (dk_at dksX3_clues_0 13 rfl rfl)
theorem dX3_clues_14 : decode cX3_clues 14 = .ok (.aload_n 0, 1) := dk_42 (dk_at dksX3_clues_0 14 rfl rfl)
theorem dX3_clues_15 : decode cX3_clues 15 = .ok (.iload_n 1, 1) := dk_27 (dk_at dksX3_clues_0 15 rfl rfl)
theorem dX3_clues_16 : decode cX3_clues 16 = .ok (.iload_n 3, 1) := dk_29 (dk_at dksX3_clues_0 16 rfl rfl)
theorem dX3_clues_17 : decode cX3_clues 17 = .ok (.invokevirtual 137, 3) := dk_182 0 137 (dk_at dksX3_clues_0 17 rfl rfl)
theorem dX3_clues_20 : decode cX3_clues 20 = .ok (.ifCond .eq 7, 3) := dk_153 0 7 (dk_at dksX3_clues_0 20 rfl rfl)
theorem dX3_clues_23 : decode cX3_clues 23 = .ok (.iconst 1, 1) := dk_4 (dk_at dksX3_clues_0 23 rfl rfl)
theorem dX3_clues_24 : decode cX3_clues 24 = .ok (.goto 4, 3) := dk_167 0 4 (dk_at dksX3_clues_1 0 rfl rfl)
theorem dX3_clues_27 : decode cX3_clues 27 = .ok (.iconst 0, 1) := dk_3 (dk_at dksX3_clues_1 3 rfl rfl)
theorem dX3_clues_28 : decode cX3_clues 28 = .ok (.iadd, 1) := dk_96 (dk_at dksX3_clues_1 4 rfl rfl)
theorem dX3_clues_29 : decode cX3_clues 29 = .ok (.istore_n 2, 1) := dk_61 (dk_at dksX3_clues_1 5 rfl rfl)
theorem dX3_clues_30 : decode cX3_clues 30 = .ok (.iinc 3 1, 3) := dk_132 3 1 (dk_at dksX3_clues_1 6 rfl rfl)
theorem dX3_clues_33 : decode cX3_clues 33 = .ok (.goto (-29), 3) := dk_167 255 227 (dk_at dksX3_clues_1 9 rfl rfl)
theorem dX3_clues_36 : decode cX3_clues 36 = .ok (.iload_n 2, 1) := dk_28 (dk_at dksX3_clues_1 12 rfl rfl)
theorem dX3_clues_37 : decode cX3_clues 37 = .ok (.ireturn, 1) := dk_172 (dk_at dksX3_clues_1 13 rfl rfl)
abbrev cX3_isClue : ByteArray := prog_14_method_29_code
def yX3_isClue : MethodName := ⟨RX3, "isClue", "(II)Z"⟩
def dkwX3_isClue_0 : List UInt8 := [27, 154, 0, 12, 42, 180, 0, 18, 28, 51, 167, 0, 9, 42, 180, 0, 22, 28, 51, 172]
abbrev dktX3_isClue_0 : List UInt8 := dkwX3_isClue_0 ++ []
theorem dksX3_isClue_0 : cX3_isClue.data.toList.drop 0 = dktX3_isClue_0 := by decide +kernel
theorem dX3_isClue_0 : decode cX3_isClue 0 = .ok (.iload_n 1, 1) := dk_27 (dk_at dksX3_isClue_0 0 rfl rfl)
theorem dX3_isClue_1 : decode cX3_isClue 1 = .ok (.ifCond .ne 12, 3) := dk_154 0 12 (dk_at dksX3_isClue_0 1 rfl rfl)
theorem dX3_isClue_4 : decode cX3_isClue 4 = .ok (.aload_n 0, 1) := dk_42 (dk_at dksX3_isClue_0 4 rfl rfl)
theorem dX3_isClue_5 : decode cX3_isClue 5 = .ok (.getfield 18, 3) := dk_180 0 18 (dk_at dksX3_isClue_0 5 rfl rfl)
theorem dX3_isClue_8 : decode cX3_isClue 8 = .ok (.iload_n 2, 1) := dk_28 (dk_at dksX3_isClue_0 8 rfl rfl)
theorem dX3_isClue_9 : decode cX3_isClue 9 = .ok (.baload, 1) := dk_51 (dk_at dksX3_isClue_0 9 rfl rfl)
theorem dX3_isClue_10 : decode cX3_isClue 10 = .ok (.goto 9, 3) := dk_167 0 9 (dk_at dksX3_isClue_0 10 rfl rfl)
theorem dX3_isClue_13 : decode cX3_isClue 13 = .ok (.aload_n 0, 1) := dk_42 (dk_at dksX3_isClue_0 13 rfl rfl)
theorem dX3_isClue_14 : decode cX3_isClue 14 = .ok (.getfield 22, 3) := dk_180 0 22 (dk_at dksX3_isClue_0 14 rfl rfl)
theorem dX3_isClue_17 : decode cX3_isClue 17 = .ok (.iload_n 2, 1) := dk_28 (dk_at dksX3_isClue_0 17 rfl rfl)
theorem dX3_isClue_18 : decode cX3_isClue 18 = .ok (.baload, 1) := dk_51 (dk_at dksX3_isClue_0 18 rfl rfl)
theorem dX3_isClue_19 : decode cX3_isClue 19 = .ok (.ireturn, 1) := dk_172 (dk_at dksX3_isClue_0 19 rfl rfl)
abbrev cX3_sum : ByteArray := prog_14_method_24_code
def yX3_sum : MethodName := ⟨RX3, "sum", "(I)I"⟩
def dkwX3_sum_1 : List UInt8 := [180, 0, 15, 29, 46, 167, 0, 4, 3, 96, 61, 132, 3, 1, 167, 255, 223, 28, 172]
abbrev dktX3_sum_1 : List UInt8 := dkwX3_sum_1 ++ []
def dkwX3_sum_0 : List UInt8 := [3, 61, 3, 62, 29, 42, 182, 0, 32, 162, 0, 31, 28, 42, 29, 27, 182, 0, 124, 153, 0, 12, 42]
abbrev dktX3_sum_0 : List UInt8 := dkwX3_sum_0 ++ dktX3_sum_1
theorem dksX3_sum_0 : cX3_sum.data.toList.drop 0 = dktX3_sum_0 := by decide +kernel
theorem dksX3_sum_1 : cX3_sum.data.toList.drop 23 = dktX3_sum_1 := dk_seg dksX3_sum_0 23 rfl rfl
theorem dX3_sum_0 : decode cX3_sum 0 = .ok (.iconst 0, 1) := dk_3 (dk_at dksX3_sum_0 0 rfl rfl)
theorem dX3_sum_1 : decode cX3_sum 1 = .ok (.istore_n 2, 1) := dk_61 (dk_at dksX3_sum_0 1 rfl rfl)
theorem dX3_sum_2 : decode cX3_sum 2 = .ok (.iconst 0, 1) := dk_3 (dk_at dksX3_sum_0 2 rfl rfl)
theorem dX3_sum_3 : decode cX3_sum 3 = .ok (.istore_n 3, 1) := dk_62 (dk_at dksX3_sum_0 3 rfl rfl)
theorem dX3_sum_4 : decode cX3_sum 4 = .ok (.iload_n 3, 1) := dk_29 (dk_at dksX3_sum_0 4 rfl rfl)
theorem dX3_sum_5 : decode cX3_sum 5 = .ok (.aload_n 0, 1) := dk_42 (dk_at dksX3_sum_0 5 rfl rfl)
theorem dX3_sum_6 : decode cX3_sum 6 = .ok (.invokevirtual 32, 3) := dk_182 0 32 (dk_at dksX3_sum_0 6 rfl rfl)
theorem dX3_sum_9 : decode cX3_sum 9 = .ok (.if_icmp .ge 31, 3) := dk_162 0 31 (dk_at dksX3_sum_0 9 rfl rfl)
theorem dX3_sum_12 : decode cX3_sum 12 = .ok (.iload_n 2, 1) := dk_28 (dk_at dksX3_sum_0 12 rfl rfl)
theorem dX3_sum_13 : decode cX3_sum 13 = .ok (.aload_n 0, 1) := dk_42 (dk_at dksX3_sum_0 13 rfl rfl)
theorem dX3_sum_14 : decode cX3_sum 14 = .ok (.iload_n 3, 1) := dk_29 (dk_at dksX3_sum_0 14 rfl rfl)
theorem dX3_sum_15 : decode cX3_sum 15 = .ok (.iload_n 1, 1) := dk_27 (dk_at dksX3_sum_0 15 rfl rfl)
theorem dX3_sum_16 : decode cX3_sum 16 = .ok (.invokevirtual 124, 3) := dk_182 0 124 (dk_at dksX3_sum_0 16 rfl rfl)
theorem dX3_sum_19 : decode cX3_sum 19 = .ok (.ifCond .eq 12, 3) := dk_153 0 12 (dk_at dksX3_sum_0 19 rfl rfl)
theorem dX3_sum_22 : decode cX3_sum 22 = .ok (.aload_n 0, 1) := dk_42 (dk_at dksX3_sum_0 22 rfl rfl)
theorem dX3_sum_23 : decode cX3_sum 23 = .ok (.getfield 15, 3) := dk_180 0 15 (dk_at dksX3_sum_1 0 rfl rfl)
theorem dX3_sum_26 : decode cX3_sum 26 = .ok (.iload_n 3, 1) := dk_29 (dk_at dksX3_sum_1 3 rfl rfl)
theorem dX3_sum_27 : decode cX3_sum 27 = .ok (.iaload, 1) := dk_46 (dk_at dksX3_sum_1 4 rfl rfl)
theorem dX3_sum_28 : decode cX3_sum 28 = .ok (.goto 4, 3) := dk_167 0 4 (dk_at dksX3_sum_1 5 rfl rfl)
theorem dX3_sum_31 : decode cX3_sum 31 = .ok (.iconst 0, 1) := dk_3 (dk_at dksX3_sum_1 8 rfl rfl)
theorem dX3_sum_32 : decode cX3_sum 32 = .ok (.iadd, 1) := dk_96 (dk_at dksX3_sum_1 9 rfl rfl)
theorem dX3_sum_33 : decode cX3_sum 33 = .ok (.istore_n 2, 1) := dk_61 (dk_at dksX3_sum_1 10 rfl rfl)
theorem dX3_sum_34 : decode cX3_sum 34 = .ok (.iinc 3 1, 3) := dk_132 3 1 (dk_at dksX3_sum_1 11 rfl rfl)
theorem dX3_sum_37 : decode cX3_sum 37 = .ok (.goto (-33), 3) := dk_167 255 223 (dk_at dksX3_sum_1 14 rfl rfl)
theorem dX3_sum_40 : decode cX3_sum 40 = .ok (.iload_n 2, 1) := dk_28 (dk_at dksX3_sum_1 17 rfl rfl)
theorem dX3_sum_41 : decode cX3_sum 41 = .ok (.ireturn, 1) := dk_172 (dk_at dksX3_sum_1 18 rfl rfl)
abbrev cX3_value : ByteArray := prog_14_method_31_code
def yX3_value : MethodName := ⟨RX3, "value", "(II)I"⟩
def dkwX3_value_0 : List UInt8 := [27, 154, 0, 12, 42, 180, 0, 15, 28, 46, 167, 0, 8, 42, 28, 182, 0, 134, 172]
abbrev dktX3_value_0 : List UInt8 := dkwX3_value_0 ++ []
theorem dksX3_value_0 : cX3_value.data.toList.drop 0 = dktX3_value_0 := by decide +kernel
theorem dX3_value_0 : decode cX3_value 0 = .ok (.iload_n 1, 1) := dk_27 (dk_at dksX3_value_0 0 rfl rfl)
theorem dX3_value_1 : decode cX3_value 1 = .ok (.ifCond .ne 12, 3) := dk_154 0 12 (dk_at dksX3_value_0 1 rfl rfl)
theorem dX3_value_4 : decode cX3_value 4 = .ok (.aload_n 0, 1) := dk_42 (dk_at dksX3_value_0 4 rfl rfl)
theorem dX3_value_5 : decode cX3_value 5 = .ok (.getfield 15, 3) := dk_180 0 15 (dk_at dksX3_value_0 5 rfl rfl)
theorem dX3_value_8 : decode cX3_value 8 = .ok (.iload_n 2, 1) := dk_28 (dk_at dksX3_value_0 8 rfl rfl)
theorem dX3_value_9 : decode cX3_value 9 = .ok (.iaload, 1) := dk_46 (dk_at dksX3_value_0 9 rfl rfl)
theorem dX3_value_10 : decode cX3_value 10 = .ok (.goto 8, 3) := dk_167 0 8 (dk_at dksX3_value_0 10 rfl rfl)
theorem dX3_value_13 : decode cX3_value 13 = .ok (.aload_n 0, 1) := dk_42 (dk_at dksX3_value_0 13 rfl rfl)
theorem dX3_value_14 : decode cX3_value 14 = .ok (.iload_n 2, 1) := dk_28 (dk_at dksX3_value_0 14 rfl rfl)
theorem dX3_value_15 : decode cX3_value 15 = .ok (.invokevirtual 134, 3) := dk_182 0 134 (dk_at dksX3_value_0 15 rfl rfl)
theorem dX3_value_18 : decode cX3_value 18 = .ok (.ireturn, 1) := dk_172 (dk_at dksX3_value_0 18 rfl rfl)
abbrev cX3_clues_2 : ByteArray := prog_14_method_33_code
def yX3_clues_2 : MethodName := ⟨RX3, "clues", "()I"⟩
def dkwX3_clues_2_0 : List UInt8 := [42, 3, 182, 0, 140, 42, 4, 182, 0, 140, 96, 172]
abbrev dktX3_clues_2_0 : List UInt8 := dkwX3_clues_2_0 ++ []
theorem dksX3_clues_2_0 : cX3_clues_2.data.toList.drop 0 = dktX3_clues_2_0 := by decide +kernel
theorem dX3_clues_2_0 : decode cX3_clues_2 0 = .ok (.aload_n 0, 1) := dk_42 (dk_at dksX3_clues_2_0 0 rfl rfl)
theorem dX3_clues_2_1 : decode cX3_clues_2 1 = .ok (.iconst 0, 1) := dk_3 (dk_at dksX3_clues_2_0 1 rfl rfl)
theorem dX3_clues_2_2 : decode cX3_clues_2 2 = .ok (.invokevirtual 140, 3) := dk_182 0 140 (dk_at dksX3_clues_2_0 2 rfl rfl)
theorem dX3_clues_2_5 : decode cX3_clues_2 5 = .ok (.aload_n 0, 1) := dk_42 (dk_at dksX3_clues_2_0 5 rfl rfl)
theorem dX3_clues_2_6 : decode cX3_clues_2 6 = .ok (.iconst 1, 1) := dk_4 (dk_at dksX3_clues_2_0 6 rfl rfl)
theorem dX3_clues_2_7 : decode cX3_clues_2 7 = .ok (.invokevirtual 140, 3) := dk_182 0 140 (dk_at dksX3_clues_2_0 7 rfl rfl)
theorem dX3_clues_2_10 : decode cX3_clues_2 10 = .ok (.iadd, 1) := dk_96 (dk_at dksX3_clues_2_0 10 rfl rfl)
theorem dX3_clues_2_11 : decode cX3_clues_2 11 = .ok (.ireturn, 1) := dk_172 (dk_at dksX3_clues_2_0 11 rfl rfl)
abbrev cX3_isProper : ByteArray := prog_14_method_19_code
def yX3_isProper : MethodName := ⟨RX3, "isProper", "()Z"⟩
def dkwX3_isProper_2 : List UInt8 := [167, 255, 215, 27, 172]
abbrev dktX3_isProper_2 : List UInt8 := dkwX3_isProper_2 ++ []
def dkwX3_isProper_1 : List UInt8 := [163, 0, 17, 42, 28, 16, 157, 182, 0, 113, 153, 0, 7, 4, 167, 0, 4, 3, 126, 60, 132, 2, 1]
abbrev dktX3_isProper_1 : List UInt8 := dkwX3_isProper_1 ++ dktX3_isProper_2
def dkwX3_isProper_0 : List UInt8 := [4, 60, 3, 61, 28, 42, 182, 0, 111, 162, 0, 39, 27, 42, 180, 0, 48, 28, 50, 190, 16, 6]
abbrev dktX3_isProper_0 : List UInt8 := dkwX3_isProper_0 ++ dktX3_isProper_1
theorem dksX3_isProper_0 : cX3_isProper.data.toList.drop 0 = dktX3_isProper_0 := by decide +kernel
theorem dksX3_isProper_1 : cX3_isProper.data.toList.drop 22 = dktX3_isProper_1 := dk_seg dksX3_isProper_0 22 rfl rfl
theorem dksX3_isProper_2 : cX3_isProper.data.toList.drop 45 = dktX3_isProper_2 := dk_seg dksX3_isProper_1 23 rfl rfl
theorem dX3_isProper_0 : decode cX3_isProper 0 = .ok (.iconst 1, 1) := dk_4 (dk_at dksX3_isProper_0 0 rfl rfl)
theorem dX3_isProper_1 : decode cX3_isProper 1 = .ok (.istore_n 1, 1) := dk_60 (dk_at dksX3_isProper_0 1 rfl rfl)
theorem dX3_isProper_2 : decode cX3_isProper 2 = .ok (.iconst 0, 1) := dk_3 (dk_at dksX3_isProper_0 2 rfl rfl)
theorem dX3_isProper_3 : decode cX3_isProper 3 = .ok (.istore_n 2, 1) := dk_61 (dk_at dksX3_isProper_0 3 rfl rfl)
theorem dX3_isProper_4 : decode cX3_isProper 4 = .ok (.iload_n 2, 1) := dk_28 (dk_at dksX3_isProper_0 4 rfl rfl)
theorem dX3_isProper_5 : decode cX3_isProper 5 = .ok (.aload_n 0, 1) := dk_42 (dk_at dksX3_isProper_0 5 rfl rfl)
theorem dX3_isProper_6 : decode cX3_isProper 6 = .ok (.invokevirtual 111, 3) := dk_182 0 111 (dk_at dksX3_isProper_0 6 rfl rfl)
theorem dX3_isProper_9 : decode cX3_isProper 9 = .ok (.if_icmp .ge 39, 3) := dk_162 0 39 (dk_at dksX3_isProper_0 9 rfl rfl)
theorem dX3_isProper_12 : decode cX3_isProper 12 = .ok (.iload_n 1, 1) := dk_27 (dk_at dksX3_isProper_0 12 rfl rfl)
theorem dX3_isProper_13 : decode cX3_isProper 13 = .ok (.aload_n 0, 1) := dk_42 (dk_at dksX3_isProper_0 13 rfl rfl)
theorem dX3_isProper_14 : decode cX3_isProper 14 = .ok (.getfield 48, 3) := dk_180 0 48 (dk_at dksX3_isProper_0 14 rfl rfl)
theorem dX3_isProper_17 : decode cX3_isProper 17 = .ok (.iload_n 2, 1) := dk_28 (dk_at dksX3_isProper_0 17 rfl rfl)
theorem dX3_isProper_18 : decode cX3_isProper 18 = .ok (.aaload, 1) := dk_50 (dk_at dksX3_isProper_0 18 rfl rfl)
theorem dX3_isProper_19 : decode cX3_isProper 19 = .ok (.arraylength, 1) := dk_190 (dk_at dksX3_isProper_0 19 rfl rfl)
theorem dX3_isProper_20 : decode cX3_isProper 20 = .ok (.bipush 6, 2) := dk_16 6 (dk_at dksX3_isProper_0 20 rfl rfl)
theorem dX3_isProper_22 : decode cX3_isProper 22 = .ok (.if_icmp .gt 17, 3) := dk_163 0 17 (dk_at dksX3_isProper_1 0 rfl rfl)
theorem dX3_isProper_25 : decode cX3_isProper 25 = .ok (.aload_n 0, 1) := dk_42 (dk_at dksX3_isProper_1 3 rfl rfl)
theorem dX3_isProper_26 : decode cX3_isProper 26 = .ok (.iload_n 2, 1) := dk_28 (dk_at dksX3_isProper_1 4 rfl rfl)
theorem dX3_isProper_27 : decode cX3_isProper 27 = .ok (.bipush (-99), 2) := dk_16 157 (dk_at dksX3_isProper_1 5 rfl rfl)
theorem dX3_isProper_29 : decode cX3_isProper 29 = .ok (.invokevirtual 113, 3) := dk_182 0 113 (dk_at dksX3_isProper_1 7 rfl rfl)
theorem dX3_isProper_32 : decode cX3_isProper 32 = .ok (.ifCond .eq 7, 3) := dk_153 0 7 (dk_at dksX3_isProper_1 10 rfl rfl)
theorem dX3_isProper_35 : decode cX3_isProper 35 = .ok (.iconst 1, 1) := dk_4 (dk_at dksX3_isProper_1 13 rfl rfl)
theorem dX3_isProper_36 : decode cX3_isProper 36 = .ok (.goto 4, 3) := dk_167 0 4 (dk_at dksX3_isProper_1 14 rfl rfl)
theorem dX3_isProper_39 : decode cX3_isProper 39 = .ok (.iconst 0, 1) := dk_3 (dk_at dksX3_isProper_1 17 rfl rfl)
theorem dX3_isProper_40 : decode cX3_isProper 40 = .ok (.iand, 1) := dk_126 (dk_at dksX3_isProper_1 18 rfl rfl)
theorem dX3_isProper_41 : decode cX3_isProper 41 = .ok (.istore_n 1, 1) := dk_60 (dk_at dksX3_isProper_1 19 rfl rfl)
theorem dX3_isProper_42 : decode cX3_isProper 42 = .ok (.iinc 2 1, 3) := dk_132 2 1 (dk_at dksX3_isProper_1 20 rfl rfl)
theorem dX3_isProper_45 : decode cX3_isProper 45 = .ok (.goto (-41), 3) := dk_167 255 215 (dk_at dksX3_isProper_2 0 rfl rfl)
theorem dX3_isProper_48 : decode cX3_isProper 48 = .ok (.iload_n 1, 1) := dk_27 (dk_at dksX3_isProper_2 3 rfl rfl)
theorem dX3_isProper_49 : decode cX3_isProper 49 = .ok (.ireturn, 1) := dk_172 (dk_at dksX3_isProper_2 4 rfl rfl)
abbrev cX3_isLine : ByteArray := prog_14_method_8_code
def yX3_isLine : MethodName := ⟨RX3, "isLine", "(I)Z"⟩
def dkwX3_isLine_0 : List UInt8 := [27, 3, 42, 182, 0, 56, 4, 100, 184, 0, 52, 172]
abbrev dktX3_isLine_0 : List UInt8 := dkwX3_isLine_0 ++ []
theorem dksX3_isLine_0 : cX3_isLine.data.toList.drop 0 = dktX3_isLine_0 := by decide +kernel
theorem dX3_isLine_0 : decode cX3_isLine 0 = .ok (.iload_n 1, 1) := dk_27 (dk_at dksX3_isLine_0 0 rfl rfl)
theorem dX3_isLine_1 : decode cX3_isLine 1 = .ok (.iconst 0, 1) := dk_3 (dk_at dksX3_isLine_0 1 rfl rfl)
theorem dX3_isLine_2 : decode cX3_isLine 2 = .ok (.aload_n 0, 1) := dk_42 (dk_at dksX3_isLine_0 2 rfl rfl)
theorem dX3_isLine_3 : decode cX3_isLine 3 = .ok (.invokevirtual 56, 3) := dk_182 0 56 (dk_at dksX3_isLine_0 3 rfl rfl)
theorem dX3_isLine_6 : decode cX3_isLine 6 = .ok (.iconst 1, 1) := dk_4 (dk_at dksX3_isLine_0 6 rfl rfl)
theorem dX3_isLine_7 : decode cX3_isLine 7 = .ok (.isub, 1) := dk_100 (dk_at dksX3_isLine_0 7 rfl rfl)
theorem dX3_isLine_8 : decode cX3_isLine 8 = .ok (.invokestatic 52, 3) := dk_184 0 52 (dk_at dksX3_isLine_0 8 rfl rfl)
theorem dX3_isLine_11 : decode cX3_isLine 11 = .ok (.ireturn, 1) := dk_172 (dk_at dksX3_isLine_0 11 rfl rfl)
theorem q128 : (Jvm.Cond.initialized "EdgeSums$Page") ∈ lw_all := lw_g (lw_at lw_m1 4 rfl) rfl
theorem q196 : (Jvm.Cond.instantiable "EdgeSums$Page" (7 : Nat)) ∈ lw_all := lw_g (lw_at lw_m1 72 rfl) rfl
theorem q198 : (Jvm.Cond.instanceMethod ({ cls := "EdgeSums$Page", name := "<init>", desc := "(II)V" } : Jvm.MethodName)) ∈ lw_all := lw_g (lw_at lw_m1 74 rfl) rfl
theorem q199 : (Jvm.Cond.code ({ cls := "EdgeSums$Page", name := "<init>", desc := "(II)V" } : Jvm.MethodName) prog_14_method_1_code (4 : Nat) (Option.none : Option Jvm.ClassFile.FieldType)) ∈ lw_all := lw_g (lw_at lw_m1 75 rfl) rfl
theorem q200 : (Jvm.Cond.methodLink "EdgeSums$Page" (3 : Nat) ({ cls := "java/lang/Object", name := "<init>", desc := "()V" } : Jvm.MethodName)) ∈ lw_all := lw_g (lw_at lw_m1 76 rfl) rfl
theorem q201 : (Jvm.Cond.methodLink "EdgeSums$Page" (32 : Nat) ({ cls := "EdgeSums$Page", name := "cells", desc := "()I" } : Jvm.MethodName)) ∈ lw_all := lw_g (lw_at lw_m1 77 rfl) rfl
theorem q202 : (Jvm.Cond.instanceMethod ({ cls := "EdgeSums$Page", name := "cells", desc := "()I" } : Jvm.MethodName)) ∈ lw_all := lw_g (lw_at lw_m1 78 rfl) rfl
theorem q203 : (Jvm.Cond.selects "EdgeSums$Page" ({ cls := "EdgeSums$Page", name := "cells", desc := "()I" } : Jvm.MethodName) ({ cls := "EdgeSums$Page", name := "cells", desc := "()I" } : Jvm.MethodName)) ∈ lw_all := lw_g (lw_at lw_m1 79 rfl) rfl
theorem q204 : (Jvm.Cond.code ({ cls := "EdgeSums$Page", name := "cells", desc := "()I" } : Jvm.MethodName) prog_14_method_4_code (1 : Nat) (Option.some Jvm.ClassFile.FieldType.int)) ∈ lw_all := lw_g (lw_at lw_m1 80 rfl) rfl
theorem q205 : (Jvm.Cond.methodLink "EdgeSums$Page" (36 : Nat) ({ cls := "EdgeSums$Page", name := "renumber", desc := "()V" } : Jvm.MethodName)) ∈ lw_all := lw_g (lw_at lw_m1 81 rfl) rfl
theorem q206 : (Jvm.Cond.instanceMethod ({ cls := "EdgeSums$Page", name := "renumber", desc := "()V" } : Jvm.MethodName)) ∈ lw_all := lw_g (lw_at lw_m1 82 rfl) rfl
theorem q207 : (Jvm.Cond.selects "EdgeSums$Page" ({ cls := "EdgeSums$Page", name := "renumber", desc := "()V" } : Jvm.MethodName) ({ cls := "EdgeSums$Page", name := "renumber", desc := "()V" } : Jvm.MethodName)) ∈ lw_all := lw_g (lw_at lw_m1 83 rfl) rfl
theorem q208 : (Jvm.Cond.code ({ cls := "EdgeSums$Page", name := "renumber", desc := "()V" } : Jvm.MethodName) prog_14_method_17_code (5 : Nat) (Option.none : Option Jvm.ClassFile.FieldType)) ∈ lw_all := lw_g (lw_at lw_m1 84 rfl) rfl
theorem q209 : (Jvm.Cond.classLink "EdgeSums$Page" (77 : Nat) "java/util/TreeMap") ∈ lw_all := lw_g (lw_at lw_m1 85 rfl) rfl
theorem q211 : (Jvm.Cond.methodLink "EdgeSums$Page" (79 : Nat) ({ cls := "java/util/TreeMap", name := "<init>", desc := "()V" } : Jvm.MethodName)) ∈ lw_all := lw_g (lw_at lw_m1 87 rfl) rfl
theorem q244 : (Jvm.Cond.methodLink "EdgeSums$Page" (80 : Nat) ({ cls := "java/lang/Integer", name := "valueOf", desc := "(I)Ljava/lang/Integer;" } : Jvm.MethodName)) ∈ lw_all := lw_g (lw_at lw_m1 120 rfl) rfl
theorem q264 : (Jvm.Cond.methodLink "EdgeSums$Page" (86 : Nat) ({ cls := "java/util/TreeMap", name := "containsKey", desc := "(Ljava/lang/Object;)Z" } : Jvm.MethodName)) ∈ lw_all := lw_g (lw_at lw_m1 140 rfl) rfl
theorem q593 : (Jvm.Cond.methodLink "EdgeSums$Page" (90 : Nat) ({ cls := "java/util/TreeMap", name := "size", desc := "()I" } : Jvm.MethodName)) ∈ lw_all := lw_g (lw_at lw_m2 229 rfl) rfl
theorem q597 : (Jvm.Cond.methodLink "EdgeSums$Page" (92 : Nat) ({ cls := "java/util/TreeMap", name := "put", desc := "(Ljava/lang/Object;Ljava/lang/Object;)Ljava/lang/Object;" } : Jvm.MethodName)) ∈ lw_all := lw_g (lw_at lw_m2 233 rfl) rfl
theorem q673 : (Jvm.Cond.classLink "EdgeSums$Page" (81 : Nat) "java/lang/Integer") ∈ lw_all := lw_g (lw_at lw_m3 69 rfl) rfl
theorem q674 : (Jvm.Cond.methodLink "EdgeSums$Page" (96 : Nat) ({ cls := "java/util/TreeMap", name := "get", desc := "(Ljava/lang/Object;)Ljava/lang/Object;" } : Jvm.MethodName)) ∈ lw_all := lw_g (lw_at lw_m3 70 rfl) rfl
theorem q678 : (Jvm.Cond.methodLink "EdgeSums$Page" (100 : Nat) ({ cls := "java/lang/Integer", name := "intValue", desc := "()I" } : Jvm.MethodName)) ∈ lw_all := lw_g (lw_at lw_m3 74 rfl) rfl
theorem q679 : (Jvm.Cond.classLink "EdgeSums$Page" (103 : Nat) "[I") ∈ lw_all := lw_g (lw_at lw_m3 75 rfl) rfl
theorem q681 : (Jvm.Cond.methodLink "EdgeSums$Page" (71 : Nat) ({ cls := "EdgeSums$Page", name := "members", desc := "(I)[I" } : Jvm.MethodName)) ∈ lw_all := lw_g (lw_at lw_m3 77 rfl) rfl
theorem q682 : (Jvm.Cond.instanceMethod ({ cls := "EdgeSums$Page", name := "members", desc := "(I)[I" } : Jvm.MethodName)) ∈ lw_all := lw_g (lw_at lw_m3 78 rfl) rfl
theorem q683 : (Jvm.Cond.selects "EdgeSums$Page" ({ cls := "EdgeSums$Page", name := "members", desc := "(I)[I" } : Jvm.MethodName) ({ cls := "EdgeSums$Page", name := "members", desc := "(I)[I" } : Jvm.MethodName)) ∈ lw_all := lw_g (lw_at lw_m3 79 rfl) rfl
theorem q684 : (Jvm.Cond.code ({ cls := "EdgeSums$Page", name := "members", desc := "(I)[I" } : Jvm.MethodName) prog_14_method_14_code (2 : Nat) (Option.some (Jvm.ClassFile.FieldType.array Jvm.ClassFile.FieldType.int))) ∈ lw_all := lw_g (lw_at lw_m3 80 rfl) rfl
theorem q685 : (Jvm.Cond.fieldLink "EdgeSums$Page" (25 : Nat) "EdgeSums$Page" "rows" "I") ∈ lw_all := lw_g (lw_at lw_m3 81 rfl) rfl
theorem q688 : (Jvm.Cond.fieldLink "EdgeSums$Page" (29 : Nat) "EdgeSums$Page" "columns" "I") ∈ lw_all := lw_g (lw_at lw_m3 84 rfl) rfl
theorem q691 : (Jvm.Cond.fieldLink "EdgeSums$Page" (9 : Nat) "EdgeSums$Page" "blocks" "[I") ∈ lw_all := lw_g (lw_at lw_m3 87 rfl) rfl
theorem q694 : (Jvm.Cond.fieldLink "EdgeSums$Page" (15 : Nat) "EdgeSums$Page" "numbers" "[I") ∈ lw_all := lw_g (lw_at lw_m3 90 rfl) rfl
theorem q697 : (Jvm.Cond.fieldLink "EdgeSums$Page" (18 : Nat) "EdgeSums$Page" "given" "[Z") ∈ lw_all := lw_g (lw_at lw_m3 93 rfl) rfl
theorem q700 : (Jvm.Cond.fieldLink "EdgeSums$Page" (22 : Nat) "EdgeSums$Page" "shown" "[Z") ∈ lw_all := lw_g (lw_at lw_m3 96 rfl) rfl
theorem q703 : (Jvm.Cond.fieldLink "EdgeSums$Page" (48 : Nat) "EdgeSums$Page" "members" "[[I") ∈ lw_all := lw_g (lw_at lw_m3 99 rfl) rfl
theorem q705 : (Jvm.Cond.laysFinal "EdgeSums$Page" "EdgeSums$Page" "rows" "I") ∈ lw_all := lw_g (lw_at lw_m3 101 rfl) rfl
theorem q706 : (Jvm.Cond.soleField "EdgeSums$Page" "rows") ∈ lw_all := lw_g (lw_at lw_m3 102 rfl) rfl
theorem q707 : (Jvm.Cond.laysFinal "EdgeSums$Page" "EdgeSums$Page" "columns" "I") ∈ lw_all := lw_g (lw_at lw_m3 103 rfl) rfl
theorem q708 : (Jvm.Cond.soleField "EdgeSums$Page" "columns") ∈ lw_all := lw_g (lw_at lw_m3 104 rfl) rfl
theorem q709 : (Jvm.Cond.laysFinal "EdgeSums$Page" "EdgeSums$Page" "blocks" "[I") ∈ lw_all := lw_g (lw_at lw_m3 105 rfl) rfl
theorem q710 : (Jvm.Cond.soleField "EdgeSums$Page" "blocks") ∈ lw_all := lw_g (lw_at lw_m3 106 rfl) rfl
theorem q711 : (Jvm.Cond.laysFinal "EdgeSums$Page" "EdgeSums$Page" "numbers" "[I") ∈ lw_all := lw_g (lw_at lw_m3 107 rfl) rfl
theorem q712 : (Jvm.Cond.soleField "EdgeSums$Page" "numbers") ∈ lw_all := lw_g (lw_at lw_m3 108 rfl) rfl
theorem q713 : (Jvm.Cond.laysFinal "EdgeSums$Page" "EdgeSums$Page" "given" "[Z") ∈ lw_all := lw_g (lw_at lw_m3 109 rfl) rfl
theorem q714 : (Jvm.Cond.soleField "EdgeSums$Page" "given") ∈ lw_all := lw_g (lw_at lw_m3 110 rfl) rfl
theorem q715 : (Jvm.Cond.laysFinal "EdgeSums$Page" "EdgeSums$Page" "shown" "[Z") ∈ lw_all := lw_g (lw_at lw_m3 111 rfl) rfl
theorem q716 : (Jvm.Cond.soleField "EdgeSums$Page" "shown") ∈ lw_all := lw_g (lw_at lw_m3 112 rfl) rfl
theorem q717 : (Jvm.Cond.lays "EdgeSums$Page" "EdgeSums$Page" "members" "[[I") ∈ lw_all := lw_g (lw_at lw_m3 113 rfl) rfl
theorem q718 : (Jvm.Cond.soleField "EdgeSums$Page" "members") ∈ lw_all := lw_g (lw_at lw_m3 114 rfl) rfl
theorem q719 : (Jvm.Cond.superclass "EdgeSums$Page" "java/lang/Object") ∈ lw_all := lw_g (lw_at lw_m3 115 rfl) rfl
theorem q736 : (Jvm.Cond.instanceMethod ({ cls := "EdgeSums$Page", name := "size", desc := "(I)I" } : Jvm.MethodName)) ∈ lw_all := lw_g (lw_at lw_m3 132 rfl) rfl
theorem q737 : (Jvm.Cond.selects "EdgeSums$Page" ({ cls := "EdgeSums$Page", name := "size", desc := "(I)I" } : Jvm.MethodName) ({ cls := "EdgeSums$Page", name := "size", desc := "(I)I" } : Jvm.MethodName)) ∈ lw_all := lw_g (lw_at lw_m3 133 rfl) rfl
theorem q738 : (Jvm.Cond.code ({ cls := "EdgeSums$Page", name := "size", desc := "(I)I" } : Jvm.MethodName) prog_14_method_15_code (2 : Nat) (Option.some Jvm.ClassFile.FieldType.int)) ∈ lw_all := lw_g (lw_at lw_m3 134 rfl) rfl
theorem q1027 : (Jvm.Cond.instanceMethod ({ cls := "EdgeSums$Page", name := "copy", desc := "()LEdgeSums$Page;" } : Jvm.MethodName)) ∈ lw_all := lw_g (lw_at lw_m4 183 rfl) rfl
theorem q1028 : (Jvm.Cond.selects "EdgeSums$Page" ({ cls := "EdgeSums$Page", name := "copy", desc := "()LEdgeSums$Page;" } : Jvm.MethodName) ({ cls := "EdgeSums$Page", name := "copy", desc := "()LEdgeSums$Page;" } : Jvm.MethodName)) ∈ lw_all := lw_g (lw_at lw_m4 184 rfl) rfl
theorem q1029 : (Jvm.Cond.code ({ cls := "EdgeSums$Page", name := "copy", desc := "()LEdgeSums$Page;" } : Jvm.MethodName) prog_14_method_2_code (2 : Nat) (Option.some (Jvm.ClassFile.FieldType.object "EdgeSums$Page"))) ∈ lw_all := lw_g (lw_at lw_m4 185 rfl) rfl
theorem q1030 : (Jvm.Cond.classLink "EdgeSums$Page" (10 : Nat) "EdgeSums$Page") ∈ lw_all := lw_g (lw_at lw_m4 186 rfl) rfl
theorem q1031 : (Jvm.Cond.methodLink "EdgeSums$Page" (39 : Nat) ({ cls := "EdgeSums$Page", name := "<init>", desc := "(LEdgeSums$Page;)V" } : Jvm.MethodName)) ∈ lw_all := lw_g (lw_at lw_m4 187 rfl) rfl
theorem q1032 : (Jvm.Cond.instanceMethod ({ cls := "EdgeSums$Page", name := "<init>", desc := "(LEdgeSums$Page;)V" } : Jvm.MethodName)) ∈ lw_all := lw_g (lw_at lw_m4 188 rfl) rfl
theorem q1033 : (Jvm.Cond.code ({ cls := "EdgeSums$Page", name := "<init>", desc := "(LEdgeSums$Page;)V" } : Jvm.MethodName) prog_14_method_3_code (2 : Nat) (Option.none : Option Jvm.ClassFile.FieldType)) ∈ lw_all := lw_g (lw_at lw_m4 189 rfl) rfl
theorem q1034 : (Jvm.Cond.methodLink "EdgeSums$Page" (42 : Nat) ({ cls := "java/lang/System", name := "arraycopy", desc := "(Ljava/lang/Object;ILjava/lang/Object;II)V" } : Jvm.MethodName)) ∈ lw_all := lw_g (lw_at lw_m4 190 rfl) rfl
theorem q1097 : (Jvm.Cond.selects "EdgeSums$Page" ({ cls := "java/lang/Object", name := "getClass", desc := "()Ljava/lang/Class;" } : Jvm.MethodName) ({ cls := "java/lang/Object", name := "getClass", desc := "()Ljava/lang/Class;" } : Jvm.MethodName)) ∈ lw_all := lw_g (lw_at lw_m5 13 rfl) rfl
theorem q1136 : (Jvm.Cond.instanceMethod ({ cls := "EdgeSums$Page", name := "blocks", desc := "()I" } : Jvm.MethodName)) ∈ lw_all := lw_g (lw_at lw_m5 52 rfl) rfl
theorem q1137 : (Jvm.Cond.selects "EdgeSums$Page" ({ cls := "EdgeSums$Page", name := "blocks", desc := "()I" } : Jvm.MethodName) ({ cls := "EdgeSums$Page", name := "blocks", desc := "()I" } : Jvm.MethodName)) ∈ lw_all := lw_g (lw_at lw_m5 53 rfl) rfl
theorem q1138 : (Jvm.Cond.code ({ cls := "EdgeSums$Page", name := "blocks", desc := "()I" } : Jvm.MethodName) prog_14_method_6_code (1 : Nat) (Option.some Jvm.ClassFile.FieldType.int)) ∈ lw_all := lw_g (lw_at lw_m5 54 rfl) rfl
theorem q1148 : (Jvm.Cond.instanceMethod ({ cls := "EdgeSums$Page", name := "isCell", desc := "(I)Z" } : Jvm.MethodName)) ∈ lw_all := lw_g (lw_at lw_m5 64 rfl) rfl
theorem q1149 : (Jvm.Cond.selects "EdgeSums$Page" ({ cls := "EdgeSums$Page", name := "isCell", desc := "(I)Z" } : Jvm.MethodName) ({ cls := "EdgeSums$Page", name := "isCell", desc := "(I)Z" } : Jvm.MethodName)) ∈ lw_all := lw_g (lw_at lw_m5 65 rfl) rfl
theorem q1150 : (Jvm.Cond.code ({ cls := "EdgeSums$Page", name := "isCell", desc := "(I)Z" } : Jvm.MethodName) prog_14_method_7_code (2 : Nat) (Option.some Jvm.ClassFile.FieldType.boolean)) ∈ lw_all := lw_g (lw_at lw_m5 66 rfl) rfl
theorem q1151 : (Jvm.Cond.methodLinkNest "EdgeSums$Page" (52 : Nat) ({ cls := "EdgeSums", name := "isBetween", desc := "(III)Z" } : Jvm.MethodName) "EdgeSums") ∈ lw_tbl := lw_at lw_m5 67 rfl
theorem q1153 : (Jvm.Cond.instanceMethod ({ cls := "EdgeSums$Page", name := "areNeighbors", desc := "(II)Z" } : Jvm.MethodName)) ∈ lw_all := lw_g (lw_at lw_m5 69 rfl) rfl
theorem q1154 : (Jvm.Cond.selects "EdgeSums$Page" ({ cls := "EdgeSums$Page", name := "areNeighbors", desc := "(II)Z" } : Jvm.MethodName) ({ cls := "EdgeSums$Page", name := "areNeighbors", desc := "(II)Z" } : Jvm.MethodName)) ∈ lw_all := lw_g (lw_at lw_m5 70 rfl) rfl
theorem q1155 : (Jvm.Cond.code ({ cls := "EdgeSums$Page", name := "areNeighbors", desc := "(II)Z" } : Jvm.MethodName) prog_14_method_13_code (3 : Nat) (Option.some Jvm.ClassFile.FieldType.boolean)) ∈ lw_all := lw_g (lw_at lw_m5 71 rfl) rfl
theorem q1156 : (Jvm.Cond.methodLink "EdgeSums$Page" (59 : Nat) ({ cls := "EdgeSums$Page", name := "rowOf", desc := "(I)I" } : Jvm.MethodName)) ∈ lw_all := lw_g (lw_at lw_m5 72 rfl) rfl
theorem q1157 : (Jvm.Cond.instanceMethod ({ cls := "EdgeSums$Page", name := "rowOf", desc := "(I)I" } : Jvm.MethodName)) ∈ lw_all := lw_g (lw_at lw_m5 73 rfl) rfl
theorem q1158 : (Jvm.Cond.selects "EdgeSums$Page" ({ cls := "EdgeSums$Page", name := "rowOf", desc := "(I)I" } : Jvm.MethodName) ({ cls := "EdgeSums$Page", name := "rowOf", desc := "(I)I" } : Jvm.MethodName)) ∈ lw_all := lw_g (lw_at lw_m5 74 rfl) rfl
theorem q1159 : (Jvm.Cond.code ({ cls := "EdgeSums$Page", name := "rowOf", desc := "(I)I" } : Jvm.MethodName) prog_14_method_9_code (2 : Nat) (Option.some Jvm.ClassFile.FieldType.int)) ∈ lw_all := lw_g (lw_at lw_m5 75 rfl) rfl
theorem q1160 : (Jvm.Cond.methodLink "EdgeSums$Page" (66 : Nat) ({ cls := "java/lang/Math", name := "abs", desc := "(I)I" } : Jvm.MethodName)) ∈ lw_all := lw_g (lw_at lw_m5 76 rfl) rfl
theorem q1163 : (Jvm.Cond.methodLink "EdgeSums$Page" (63 : Nat) ({ cls := "EdgeSums$Page", name := "columnOf", desc := "(I)I" } : Jvm.MethodName)) ∈ lw_all := lw_g (lw_at lw_m5 79 rfl) rfl
theorem q1164 : (Jvm.Cond.instanceMethod ({ cls := "EdgeSums$Page", name := "columnOf", desc := "(I)I" } : Jvm.MethodName)) ∈ lw_all := lw_g (lw_at lw_m5 80 rfl) rfl
theorem q1165 : (Jvm.Cond.selects "EdgeSums$Page" ({ cls := "EdgeSums$Page", name := "columnOf", desc := "(I)I" } : Jvm.MethodName) ({ cls := "EdgeSums$Page", name := "columnOf", desc := "(I)I" } : Jvm.MethodName)) ∈ lw_all := lw_g (lw_at lw_m5 81 rfl) rfl
theorem q1166 : (Jvm.Cond.code ({ cls := "EdgeSums$Page", name := "columnOf", desc := "(I)I" } : Jvm.MethodName) prog_14_method_10_code (2 : Nat) (Option.some Jvm.ClassFile.FieldType.int)) ∈ lw_all := lw_g (lw_at lw_m5 82 rfl) rfl
theorem q1168 : (Jvm.Cond.instanceMethod ({ cls := "EdgeSums$Page", name := "isConnected", desc := "(II)Z" } : Jvm.MethodName)) ∈ lw_all := lw_g (lw_at lw_m5 84 rfl) rfl
theorem q1169 : (Jvm.Cond.selects "EdgeSums$Page" ({ cls := "EdgeSums$Page", name := "isConnected", desc := "(II)Z" } : Jvm.MethodName) ({ cls := "EdgeSums$Page", name := "isConnected", desc := "(II)Z" } : Jvm.MethodName)) ∈ lw_all := lw_g (lw_at lw_m5 85 rfl) rfl
theorem q1170 : (Jvm.Cond.code ({ cls := "EdgeSums$Page", name := "isConnected", desc := "(II)Z" } : Jvm.MethodName) prog_14_method_18_code (14 : Nat) (Option.some Jvm.ClassFile.FieldType.boolean)) ∈ lw_all := lw_g (lw_at lw_m5 86 rfl) rfl
theorem q1171 : (Jvm.Cond.methodLinkNest "EdgeSums$Page" (104 : Nat) ({ cls := "EdgeSums", name := "has", desc := "(II)Z" } : Jvm.MethodName) "EdgeSums") ∈ lw_tbl := lw_at lw_m5 87 rfl
theorem q1172 : (Jvm.Cond.methodLink "EdgeSums$Page" (108 : Nat) ({ cls := "EdgeSums$Page", name := "areNeighbors", desc := "(II)Z" } : Jvm.MethodName)) ∈ lw_all := lw_g (lw_at lw_m5 88 rfl) rfl
theorem q1179 : (Jvm.Cond.instanceMethod ({ cls := "EdgeSums$Page", name := "clear", desc := "(I)V" } : Jvm.MethodName)) ∈ lw_all := lw_g (lw_at lw_m5 95 rfl) rfl
theorem q1180 : (Jvm.Cond.selects "EdgeSums$Page" ({ cls := "EdgeSums$Page", name := "clear", desc := "(I)V" } : Jvm.MethodName) ({ cls := "EdgeSums$Page", name := "clear", desc := "(I)V" } : Jvm.MethodName)) ∈ lw_all := lw_g (lw_at lw_m5 96 rfl) rfl
theorem q1181 : (Jvm.Cond.code ({ cls := "EdgeSums$Page", name := "clear", desc := "(I)V" } : Jvm.MethodName) prog_14_method_22_code (6 : Nat) (Option.none : Option Jvm.ClassFile.FieldType)) ∈ lw_all := lw_g (lw_at lw_m5 97 rfl) rfl
theorem q1182 : (Jvm.Cond.methodLink "EdgeSums$Page" (120 : Nat) ({ cls := "EdgeSums$Page", name := "write", desc := "(II)V" } : Jvm.MethodName)) ∈ lw_all := lw_g (lw_at lw_m5 98 rfl) rfl
theorem q1183 : (Jvm.Cond.instanceMethod ({ cls := "EdgeSums$Page", name := "write", desc := "(II)V" } : Jvm.MethodName)) ∈ lw_all := lw_g (lw_at lw_m5 99 rfl) rfl
theorem q1184 : (Jvm.Cond.selects "EdgeSums$Page" ({ cls := "EdgeSums$Page", name := "write", desc := "(II)V" } : Jvm.MethodName) ({ cls := "EdgeSums$Page", name := "write", desc := "(II)V" } : Jvm.MethodName)) ∈ lw_all := lw_g (lw_at lw_m5 100 rfl) rfl
theorem q1185 : (Jvm.Cond.code ({ cls := "EdgeSums$Page", name := "write", desc := "(II)V" } : Jvm.MethodName) prog_14_method_21_code (3 : Nat) (Option.none : Option Jvm.ClassFile.FieldType)) ∈ lw_all := lw_g (lw_at lw_m5 101 rfl) rfl
theorem q1186 : (Jvm.Cond.methodLink "EdgeSums$Page" (116 : Nat) ({ cls := "EdgeSums$Page", name := "lineOf", desc := "(IZ)I" } : Jvm.MethodName)) ∈ lw_all := lw_g (lw_at lw_m5 102 rfl) rfl
theorem q1187 : (Jvm.Cond.instanceMethod ({ cls := "EdgeSums$Page", name := "lineOf", desc := "(IZ)I" } : Jvm.MethodName)) ∈ lw_all := lw_g (lw_at lw_m5 103 rfl) rfl
theorem q1188 : (Jvm.Cond.selects "EdgeSums$Page" ({ cls := "EdgeSums$Page", name := "lineOf", desc := "(IZ)I" } : Jvm.MethodName) ({ cls := "EdgeSums$Page", name := "lineOf", desc := "(IZ)I" } : Jvm.MethodName)) ∈ lw_all := lw_g (lw_at lw_m5 104 rfl) rfl
theorem q1189 : (Jvm.Cond.code ({ cls := "EdgeSums$Page", name := "lineOf", desc := "(IZ)I" } : Jvm.MethodName) prog_14_method_11_code (3 : Nat) (Option.some Jvm.ClassFile.FieldType.int)) ∈ lw_all := lw_g (lw_at lw_m5 105 rfl) rfl
theorem q1200 : (Jvm.Cond.instanceMethod ({ cls := "EdgeSums$Page", name := "mirrored", desc := "()LEdgeSums$Page;" } : Jvm.MethodName)) ∈ lw_all := lw_g (lw_at lw_m5 116 rfl) rfl
theorem q1201 : (Jvm.Cond.selects "EdgeSums$Page" ({ cls := "EdgeSums$Page", name := "mirrored", desc := "()LEdgeSums$Page;" } : Jvm.MethodName) ({ cls := "EdgeSums$Page", name := "mirrored", desc := "()LEdgeSums$Page;" } : Jvm.MethodName)) ∈ lw_all := lw_g (lw_at lw_m5 117 rfl) rfl
theorem q1202 : (Jvm.Cond.code ({ cls := "EdgeSums$Page", name := "mirrored", desc := "()LEdgeSums$Page;" } : Jvm.MethodName) prog_14_method_35_code (3 : Nat) (Option.some (Jvm.ClassFile.FieldType.object "EdgeSums$Page"))) ∈ lw_all := lw_g (lw_at lw_m5 118 rfl) rfl
theorem q1203 : (Jvm.Cond.methodLink "EdgeSums$Page" (143 : Nat) ({ cls := "EdgeSums$Page", name := "<init>", desc := "(II)V" } : Jvm.MethodName)) ∈ lw_all := lw_g (lw_at lw_m5 119 rfl) rfl
theorem q1204 : (Jvm.Cond.methodLink "EdgeSums$Page" (145 : Nat) ({ cls := "EdgeSums$Page", name := "take", desc := "(ILEdgeSums$Page;I)V" } : Jvm.MethodName)) ∈ lw_all := lw_g (lw_at lw_m5 120 rfl) rfl
theorem q1205 : (Jvm.Cond.privateMethod ({ cls := "EdgeSums$Page", name := "take", desc := "(ILEdgeSums$Page;I)V" } : Jvm.MethodName)) ∈ lw_tbl := lw_at lw_m5 121 rfl
theorem q1206 : (Jvm.Cond.instanceMethod ({ cls := "EdgeSums$Page", name := "take", desc := "(ILEdgeSums$Page;I)V" } : Jvm.MethodName)) ∈ lw_all := lw_g (lw_at lw_m5 122 rfl) rfl
theorem q1207 : (Jvm.Cond.code ({ cls := "EdgeSums$Page", name := "take", desc := "(ILEdgeSums$Page;I)V" } : Jvm.MethodName) prog_14_method_34_code (4 : Nat) (Option.none : Option Jvm.ClassFile.FieldType)) ∈ lw_all := lw_g (lw_at lw_m5 123 rfl) rfl
theorem q1213 : (Jvm.Cond.instanceMethod ({ cls := "EdgeSums$Page", name := "turned", desc := "()LEdgeSums$Page;" } : Jvm.MethodName)) ∈ lw_all := lw_g (lw_at lw_m5 129 rfl) rfl
theorem q1214 : (Jvm.Cond.selects "EdgeSums$Page" ({ cls := "EdgeSums$Page", name := "turned", desc := "()LEdgeSums$Page;" } : Jvm.MethodName) ({ cls := "EdgeSums$Page", name := "turned", desc := "()LEdgeSums$Page;" } : Jvm.MethodName)) ∈ lw_all := lw_g (lw_at lw_m5 130 rfl) rfl
theorem q1215 : (Jvm.Cond.code ({ cls := "EdgeSums$Page", name := "turned", desc := "()LEdgeSums$Page;" } : Jvm.MethodName) prog_14_method_36_code (3 : Nat) (Option.some (Jvm.ClassFile.FieldType.object "EdgeSums$Page"))) ∈ lw_all := lw_g (lw_at lw_m5 131 rfl) rfl
theorem q1221 : (Jvm.Cond.instanceMethod ({ cls := "EdgeSums$Page", name := "isNumber", desc := "(II)Z" } : Jvm.MethodName)) ∈ lw_all := lw_g (lw_at lw_m5 137 rfl) rfl
theorem q1222 : (Jvm.Cond.selects "EdgeSums$Page" ({ cls := "EdgeSums$Page", name := "isNumber", desc := "(II)Z" } : Jvm.MethodName) ({ cls := "EdgeSums$Page", name := "isNumber", desc := "(II)Z" } : Jvm.MethodName)) ∈ lw_all := lw_g (lw_at lw_m5 138 rfl) rfl
theorem q1223 : (Jvm.Cond.code ({ cls := "EdgeSums$Page", name := "isNumber", desc := "(II)Z" } : Jvm.MethodName) prog_14_method_16_code (3 : Nat) (Option.some Jvm.ClassFile.FieldType.boolean)) ∈ lw_all := lw_g (lw_at lw_m5 139 rfl) rfl
theorem q1224 : (Jvm.Cond.methodLink "EdgeSums$Page" (74 : Nat) ({ cls := "EdgeSums$Page", name := "size", desc := "(I)I" } : Jvm.MethodName)) ∈ lw_all := lw_g (lw_at lw_m5 140 rfl) rfl
theorem q1226 : (Jvm.Cond.instanceMethod ({ cls := "EdgeSums$Page", name := "hasElsewhere", desc := "(II)Z" } : Jvm.MethodName)) ∈ lw_all := lw_g (lw_at lw_m5 142 rfl) rfl
theorem q1227 : (Jvm.Cond.selects "EdgeSums$Page" ({ cls := "EdgeSums$Page", name := "hasElsewhere", desc := "(II)Z" } : Jvm.MethodName) ({ cls := "EdgeSums$Page", name := "hasElsewhere", desc := "(II)Z" } : Jvm.MethodName)) ∈ lw_all := lw_g (lw_at lw_m5 143 rfl) rfl
theorem q1228 : (Jvm.Cond.code ({ cls := "EdgeSums$Page", name := "hasElsewhere", desc := "(II)Z" } : Jvm.MethodName) prog_14_method_20_code (8 : Nat) (Option.some Jvm.ClassFile.FieldType.boolean)) ∈ lw_all := lw_g (lw_at lw_m5 144 rfl) rfl
theorem q1235 : (Jvm.Cond.instanceMethod ({ cls := "EdgeSums$Page", name := "untold", desc := "()I" } : Jvm.MethodName)) ∈ lw_all := lw_g (lw_at lw_m5 151 rfl) rfl
theorem q1236 : (Jvm.Cond.selects "EdgeSums$Page" ({ cls := "EdgeSums$Page", name := "untold", desc := "()I" } : Jvm.MethodName) ({ cls := "EdgeSums$Page", name := "untold", desc := "()I" } : Jvm.MethodName)) ∈ lw_all := lw_g (lw_at lw_m5 152 rfl) rfl
theorem q1237 : (Jvm.Cond.code ({ cls := "EdgeSums$Page", name := "untold", desc := "()I" } : Jvm.MethodName) prog_14_method_23_code (3 : Nat) (Option.some Jvm.ClassFile.FieldType.int)) ∈ lw_all := lw_g (lw_at lw_m5 153 rfl) rfl
theorem q1252 : (Jvm.Cond.instanceMethod ({ cls := "EdgeSums$Page", name := "isPlace", desc := "(II)Z" } : Jvm.MethodName)) ∈ lw_all := lw_g (lw_at lw_m5 168 rfl) rfl
theorem q1253 : (Jvm.Cond.selects "EdgeSums$Page" ({ cls := "EdgeSums$Page", name := "isPlace", desc := "(II)Z" } : Jvm.MethodName) ({ cls := "EdgeSums$Page", name := "isPlace", desc := "(II)Z" } : Jvm.MethodName)) ∈ lw_all := lw_g (lw_at lw_m5 169 rfl) rfl
theorem q1254 : (Jvm.Cond.code ({ cls := "EdgeSums$Page", name := "isPlace", desc := "(II)Z" } : Jvm.MethodName) prog_14_method_27_code (3 : Nat) (Option.some Jvm.ClassFile.FieldType.boolean)) ∈ lw_all := lw_g (lw_at lw_m5 170 rfl) rfl
theorem q1255 : (Jvm.Cond.methodLink "EdgeSums$Page" (127 : Nat) ({ cls := "EdgeSums$Page", name := "places", desc := "(I)I" } : Jvm.MethodName)) ∈ lw_all := lw_g (lw_at lw_m5 171 rfl) rfl
theorem q1256 : (Jvm.Cond.instanceMethod ({ cls := "EdgeSums$Page", name := "places", desc := "(I)I" } : Jvm.MethodName)) ∈ lw_all := lw_g (lw_at lw_m5 172 rfl) rfl
theorem q1257 : (Jvm.Cond.selects "EdgeSums$Page" ({ cls := "EdgeSums$Page", name := "places", desc := "(I)I" } : Jvm.MethodName) ({ cls := "EdgeSums$Page", name := "places", desc := "(I)I" } : Jvm.MethodName)) ∈ lw_all := lw_g (lw_at lw_m5 173 rfl) rfl
theorem q1258 : (Jvm.Cond.code ({ cls := "EdgeSums$Page", name := "places", desc := "(I)I" } : Jvm.MethodName) prog_14_method_26_code (2 : Nat) (Option.some Jvm.ClassFile.FieldType.int)) ∈ lw_all := lw_g (lw_at lw_m5 174 rfl) rfl
theorem q1259 : (Jvm.Cond.methodLink "EdgeSums$Page" (56 : Nat) ({ cls := "EdgeSums$Page", name := "lines", desc := "()I" } : Jvm.MethodName)) ∈ lw_all := lw_g (lw_at lw_m5 175 rfl) rfl
theorem q1260 : (Jvm.Cond.instanceMethod ({ cls := "EdgeSums$Page", name := "lines", desc := "()I" } : Jvm.MethodName)) ∈ lw_all := lw_g (lw_at lw_m5 176 rfl) rfl
theorem q1261 : (Jvm.Cond.selects "EdgeSums$Page" ({ cls := "EdgeSums$Page", name := "lines", desc := "()I" } : Jvm.MethodName) ({ cls := "EdgeSums$Page", name := "lines", desc := "()I" } : Jvm.MethodName)) ∈ lw_all := lw_g (lw_at lw_m5 177 rfl) rfl
theorem q1262 : (Jvm.Cond.code ({ cls := "EdgeSums$Page", name := "lines", desc := "()I" } : Jvm.MethodName) prog_14_method_5_code (1 : Nat) (Option.some Jvm.ClassFile.FieldType.int)) ∈ lw_all := lw_g (lw_at lw_m5 178 rfl) rfl
theorem q1264 : (Jvm.Cond.instanceMethod ({ cls := "EdgeSums$Page", name := "canBeClue", desc := "(II)Z" } : Jvm.MethodName)) ∈ lw_all := lw_g (lw_at lw_m5 180 rfl) rfl
theorem q1265 : (Jvm.Cond.selects "EdgeSums$Page" ({ cls := "EdgeSums$Page", name := "canBeClue", desc := "(II)Z" } : Jvm.MethodName) ({ cls := "EdgeSums$Page", name := "canBeClue", desc := "(II)Z" } : Jvm.MethodName)) ∈ lw_all := lw_g (lw_at lw_m5 181 rfl) rfl
theorem q1266 : (Jvm.Cond.code ({ cls := "EdgeSums$Page", name := "canBeClue", desc := "(II)Z" } : Jvm.MethodName) prog_14_method_28_code (3 : Nat) (Option.some Jvm.ClassFile.FieldType.boolean)) ∈ lw_all := lw_g (lw_at lw_m5 182 rfl) rfl
theorem q1267 : (Jvm.Cond.methodLink "EdgeSums$Page" (130 : Nat) ({ cls := "EdgeSums$Page", name := "isTold", desc := "(I)Z" } : Jvm.MethodName)) ∈ lw_all := lw_g (lw_at lw_m5 183 rfl) rfl
theorem q1268 : (Jvm.Cond.privateMethod ({ cls := "EdgeSums$Page", name := "isTold", desc := "(I)Z" } : Jvm.MethodName)) ∈ lw_tbl := lw_at lw_m5 184 rfl
theorem q1269 : (Jvm.Cond.instanceMethod ({ cls := "EdgeSums$Page", name := "isTold", desc := "(I)Z" } : Jvm.MethodName)) ∈ lw_all := lw_g (lw_at lw_m5 185 rfl) rfl
theorem q1270 : (Jvm.Cond.code ({ cls := "EdgeSums$Page", name := "isTold", desc := "(I)Z" } : Jvm.MethodName) prog_14_method_25_code (4 : Nat) (Option.some Jvm.ClassFile.FieldType.boolean)) ∈ lw_all := lw_g (lw_at lw_m5 186 rfl) rfl
theorem q1271 : (Jvm.Cond.methodLink "EdgeSums$Page" (124 : Nat) ({ cls := "EdgeSums$Page", name := "isIn", desc := "(II)Z" } : Jvm.MethodName)) ∈ lw_all := lw_g (lw_at lw_m5 187 rfl) rfl
theorem q1272 : (Jvm.Cond.instanceMethod ({ cls := "EdgeSums$Page", name := "isIn", desc := "(II)Z" } : Jvm.MethodName)) ∈ lw_all := lw_g (lw_at lw_m5 188 rfl) rfl
theorem q1273 : (Jvm.Cond.selects "EdgeSums$Page" ({ cls := "EdgeSums$Page", name := "isIn", desc := "(II)Z" } : Jvm.MethodName) ({ cls := "EdgeSums$Page", name := "isIn", desc := "(II)Z" } : Jvm.MethodName)) ∈ lw_all := lw_g (lw_at lw_m5 189 rfl) rfl
theorem q1274 : (Jvm.Cond.code ({ cls := "EdgeSums$Page", name := "isIn", desc := "(II)Z" } : Jvm.MethodName) prog_14_method_12_code (3 : Nat) (Option.some Jvm.ClassFile.FieldType.boolean)) ∈ lw_all := lw_g (lw_at lw_m5 190 rfl) rfl
theorem q1276 : (Jvm.Cond.instanceMethod ({ cls := "EdgeSums$Page", name := "setClue", desc := "(IIZ)V" } : Jvm.MethodName)) ∈ lw_all := lw_g (lw_at lw_m5 192 rfl) rfl
theorem q1277 : (Jvm.Cond.selects "EdgeSums$Page" ({ cls := "EdgeSums$Page", name := "setClue", desc := "(IIZ)V" } : Jvm.MethodName) ({ cls := "EdgeSums$Page", name := "setClue", desc := "(IIZ)V" } : Jvm.MethodName)) ∈ lw_all := lw_g (lw_at lw_m5 193 rfl) rfl
theorem q1278 : (Jvm.Cond.code ({ cls := "EdgeSums$Page", name := "setClue", desc := "(IIZ)V" } : Jvm.MethodName) prog_14_method_30_code (4 : Nat) (Option.none : Option Jvm.ClassFile.FieldType)) ∈ lw_all := lw_g (lw_at lw_m5 194 rfl) rfl
theorem q1280 : (Jvm.Cond.instanceMethod ({ cls := "EdgeSums$Page", name := "clues", desc := "(I)I" } : Jvm.MethodName)) ∈ lw_all := lw_g (lw_at lw_m5 196 rfl) rfl
theorem q1281 : (Jvm.Cond.selects "EdgeSums$Page" ({ cls := "EdgeSums$Page", name := "clues", desc := "(I)I" } : Jvm.MethodName) ({ cls := "EdgeSums$Page", name := "clues", desc := "(I)I" } : Jvm.MethodName)) ∈ lw_all := lw_g (lw_at lw_m5 197 rfl) rfl
theorem q1282 : (Jvm.Cond.code ({ cls := "EdgeSums$Page", name := "clues", desc := "(I)I" } : Jvm.MethodName) prog_14_method_32_code (4 : Nat) (Option.some Jvm.ClassFile.FieldType.int)) ∈ lw_all := lw_g (lw_at lw_m5 198 rfl) rfl
theorem q1283 : (Jvm.Cond.methodLink "EdgeSums$Page" (137 : Nat) ({ cls := "EdgeSums$Page", name := "isClue", desc := "(II)Z" } : Jvm.MethodName)) ∈ lw_all := lw_g (lw_at lw_m5 199 rfl) rfl
theorem q1284 : (Jvm.Cond.instanceMethod ({ cls := "EdgeSums$Page", name := "isClue", desc := "(II)Z" } : Jvm.MethodName)) ∈ lw_all := lw_g (lw_at lw_m5 200 rfl) rfl
theorem q1285 : (Jvm.Cond.selects "EdgeSums$Page" ({ cls := "EdgeSums$Page", name := "isClue", desc := "(II)Z" } : Jvm.MethodName) ({ cls := "EdgeSums$Page", name := "isClue", desc := "(II)Z" } : Jvm.MethodName)) ∈ lw_all := lw_g (lw_at lw_m5 201 rfl) rfl
theorem q1286 : (Jvm.Cond.code ({ cls := "EdgeSums$Page", name := "isClue", desc := "(II)Z" } : Jvm.MethodName) prog_14_method_29_code (3 : Nat) (Option.some Jvm.ClassFile.FieldType.boolean)) ∈ lw_all := lw_g (lw_at lw_m5 202 rfl) rfl
theorem q1358 : (Jvm.Cond.instanceMethod ({ cls := "EdgeSums$Page", name := "sum", desc := "(I)I" } : Jvm.MethodName)) ∈ lw_all := lw_g (lw_at lw_m6 34 rfl) rfl
theorem q1359 : (Jvm.Cond.selects "EdgeSums$Page" ({ cls := "EdgeSums$Page", name := "sum", desc := "(I)I" } : Jvm.MethodName) ({ cls := "EdgeSums$Page", name := "sum", desc := "(I)I" } : Jvm.MethodName)) ∈ lw_all := lw_g (lw_at lw_m6 35 rfl) rfl
theorem q1360 : (Jvm.Cond.code ({ cls := "EdgeSums$Page", name := "sum", desc := "(I)I" } : Jvm.MethodName) prog_14_method_24_code (4 : Nat) (Option.some Jvm.ClassFile.FieldType.int)) ∈ lw_all := lw_g (lw_at lw_m6 36 rfl) rfl
theorem q1478 : (Jvm.Cond.instanceMethod ({ cls := "EdgeSums$Page", name := "value", desc := "(II)I" } : Jvm.MethodName)) ∈ lw_all := lw_g (lw_at lw_m6 154 rfl) rfl
theorem q1479 : (Jvm.Cond.selects "EdgeSums$Page" ({ cls := "EdgeSums$Page", name := "value", desc := "(II)I" } : Jvm.MethodName) ({ cls := "EdgeSums$Page", name := "value", desc := "(II)I" } : Jvm.MethodName)) ∈ lw_all := lw_g (lw_at lw_m6 155 rfl) rfl
theorem q1480 : (Jvm.Cond.code ({ cls := "EdgeSums$Page", name := "value", desc := "(II)I" } : Jvm.MethodName) prog_14_method_31_code (3 : Nat) (Option.some Jvm.ClassFile.FieldType.int)) ∈ lw_all := lw_g (lw_at lw_m6 156 rfl) rfl
theorem q1481 : (Jvm.Cond.methodLink "EdgeSums$Page" (134 : Nat) ({ cls := "EdgeSums$Page", name := "sum", desc := "(I)I" } : Jvm.MethodName)) ∈ lw_all := lw_g (lw_at lw_m6 157 rfl) rfl
theorem q1635 : (Jvm.Cond.instanceMethod ({ cls := "EdgeSums$Page", name := "clues", desc := "()I" } : Jvm.MethodName)) ∈ lw_all := lw_g (lw_at lw_m7 71 rfl) rfl
theorem q1636 : (Jvm.Cond.selects "EdgeSums$Page" ({ cls := "EdgeSums$Page", name := "clues", desc := "()I" } : Jvm.MethodName) ({ cls := "EdgeSums$Page", name := "clues", desc := "()I" } : Jvm.MethodName)) ∈ lw_all := lw_g (lw_at lw_m7 72 rfl) rfl
theorem q1637 : (Jvm.Cond.code ({ cls := "EdgeSums$Page", name := "clues", desc := "()I" } : Jvm.MethodName) prog_14_method_33_code (1 : Nat) (Option.some Jvm.ClassFile.FieldType.int)) ∈ lw_all := lw_g (lw_at lw_m7 73 rfl) rfl
theorem q1638 : (Jvm.Cond.methodLink "EdgeSums$Page" (140 : Nat) ({ cls := "EdgeSums$Page", name := "clues", desc := "(I)I" } : Jvm.MethodName)) ∈ lw_all := lw_g (lw_at lw_m7 74 rfl) rfl
theorem q2137 : (Jvm.Cond.instanceMethod ({ cls := "EdgeSums$Page", name := "isProper", desc := "()Z" } : Jvm.MethodName)) ∈ lw_all := lw_g (lw_at lw_m9 93 rfl) rfl
theorem q2138 : (Jvm.Cond.selects "EdgeSums$Page" ({ cls := "EdgeSums$Page", name := "isProper", desc := "()Z" } : Jvm.MethodName) ({ cls := "EdgeSums$Page", name := "isProper", desc := "()Z" } : Jvm.MethodName)) ∈ lw_all := lw_g (lw_at lw_m9 94 rfl) rfl
theorem q2139 : (Jvm.Cond.code ({ cls := "EdgeSums$Page", name := "isProper", desc := "()Z" } : Jvm.MethodName) prog_14_method_19_code (3 : Nat) (Option.some Jvm.ClassFile.FieldType.boolean)) ∈ lw_all := lw_g (lw_at lw_m9 95 rfl) rfl
theorem q2140 : (Jvm.Cond.methodLink "EdgeSums$Page" (111 : Nat) ({ cls := "EdgeSums$Page", name := "blocks", desc := "()I" } : Jvm.MethodName)) ∈ lw_all := lw_g (lw_at lw_m9 96 rfl) rfl
theorem q2141 : (Jvm.Cond.methodLink "EdgeSums$Page" (113 : Nat) ({ cls := "EdgeSums$Page", name := "isConnected", desc := "(II)Z" } : Jvm.MethodName)) ∈ lw_all := lw_g (lw_at lw_m9 97 rfl) rfl
theorem q2201 : (Jvm.Cond.instanceMethod ({ cls := "EdgeSums$Page", name := "isLine", desc := "(I)Z" } : Jvm.MethodName)) ∈ lw_all := lw_g (lw_at lw_m9 157 rfl) rfl
theorem q2202 : (Jvm.Cond.selects "EdgeSums$Page" ({ cls := "EdgeSums$Page", name := "isLine", desc := "(I)Z" } : Jvm.MethodName) ({ cls := "EdgeSums$Page", name := "isLine", desc := "(I)Z" } : Jvm.MethodName)) ∈ lw_all := lw_g (lw_at lw_m9 158 rfl) rfl
theorem q2203 : (Jvm.Cond.code ({ cls := "EdgeSums$Page", name := "isLine", desc := "(I)Z" } : Jvm.MethodName) prog_14_method_8_code (2 : Nat) (Option.some Jvm.ClassFile.FieldType.boolean)) ∈ lw_all := lw_g (lw_at lw_m9 159 rfl) rfl
theorem q3193 : (Jvm.Cond.castable "EdgeSums$Page" "java/lang/Object") ∈ lw_tbl := lw_at lw_m13 189 rfl
theorem in_X3 : ∀ w ∈ wsX30, w ∈ lw_all := lw_in wsX30 [705, 707, 709, 711, 713, 715, 717] (by decide +kernel) (by decide +kernel)
/-! EdgeSums$Board -/
set_option maxRecDepth 100000
def RX4 : String := "EdgeSums$Board"
def TX4 : u_T := fun k => match k with
  | 0 => ("EdgeSums$Board", "page", "LEdgeSums$Page;", true)
  | _ => ("EdgeSums$Board", "sets", "[I", true)
def tyX4 : Nat → FieldType := fun k => match k with
  | 0 => .object "EdgeSums$Page"
  | _ => .array .int
abbrev wsX40 : List Cond := u_ws RX4 TX4 2
theorem nmX4 : ∀ a, a < 2 → ∀ b, b < 2 → a ≠ b → (TX4 a).2.1 ≠ (TX4 b).2.1 := by decide +kernel
theorem tyX4_ok : ∀ k, k < 2 → parseFieldDescriptor (TX4 k).2.2.1 = some (tyX4 k) := by decide +kernel
abbrev cX4_init : ByteArray := prog_3_method_1_code
def yX4_init : MethodName := ⟨RX4, "<init>", "(LEdgeSums$Page;)V"⟩
def dkwX4_init_2 : List UInt8 := [120, 167, 0, 14, 4, 43, 28, 182, 0, 32, 4, 96, 120, 5, 100, 79, 132, 2, 1, 167, 255, 208, 177]
abbrev dktX4_init_2 : List UInt8 := dkwX4_init_2 ++ []
def dkwX4_init_1 : List UInt8 := [162, 0, 46, 42, 180, 0, 9, 28, 43, 180, 0, 25, 28, 51, 153, 0, 14, 4, 43, 180, 0, 29, 28, 46]
abbrev dktX4_init_1 : List UInt8 := dkwX4_init_1 ++ dktX4_init_2
def dkwX4_init_0 : List UInt8 := [42, 183, 0, 3, 42, 16, 25, 188, 10, 181, 0, 9, 42, 43, 181, 0, 15, 3, 61, 28, 43, 182, 0, 19]
abbrev dktX4_init_0 : List UInt8 := dkwX4_init_0 ++ dktX4_init_1
theorem dksX4_init_0 : cX4_init.data.toList.drop 0 = dktX4_init_0 := by decide +kernel
theorem dksX4_init_1 : cX4_init.data.toList.drop 24 = dktX4_init_1 := dk_seg dksX4_init_0 24 rfl rfl
theorem dksX4_init_2 : cX4_init.data.toList.drop 48 = dktX4_init_2 := dk_seg dksX4_init_1 24 rfl rfl
theorem dX4_init_0 : decode cX4_init 0 = .ok (.aload_n 0, 1) := dk_42 (dk_at dksX4_init_0 0 rfl rfl)
theorem dX4_init_1 : decode cX4_init 1 = .ok (.invokespecial 3, 3) := dk_183 0 3 (dk_at dksX4_init_0 1 rfl rfl)
theorem dX4_init_4 : decode cX4_init 4 = .ok (.aload_n 0, 1) := dk_42 (dk_at dksX4_init_0 4 rfl rfl)
theorem dX4_init_5 : decode cX4_init 5 = .ok (.bipush 25, 2) := dk_16 25 (dk_at dksX4_init_0 5 rfl rfl)
theorem dX4_init_7 : decode cX4_init 7 = .ok (.newarray .int, 2) := dk_188_10 (dk_at dksX4_init_0 7 rfl rfl)
theorem dX4_init_9 : decode cX4_init 9 = .ok (.putfield 9, 3) := dk_181 0 9 (dk_at dksX4_init_0 9 rfl rfl)
theorem dX4_init_12 : decode cX4_init 12 = .ok (.aload_n 0, 1) := dk_42 (dk_at dksX4_init_0 12 rfl rfl)
theorem dX4_init_13 : decode cX4_init 13 = .ok (.aload_n 1, 1) := dk_43 (dk_at dksX4_init_0 13 rfl rfl)
theorem dX4_init_14 : decode cX4_init 14 = .ok (.putfield 15, 3) := dk_181 0 15 (dk_at dksX4_init_0 14 rfl rfl)
theorem dX4_init_17 : decode cX4_init 17 = .ok (.iconst 0, 1) := dk_3 (dk_at dksX4_init_0 17 rfl rfl)
theorem dX4_init_18 : decode cX4_init 18 = .ok (.istore_n 2, 1) := dk_61 (dk_at dksX4_init_0 18 rfl rfl)
theorem dX4_init_19 : decode cX4_init 19 = .ok (.iload_n 2, 1) := dk_28 (dk_at dksX4_init_0 19 rfl rfl)
theorem dX4_init_20 : decode cX4_init 20 = .ok (.aload_n 1, 1) := dk_43 (dk_at dksX4_init_0 20 rfl rfl)
theorem dX4_init_21 : decode cX4_init 21 = .ok (.invokevirtual 19, 3) := dk_182 0 19 (dk_at dksX4_init_0 21 rfl rfl)
theorem dX4_init_24 : decode cX4_init 24 = .ok (.if_icmp .ge 46, 3) := dk_162 0 46 (dk_at dksX4_init_1 0 rfl rfl)
theorem dX4_init_27 : decode cX4_init 27 = .ok (.aload_n 0, 1) := dk_42 (dk_at dksX4_init_1 3 rfl rfl)
theorem dX4_init_28 : decode cX4_init 28 = .ok (.getfield 9, 3) := dk_180 0 9 (dk_at dksX4_init_1 4 rfl rfl)
theorem dX4_init_31 : decode cX4_init 31 = .ok (.iload_n 2, 1) := dk_28 (dk_at dksX4_init_1 7 rfl rfl)
theorem dX4_init_32 : decode cX4_init 32 = .ok (.aload_n 1, 1) := dk_43 (dk_at dksX4_init_1 8 rfl rfl)
theorem dX4_init_33 : decode cX4_init 33 = .ok (.getfield 25, 3) := dk_180 0 25 (dk_at dksX4_init_1 9 rfl rfl)
theorem dX4_init_36 : decode cX4_init 36 = .ok (.iload_n 2, 1) := dk_28 (dk_at dksX4_init_1 12 rfl rfl)
theorem dX4_init_37 : decode cX4_init 37 = .ok (.baload, 1) := dk_51 (dk_at dksX4_init_1 13 rfl rfl)
theorem dX4_init_38 : decode cX4_init 38 = .ok (.ifCond .eq 14, 3) := dk_153 0 14 (dk_at dksX4_init_1 14 rfl rfl)
theorem dX4_init_41 : decode cX4_init 41 = .ok (.iconst 1, 1) := dk_4 (dk_at dksX4_init_1 17 rfl rfl)
theorem dX4_init_42 : decode cX4_init 42 = .ok (.aload_n 1, 1) := dk_43 (dk_at dksX4_init_1 18 rfl rfl)
theorem dX4_init_43 : decode cX4_init 43 = .ok (.getfield 29, 3) := dk_180 0 29 (dk_at dksX4_init_1 19 rfl rfl)
theorem dX4_init_46 : decode cX4_init 46 = .ok (.iload_n 2, 1) := dk_28 (dk_at dksX4_init_1 22 rfl rfl)
theorem dX4_init_47 : decode cX4_init 47 = .ok (.iaload, 1) := dk_46 (dk_at dksX4_init_1 23 rfl rfl)
theorem dX4_init_48 : decode cX4_init 48 = .ok (.ishl, 1) := dk_120 (dk_at dksX4_init_2 0 rfl rfl)
theorem dX4_init_49 : decode cX4_init 49 = .ok (.goto 14, 3) := dk_167 0 14 (dk_at dksX4_init_2 1 rfl rfl)
theorem dX4_init_52 : decode cX4_init 52 = .ok (.iconst 1, 1) := dk_4 (dk_at dksX4_init_2 4 rfl rfl)
theorem dX4_init_53 : decode cX4_init 53 = .ok (.aload_n 1, 1) := dk_43 (dk_at dksX4_init_2 5 rfl rfl)
theorem dX4_init_54 : decode cX4_init 54 = .ok (.iload_n 2, 1) := dk_28 (dk_at dksX4_init_2 6 rfl rfl)
theorem dX4_init_55 : decode cX4_init 55 = .ok (.invokevirtual 32, 3) := dk_182 0 32 (dk_at dksX4_init_2 7 rfl rfl)
theorem dX4_init_58 : decode cX4_init 58 = .ok (.iconst 1, 1) := dk_4 (dk_at dksX4_init_2 10 rfl rfl)
theorem dX4_init_59 : decode cX4_init 59 = .ok (.iadd, 1) := dk_96 (dk_at dksX4_init_2 11 rfl rfl)
theorem dX4_init_60 : decode cX4_init 60 = .ok (.ishl, 1) := dk_120 (dk_at dksX4_init_2 12 rfl rfl)
theorem dX4_init_61 : decode cX4_init 61 = .ok (.iconst 2, 1) := dk_5 (dk_at dksX4_init_2 13 rfl rfl)
theorem dX4_init_62 : decode cX4_init 62 = .ok (.isub, 1) := dk_100 (dk_at dksX4_init_2 14 rfl rfl)
theorem dX4_init_63 : decode cX4_init 63 = .ok (.iastore, 1) := dk_79 (dk_at dksX4_init_2 15 rfl rfl)
theorem dX4_init_64 : decode cX4_init 64 = .ok (.iinc 2 1, 3) := dk_132 2 1 (dk_at dksX4_init_2 16 rfl rfl)
theorem dX4_init_67 : decode cX4_init 67 = .ok (.goto (-48), 3) := dk_167 255 208 (dk_at dksX4_init_2 19 rfl rfl)
theorem dX4_init_70 : decode cX4_init 70 = .ok (.return_, 1) := dk_177 (dk_at dksX4_init_2 22 rfl rfl)
abbrev cX4_isBroken : ByteArray := prog_3_method_7_code
def yX4_isBroken : MethodName := ⟨RX4, "isBroken", "()Z"⟩
def dkwX4_isBroken_0 : List UInt8 := [42, 3, 182, 0, 57, 158, 0, 7, 4, 167, 0, 4, 3, 172]
abbrev dktX4_isBroken_0 : List UInt8 := dkwX4_isBroken_0 ++ []
theorem dksX4_isBroken_0 : cX4_isBroken.data.toList.drop 0 = dktX4_isBroken_0 := by decide +kernel
theorem dX4_isBroken_0 : decode cX4_isBroken 0 = .ok (.aload_n 0, 1) := dk_42 (dk_at dksX4_isBroken_0 0 rfl rfl)
theorem dX4_isBroken_1 : decode cX4_isBroken 1 = .ok (.iconst 0, 1) := dk_3 (dk_at dksX4_isBroken_0 1 rfl rfl)
theorem dX4_isBroken_2 : decode cX4_isBroken 2 = .ok (.invokevirtual 57, 3) := dk_182 0 57 (dk_at dksX4_isBroken_0 2 rfl rfl)
theorem dX4_isBroken_5 : decode cX4_isBroken 5 = .ok (.ifCond .le 7, 3) := dk_158 0 7 (dk_at dksX4_isBroken_0 5 rfl rfl)
theorem dX4_isBroken_8 : decode cX4_isBroken 8 = .ok (.iconst 1, 1) := dk_4 (dk_at dksX4_isBroken_0 8 rfl rfl)
theorem dX4_isBroken_9 : decode cX4_isBroken 9 = .ok (.goto 4, 3) := dk_167 0 4 (dk_at dksX4_isBroken_0 9 rfl rfl)
theorem dX4_isBroken_12 : decode cX4_isBroken 12 = .ok (.iconst 0, 1) := dk_3 (dk_at dksX4_isBroken_0 12 rfl rfl)
theorem dX4_isBroken_13 : decode cX4_isBroken 13 = .ok (.ireturn, 1) := dk_172 (dk_at dksX4_isBroken_0 13 rfl rfl)
abbrev cX4_cellsWith : ByteArray := prog_3_method_6_code
def yX4_cellsWith : MethodName := ⟨RX4, "cellsWith", "(I)I"⟩
def dkwX4_cellsWith_1 : List UInt8 := [160, 0, 7, 4, 167, 0, 4, 3, 96, 61, 132, 3, 1, 167, 255, 225, 28, 172]
abbrev dktX4_cellsWith_1 : List UInt8 := dkwX4_cellsWith_1 ++ []
def dkwX4_cellsWith_0 : List UInt8 := [3, 61, 3, 62, 29, 42, 180, 0, 15, 182, 0, 19, 162, 0, 26, 28, 42, 29, 182, 0, 54, 27]
abbrev dktX4_cellsWith_0 : List UInt8 := dkwX4_cellsWith_0 ++ dktX4_cellsWith_1
theorem dksX4_cellsWith_0 : cX4_cellsWith.data.toList.drop 0 = dktX4_cellsWith_0 := by decide +kernel
theorem dksX4_cellsWith_1 : cX4_cellsWith.data.toList.drop 22 = dktX4_cellsWith_1 := dk_seg dksX4_cellsWith_0 22 rfl rfl
theorem dX4_cellsWith_0 : decode cX4_cellsWith 0 = .ok (.iconst 0, 1) := dk_3 (dk_at dksX4_cellsWith_0 0 rfl rfl)
theorem dX4_cellsWith_1 : decode cX4_cellsWith 1 = .ok (.istore_n 2, 1) := dk_61 (dk_at dksX4_cellsWith_0 1 rfl rfl)
theorem dX4_cellsWith_2 : decode cX4_cellsWith 2 = .ok (.iconst 0, 1) := dk_3 (dk_at dksX4_cellsWith_0 2 rfl rfl)
theorem dX4_cellsWith_3 : decode cX4_cellsWith 3 = .ok (.istore_n 3, 1) := dk_62 (dk_at dksX4_cellsWith_0 3 rfl rfl)
theorem dX4_cellsWith_4 : decode cX4_cellsWith 4 = .ok (.iload_n 3, 1) := dk_29 (dk_at dksX4_cellsWith_0 4 rfl rfl)
theorem dX4_cellsWith_5 : decode cX4_cellsWith 5 = .ok (.aload_n 0, 1) := dk_42 (dk_at dksX4_cellsWith_0 5 rfl rfl)
theorem dX4_cellsWith_6 : decode cX4_cellsWith 6 = .ok (.getfield 15, 3) := dk_180 0 15 (dk_at dksX4_cellsWith_0 6 rfl rfl)
theorem dX4_cellsWith_9 : decode cX4_cellsWith 9 = .ok (.invokevirtual 19, 3) := dk_182 0 19 (dk_at dksX4_cellsWith_0 9 rfl rfl)
theorem dX4_cellsWith_12 : decode cX4_cellsWith 12 = .ok (.if_icmp .ge 26, 3) := dk_162 0 26 (dk_at dksX4_cellsWith_0 12 rfl rfl)
theorem dX4_cellsWith_15 : decode cX4_cellsWith 15 = .ok (.iload_n 2, 1) := dk_28 (dk_at dksX4_cellsWith_0 15 rfl rfl)
theorem dX4_cellsWith_16 : decode cX4_cellsWith 16 = .ok (.aload_n 0, 1) := dk_42 (dk_at dksX4_cellsWith_0 16 rfl rfl)
theorem dX4_cellsWith_17 : decode cX4_cellsWith 17 = .ok (.iload_n 3, 1) := dk_29 (dk_at dksX4_cellsWith_0 17 rfl rfl)
theorem dX4_cellsWith_18 : decode cX4_cellsWith 18 = .ok (.invokevirtual 54, 3) := dk_182 0 54 (dk_at dksX4_cellsWith_0 18 rfl rfl)
theorem dX4_cellsWith_21 : decode cX4_cellsWith 21 = .ok (.iload_n 1, 1) := dk_27 (dk_at dksX4_cellsWith_0 21 rfl rfl)
theorem dX4_cellsWith_22 : decode cX4_cellsWith 22 = .ok (.if_icmp .ne 7, 3) := dk_160 0 7 (dk_at dksX4_cellsWith_1 0 rfl rfl)
theorem dX4_cellsWith_25 : decode cX4_cellsWith 25 = .ok (.iconst 1, 1) := dk_4 (dk_at dksX4_cellsWith_1 3 rfl rfl)
theorem dX4_cellsWith_26 : decode cX4_cellsWith 26 = .ok (.goto 4, 3) := dk_167 0 4 (dk_at dksX4_cellsWith_1 4 rfl rfl)
theorem dX4_cellsWith_29 : decode cX4_cellsWith 29 = .ok (.iconst 0, 1) := dk_3 (dk_at dksX4_cellsWith_1 7 rfl rfl)
theorem dX4_cellsWith_30 : decode cX4_cellsWith 30 = .ok (.iadd, 1) := dk_96 (dk_at dksX4_cellsWith_1 8 rfl rfl)
theorem dX4_cellsWith_31 : decode cX4_cellsWith 31 = .ok (.istore_n 2, 1) := dk_61 (dk_at dksX4_cellsWith_1 9 rfl rfl)
theorem dX4_cellsWith_32 : decode cX4_cellsWith 32 = .ok (.iinc 3 1, 3) := dk_132 3 1 (dk_at dksX4_cellsWith_1 10 rfl rfl)
theorem dX4_cellsWith_35 : decode cX4_cellsWith 35 = .ok (.goto (-31), 3) := dk_167 255 225 (dk_at dksX4_cellsWith_1 13 rfl rfl)
theorem dX4_cellsWith_38 : decode cX4_cellsWith 38 = .ok (.iload_n 2, 1) := dk_28 (dk_at dksX4_cellsWith_1 16 rfl rfl)
theorem dX4_cellsWith_39 : decode cX4_cellsWith 39 = .ok (.ireturn, 1) := dk_172 (dk_at dksX4_cellsWith_1 17 rfl rfl)
abbrev cX4_possible : ByteArray := prog_3_method_4_code
def yX4_possible : MethodName := ⟨RX4, "possible", "(I)I"⟩
def dkwX4_possible_0 : List UInt8 := [42, 180, 0, 9, 27, 46, 184, 0, 49, 172]
abbrev dktX4_possible_0 : List UInt8 := dkwX4_possible_0 ++ []
theorem dksX4_possible_0 : cX4_possible.data.toList.drop 0 = dktX4_possible_0 := by decide +kernel
theorem dX4_possible_0 : decode cX4_possible 0 = .ok (.aload_n 0, 1) := dk_42 (dk_at dksX4_possible_0 0 rfl rfl)
theorem dX4_possible_1 : decode cX4_possible 1 = .ok (.getfield 9, 3) := dk_180 0 9 (dk_at dksX4_possible_0 1 rfl rfl)
theorem dX4_possible_4 : decode cX4_possible 4 = .ok (.iload_n 1, 1) := dk_27 (dk_at dksX4_possible_0 4 rfl rfl)
theorem dX4_possible_5 : decode cX4_possible 5 = .ok (.iaload, 1) := dk_46 (dk_at dksX4_possible_0 5 rfl rfl)
theorem dX4_possible_6 : decode cX4_possible 6 = .ok (.invokestatic 49, 3) := dk_184 0 49 (dk_at dksX4_possible_0 6 rfl rfl)
theorem dX4_possible_9 : decode cX4_possible 9 = .ok (.ireturn, 1) := dk_172 (dk_at dksX4_possible_0 9 rfl rfl)
abbrev cX4_sums : ByteArray := prog_3_method_10_code
def yX4_sums : MethodName := ⟨RX4, "sums", "(II)I"⟩
def dkwX4_sums_3 : List UInt8 := [128, 54, 5, 132, 6, 1, 167, 255, 222, 21, 5, 62, 132, 4, 1, 167, 255, 176, 29, 172]
abbrev dktX4_sums_3 : List UInt8 := dkwX4_sums_3 ++ []
def dkwX4_sums_2 : List UInt8 := [163, 0, 33, 21, 5, 42, 21, 4, 21, 6, 182, 0, 67, 153, 0, 10, 29, 21, 6, 120, 167, 0, 4, 3]
abbrev dktX4_sums_2 : List UInt8 := dkwX4_sums_2 ++ dktX4_sums_3
def dkwX4_sums_1 : List UInt8 := [180, 0, 15, 21, 4, 27, 182, 0, 64, 153, 0, 49, 3, 54, 5, 4, 54, 6, 21, 6, 16, 6]
abbrev dktX4_sums_1 : List UInt8 := dkwX4_sums_1 ++ dktX4_sums_2
def dkwX4_sums_0 : List UInt8 := [4, 62, 3, 54, 4, 21, 4, 42, 180, 0, 15, 182, 0, 19, 162, 0, 74, 21, 4, 28, 159, 0, 62, 42]
abbrev dktX4_sums_0 : List UInt8 := dkwX4_sums_0 ++ dktX4_sums_1
theorem dksX4_sums_0 : cX4_sums.data.toList.drop 0 = dktX4_sums_0 := by decide +kernel
theorem dksX4_sums_1 : cX4_sums.data.toList.drop 24 = dktX4_sums_1 := dk_seg dksX4_sums_0 24 rfl rfl
theorem dksX4_sums_2 : cX4_sums.data.toList.drop 46 = dktX4_sums_2 := dk_seg dksX4_sums_1 22 rfl rfl
theorem dksX4_sums_3 : cX4_sums.data.toList.drop 70 = dktX4_sums_3 := dk_seg dksX4_sums_2 24 rfl rfl
theorem dX4_sums_0 : decode cX4_sums 0 = .ok (.iconst 1, 1) := dk_4 (dk_at dksX4_sums_0 0 rfl rfl)
theorem dX4_sums_1 : decode cX4_sums 1 = .ok (.istore_n 3, 1) := dk_62 (dk_at dksX4_sums_0 1 rfl rfl)
theorem dX4_sums_2 : decode cX4_sums 2 = .ok (.iconst 0, 1) := dk_3 (dk_at dksX4_sums_0 2 rfl rfl)
theorem dX4_sums_3 : decode cX4_sums 3 = .ok (.istore 4, 2) := dk_54 4 (dk_at dksX4_sums_0 3 rfl rfl)
theorem dX4_sums_5 : decode cX4_sums 5 = .ok (.iload 4, 2) := dk_21 4 (dk_at dksX4_sums_0 5 rfl rfl)
theorem dX4_sums_7 : decode cX4_sums 7 = .ok (.aload_n 0, 1) := dk_42 (dk_at dksX4_sums_0 7 rfl rfl)
theorem dX4_sums_8 : decode cX4_sums 8 = .ok (.getfield 15, 3) := dk_180 0 15 (dk_at dksX4_sums_0 8 rfl rfl)
theorem dX4_sums_11 : decode cX4_sums 11 = .ok (.invokevirtual 19, 3) := dk_182 0 19 (dk_at dksX4_sums_0 11 rfl rfl)
theorem dX4_sums_14 : decode cX4_sums 14 = .ok (.if_icmp .ge 74, 3) := dk_162 0 74 (dk_at dksX4_sums_0 14 rfl rfl)
theorem dX4_sums_17 : decode cX4_sums 17 = .ok (.iload 4, 2) := dk_21 4 (dk_at dksX4_sums_0 17 rfl rfl)
theorem dX4_sums_19 : decode cX4_sums 19 = .ok (.iload_n 2, 1) := dk_28 (dk_at dksX4_sums_0 19 rfl rfl)
theorem dX4_sums_20 : decode cX4_sums 20 = .ok (.if_icmp .eq 62, 3) := dk_159 0 62 (dk_at dksX4_sums_0 20 rfl rfl)
theorem dX4_sums_23 : decode cX4_sums 23 = .ok (.aload_n 0, 1) := dk_42 (dk_at dksX4_sums_0 23 rfl rfl)
theorem dX4_sums_24 : decode cX4_sums 24 = .ok (.getfield 15, 3) := dk_180 0 15 (dk_at dksX4_sums_1 0 rfl rfl)
theorem dX4_sums_27 : decode cX4_sums 27 = .ok (.iload 4, 2) := dk_21 4 (dk_at dksX4_sums_1 3 rfl rfl)
theorem dX4_sums_29 : decode cX4_sums 29 = .ok (.iload_n 1, 1) := dk_27 (dk_at dksX4_sums_1 5 rfl rfl)
theorem dX4_sums_30 : decode cX4_sums 30 = .ok (.invokevirtual 64, 3) := dk_182 0 64 (dk_at dksX4_sums_1 6 rfl rfl)
theorem dX4_sums_33 : decode cX4_sums 33 = .ok (.ifCond .eq 49, 3) := dk_153 0 49 (dk_at dksX4_sums_1 9 rfl rfl)
theorem dX4_sums_36 : decode cX4_sums 36 = .ok (.iconst 0, 1) := dk_3 (dk_at dksX4_sums_1 12 rfl rfl)
theorem dX4_sums_37 : decode cX4_sums 37 = .ok (.istore 5, 2) := dk_54 5 (dk_at dksX4_sums_1 13 rfl rfl)
theorem dX4_sums_39 : decode cX4_sums 39 = .ok (.iconst 1, 1) := dk_4 (dk_at dksX4_sums_1 15 rfl rfl)
theorem dX4_sums_40 : decode cX4_sums 40 = .ok (.istore 6, 2) := dk_54 6 (dk_at dksX4_sums_1 16 rfl rfl)
theorem dX4_sums_42 : decode cX4_sums 42 = .ok (.iload 6, 2) := dk_21 6 (dk_at dksX4_sums_1 18 rfl rfl)
theorem dX4_sums_44 : decode cX4_sums 44 = .ok (.bipush 6, 2) := dk_16 6 (dk_at dksX4_sums_1 20 rfl rfl)
theorem dX4_sums_46 : decode cX4_sums 46 = .ok (.if_icmp .gt 33, 3) := dk_163 0 33 (dk_at dksX4_sums_2 0 rfl rfl)
theorem dX4_sums_49 : decode cX4_sums 49 = .ok (.iload 5, 2) := dk_21 5 (dk_at dksX4_sums_2 3 rfl rfl)
theorem dX4_sums_51 : decode cX4_sums 51 = .ok (.aload_n 0, 1) := dk_42 (dk_at dksX4_sums_2 5 rfl rfl)
theorem dX4_sums_52 : decode cX4_sums 52 = .ok (.iload 4, 2) := dk_21 4 (dk_at dksX4_sums_2 6 rfl rfl)
theorem dX4_sums_54 : decode cX4_sums 54 = .ok (.iload 6, 2) := dk_21 6 (dk_at dksX4_sums_2 8 rfl rfl)
theorem dX4_sums_56 : decode cX4_sums 56 = .ok (.invokevirtual 67, 3) := dk_182 0 67 (dk_at dksX4_sums_2 10 rfl rfl)
theorem dX4_sums_59 : decode cX4_sums 59 = .ok (.ifCond .eq 10, 3) := dk_153 0 10 (dk_at dksX4_sums_2 13 rfl rfl)
theorem dX4_sums_62 : decode cX4_sums 62 = .ok (.iload_n 3, 1) := dk_29 (dk_at dksX4_sums_2 16 rfl rfl)
theorem dX4_sums_63 : decode cX4_sums 63 = .ok (.iload 6, 2) := dk_21 6 (dk_at dksX4_sums_2 17 rfl rfl)
theorem dX4_sums_65 : decode cX4_sums 65 = .ok (.ishl, 1) := dk_120 (dk_at dksX4_sums_2 19 rfl rfl)
theorem dX4_sums_66 : decode cX4_sums 66 = .ok (.goto 4, 3) := dk_167 0 4 (dk_at dksX4_sums_2 20 rfl rfl)
theorem dX4_sums_69 : decode cX4_sums 69 = .ok (.iconst 0, 1) := dk_3 (dk_at dksX4_sums_2 23 rfl rfl)
theorem dX4_sums_70 : decode cX4_sums 70 = .ok (.ior, 1) := dk_128 (dk_at dksX4_sums_3 0 rfl rfl)
theorem dX4_sums_71 : decode cX4_sums 71 = .ok (.istore 5, 2) := dk_54 5 (dk_at dksX4_sums_3 1 rfl rfl)
theorem dX4_sums_73 : decode cX4_sums 73 = .ok (.iinc 6 1, 3) := dk_132 6 1 (dk_at dksX4_sums_3 3 rfl rfl)
theorem dX4_sums_76 : decode cX4_sums 76 = .ok (.goto (-34), 3) := dk_167 255 222 (dk_at dksX4_sums_3 6 rfl rfl)
theorem dX4_sums_79 : decode cX4_sums 79 = .ok (.iload 5, 2) := dk_21 5 (dk_at dksX4_sums_3 9 rfl rfl)
theorem dX4_sums_81 : decode cX4_sums 81 = .ok (.istore_n 3, 1) := dk_62 (dk_at dksX4_sums_3 11 rfl rfl)
theorem dX4_sums_82 : decode cX4_sums 82 = .ok (.iinc 4 1, 3) := dk_132 4 1 (dk_at dksX4_sums_3 12 rfl rfl)
theorem dX4_sums_85 : decode cX4_sums 85 = .ok (.goto (-80), 3) := dk_167 255 176 (dk_at dksX4_sums_3 15 rfl rfl)
theorem dX4_sums_88 : decode cX4_sums 88 = .ok (.iload_n 3, 1) := dk_29 (dk_at dksX4_sums_3 18 rfl rfl)
theorem dX4_sums_89 : decode cX4_sums 89 = .ok (.ireturn, 1) := dk_172 (dk_at dksX4_sums_3 19 rfl rfl)
abbrev cX4_isPossible : ByteArray := prog_3_method_3_code
def yX4_isPossible : MethodName := ⟨RX4, "isPossible", "(II)Z"⟩
def dkwX4_isPossible_0 : List UInt8 := [42, 180, 0, 9, 27, 46, 28, 184, 0, 45, 172]
abbrev dktX4_isPossible_0 : List UInt8 := dkwX4_isPossible_0 ++ []
theorem dksX4_isPossible_0 : cX4_isPossible.data.toList.drop 0 = dktX4_isPossible_0 := by decide +kernel
theorem dX4_isPossible_0 : decode cX4_isPossible 0 = .ok (.aload_n 0, 1) := dk_42 (dk_at dksX4_isPossible_0 0 rfl rfl)
theorem dX4_isPossible_1 : decode cX4_isPossible 1 = .ok (.getfield 9, 3) := dk_180 0 9 (dk_at dksX4_isPossible_0 1 rfl rfl)
theorem dX4_isPossible_4 : decode cX4_isPossible 4 = .ok (.iload_n 1, 1) := dk_27 (dk_at dksX4_isPossible_0 4 rfl rfl)
theorem dX4_isPossible_5 : decode cX4_isPossible 5 = .ok (.iaload, 1) := dk_46 (dk_at dksX4_isPossible_0 5 rfl rfl)
theorem dX4_isPossible_6 : decode cX4_isPossible 6 = .ok (.iload_n 2, 1) := dk_28 (dk_at dksX4_isPossible_0 6 rfl rfl)
theorem dX4_isPossible_7 : decode cX4_isPossible 7 = .ok (.invokestatic 45, 3) := dk_184 0 45 (dk_at dksX4_isPossible_0 7 rfl rfl)
theorem dX4_isPossible_10 : decode cX4_isPossible 10 = .ok (.ireturn, 1) := dk_172 (dk_at dksX4_isPossible_0 10 rfl rfl)
abbrev cX4_strike : ByteArray := prog_3_method_9_code
def yX4_strike : MethodName := ⟨RX4, "strike", "(II)V"⟩
def dkwX4_strike_0 : List UInt8 := [42, 180, 0, 9, 27, 92, 46, 4, 28, 120, 2, 130, 126, 79, 177]
abbrev dktX4_strike_0 : List UInt8 := dkwX4_strike_0 ++ []
theorem dksX4_strike_0 : cX4_strike.data.toList.drop 0 = dktX4_strike_0 := by decide +kernel
theorem dX4_strike_0 : decode cX4_strike 0 = .ok (.aload_n 0, 1) := dk_42 (dk_at dksX4_strike_0 0 rfl rfl)
theorem dX4_strike_1 : decode cX4_strike 1 = .ok (.getfield 9, 3) := dk_180 0 9 (dk_at dksX4_strike_0 1 rfl rfl)
theorem dX4_strike_4 : decode cX4_strike 4 = .ok (.iload_n 1, 1) := dk_27 (dk_at dksX4_strike_0 4 rfl rfl)
theorem dX4_strike_5 : decode cX4_strike 5 = .ok (.dup2, 1) := dk_92 (dk_at dksX4_strike_0 5 rfl rfl)
theorem dX4_strike_6 : decode cX4_strike 6 = .ok (.iaload, 1) := dk_46 (dk_at dksX4_strike_0 6 rfl rfl)
theorem dX4_strike_7 : decode cX4_strike 7 = .ok (.iconst 1, 1) := dk_4 (dk_at dksX4_strike_0 7 rfl rfl)
theorem dX4_strike_8 : decode cX4_strike 8 = .ok (.iload_n 2, 1) := dk_28 (dk_at dksX4_strike_0 8 rfl rfl)
theorem dX4_strike_9 : decode cX4_strike 9 = .ok (.ishl, 1) := dk_120 (dk_at dksX4_strike_0 9 rfl rfl)
theorem dX4_strike_10 : decode cX4_strike 10 = .ok (.iconst (-1), 1) := dk_2 (dk_at dksX4_strike_0 10 rfl rfl)
theorem dX4_strike_11 : decode cX4_strike 11 = .ok (.ixor, 1) := dk_130 (dk_at dksX4_strike_0 11 rfl rfl)
theorem dX4_strike_12 : decode cX4_strike 12 = .ok (.iand, 1) := dk_126 (dk_at dksX4_strike_0 12 rfl rfl)
theorem dX4_strike_13 : decode cX4_strike 13 = .ok (.iastore, 1) := dk_79 (dk_at dksX4_strike_0 13 rfl rfl)
theorem dX4_strike_14 : decode cX4_strike 14 = .ok (.return_, 1) := dk_177 (dk_at dksX4_strike_0 14 rfl rfl)
abbrev cX4_outcome : ByteArray := prog_3_method_8_code
def yX4_outcome : MethodName := ⟨RX4, "outcome", "()I"⟩
def dkwX4_outcome_1 : List UInt8 := [160, 0, 7, 4, 167, 0, 4, 3, 172]
abbrev dktX4_outcome_1 : List UInt8 := dkwX4_outcome_1 ++ []
def dkwX4_outcome_0 : List UInt8 := [42, 182, 0, 60, 153, 0, 7, 5, 167, 0, 23, 42, 4, 182, 0, 57, 42, 180, 0, 15, 182, 0, 19]
abbrev dktX4_outcome_0 : List UInt8 := dkwX4_outcome_0 ++ dktX4_outcome_1
theorem dksX4_outcome_0 : cX4_outcome.data.toList.drop 0 = dktX4_outcome_0 := by decide +kernel
theorem dksX4_outcome_1 : cX4_outcome.data.toList.drop 23 = dktX4_outcome_1 := dk_seg dksX4_outcome_0 23 rfl rfl
theorem dX4_outcome_0 : decode cX4_outcome 0 = .ok (.aload_n 0, 1) := dk_42 (dk_at dksX4_outcome_0 0 rfl rfl)
theorem dX4_outcome_1 : decode cX4_outcome 1 = .ok (.invokevirtual 60, 3) := dk_182 0 60 (dk_at dksX4_outcome_0 1 rfl rfl)
theorem dX4_outcome_4 : decode cX4_outcome 4 = .ok (.ifCond .eq 7, 3) := dk_153 0 7 (dk_at dksX4_outcome_0 4 rfl rfl)
theorem dX4_outcome_7 : decode cX4_outcome 7 = .ok (.iconst 2, 1) := dk_5 (dk_at dksX4_outcome_0 7 rfl rfl)
theorem dX4_outcome_8 : decode cX4_outcome 8 = .ok (.goto 23, 3) := dk_167 0 23 (dk_at dksX4_outcome_0 8 rfl rfl)
theorem dX4_outcome_11 : decode cX4_outcome 11 = .ok (.aload_n 0, 1) := dk_42 (dk_at dksX4_outcome_0 11 rfl rfl)
theorem dX4_outcome_12 : decode cX4_outcome 12 = .ok (.iconst 1, 1) := dk_4 (dk_at dksX4_outcome_0 12 rfl rfl)
theorem dX4_outcome_13 : decode cX4_outcome 13 = .ok (.invokevirtual 57, 3) := dk_182 0 57 (dk_at dksX4_outcome_0 13 rfl rfl)
theorem dX4_outcome_16 : decode cX4_outcome 16 = .ok (.aload_n 0, 1) := dk_42 (dk_at dksX4_outcome_0 16 rfl rfl)
theorem dX4_outcome_17 : decode cX4_outcome 17 = .ok (.getfield 15, 3) := dk_180 0 15 (dk_at dksX4_outcome_0 17 rfl rfl)
theorem dX4_outcome_20 : decode cX4_outcome 20 = .ok (.invokevirtual 19, 3) := dk_182 0 19 (dk_at dksX4_outcome_0 20 rfl rfl)
theorem dX4_outcome_23 : decode cX4_outcome 23 = .ok (.if_icmp .ne 7, 3) := dk_160 0 7 (dk_at dksX4_outcome_1 0 rfl rfl)
theorem dX4_outcome_26 : decode cX4_outcome 26 = .ok (.iconst 1, 1) := dk_4 (dk_at dksX4_outcome_1 3 rfl rfl)
theorem dX4_outcome_27 : decode cX4_outcome 27 = .ok (.goto 4, 3) := dk_167 0 4 (dk_at dksX4_outcome_1 4 rfl rfl)
theorem dX4_outcome_30 : decode cX4_outcome 30 = .ok (.iconst 0, 1) := dk_3 (dk_at dksX4_outcome_1 7 rfl rfl)
theorem dX4_outcome_31 : decode cX4_outcome 31 = .ok (.ireturn, 1) := dk_172 (dk_at dksX4_outcome_1 8 rfl rfl)
abbrev cX4_possible_2 : ByteArray := prog_3_method_5_code
def yX4_possible_2 : MethodName := ⟨RX4, "possible", "()I"⟩
def dkwX4_possible_2_1 : List UInt8 := [132, 2, 1, 167, 255, 234, 27, 172]
abbrev dktX4_possible_2_1 : List UInt8 := dkwX4_possible_2_1 ++ []
def dkwX4_possible_2_0 : List UInt8 := [3, 60, 3, 61, 28, 42, 180, 0, 15, 182, 0, 19, 162, 0, 17, 27, 42, 28, 182, 0, 54, 96, 60]
abbrev dktX4_possible_2_0 : List UInt8 := dkwX4_possible_2_0 ++ dktX4_possible_2_1
theorem dksX4_possible_2_0 : cX4_possible_2.data.toList.drop 0 = dktX4_possible_2_0 := by decide +kernel
theorem dksX4_possible_2_1 : cX4_possible_2.data.toList.drop 23 = dktX4_possible_2_1 := dk_seg dksX4_possible_2_0 23 rfl rfl
theorem dX4_possible_2_0 : decode cX4_possible_2 0 = .ok (.iconst 0, 1) := dk_3 (dk_at dksX4_possible_2_0 0 rfl rfl)
theorem dX4_possible_2_1 : decode cX4_possible_2 1 = .ok (.istore_n 1, 1) := dk_60 (dk_at dksX4_possible_2_0 1 rfl rfl)
theorem dX4_possible_2_2 : decode cX4_possible_2 2 = .ok (.iconst 0, 1) := dk_3 (dk_at dksX4_possible_2_0 2 rfl rfl)
theorem dX4_possible_2_3 : decode cX4_possible_2 3 = .ok (.istore_n 2, 1) := dk_61 (dk_at dksX4_possible_2_0 3 rfl rfl)
theorem dX4_possible_2_4 : decode cX4_possible_2 4 = .ok (.iload_n 2, 1) := dk_28 (dk_at dksX4_possible_2_0 4 rfl rfl)
theorem dX4_possible_2_5 : decode cX4_possible_2 5 = .ok (.aload_n 0, 1) := dk_42 (dk_at dksX4_possible_2_0 5 rfl rfl)
theorem dX4_possible_2_6 : decode cX4_possible_2 6 = .ok (.getfield 15, 3) := dk_180 0 15 (dk_at dksX4_possible_2_0 6 rfl rfl)
theorem dX4_possible_2_9 : decode cX4_possible_2 9 = .ok (.invokevirtual 19, 3) := dk_182 0 19 (dk_at dksX4_possible_2_0 9 rfl rfl)
theorem dX4_possible_2_12 : decode cX4_possible_2 12 = .ok (.if_icmp .ge 17, 3) := dk_162 0 17 (dk_at dksX4_possible_2_0 12 rfl rfl)
theorem dX4_possible_2_15 : decode cX4_possible_2 15 = .ok (.iload_n 1, 1) := dk_27 (dk_at dksX4_possible_2_0 15 rfl rfl)
theorem dX4_possible_2_16 : decode cX4_possible_2 16 = .ok (.aload_n 0, 1) := dk_42 (dk_at dksX4_possible_2_0 16 rfl rfl)
theorem dX4_possible_2_17 : decode cX4_possible_2 17 = .ok (.iload_n 2, 1) := dk_28 (dk_at dksX4_possible_2_0 17 rfl rfl)
theorem dX4_possible_2_18 : decode cX4_possible_2 18 = .ok (.invokevirtual 54, 3) := dk_182 0 54 (dk_at dksX4_possible_2_0 18 rfl rfl)
theorem dX4_possible_2_21 : decode cX4_possible_2 21 = .ok (.iadd, 1) := dk_96 (dk_at dksX4_possible_2_0 21 rfl rfl)
theorem dX4_possible_2_22 : decode cX4_possible_2 22 = .ok (.istore_n 1, 1) := dk_60 (dk_at dksX4_possible_2_0 22 rfl rfl)
theorem dX4_possible_2_23 : decode cX4_possible_2 23 = .ok (.iinc 2 1, 3) := dk_132 2 1 (dk_at dksX4_possible_2_1 0 rfl rfl)
theorem dX4_possible_2_26 : decode cX4_possible_2 26 = .ok (.goto (-22), 3) := dk_167 255 234 (dk_at dksX4_possible_2_1 3 rfl rfl)
theorem dX4_possible_2_29 : decode cX4_possible_2 29 = .ok (.iload_n 1, 1) := dk_27 (dk_at dksX4_possible_2_1 6 rfl rfl)
theorem dX4_possible_2_30 : decode cX4_possible_2 30 = .ok (.ireturn, 1) := dk_172 (dk_at dksX4_possible_2_1 7 rfl rfl)
abbrev cX4_copy : ByteArray := prog_3_method_2_code
def yX4_copy : MethodName := ⟨RX4, "copy", "()LEdgeSums$Board;"⟩
def dkwX4_copy_1 : List UInt8 := [184, 0, 39, 43, 176]
abbrev dktX4_copy_1 : List UInt8 := dkwX4_copy_1 ++ []
def dkwX4_copy_0 : List UInt8 := [187, 0, 10, 89, 42, 180, 0, 15, 183, 0, 36, 76, 42, 180, 0, 9, 3, 43, 180, 0, 9, 3, 16, 25]
abbrev dktX4_copy_0 : List UInt8 := dkwX4_copy_0 ++ dktX4_copy_1
theorem dksX4_copy_0 : cX4_copy.data.toList.drop 0 = dktX4_copy_0 := by decide +kernel
theorem dksX4_copy_1 : cX4_copy.data.toList.drop 24 = dktX4_copy_1 := dk_seg dksX4_copy_0 24 rfl rfl
theorem dX4_copy_0 : decode cX4_copy 0 = .ok (.new 10, 3) := dk_187 0 10 (dk_at dksX4_copy_0 0 rfl rfl)
theorem dX4_copy_3 : decode cX4_copy 3 = .ok (.dup, 1) := dk_89 (dk_at dksX4_copy_0 3 rfl rfl)
theorem dX4_copy_4 : decode cX4_copy 4 = .ok (.aload_n 0, 1) := dk_42 (dk_at dksX4_copy_0 4 rfl rfl)
theorem dX4_copy_5 : decode cX4_copy 5 = .ok (.getfield 15, 3) := dk_180 0 15 (dk_at dksX4_copy_0 5 rfl rfl)
theorem dX4_copy_8 : decode cX4_copy 8 = .ok (.invokespecial 36, 3) := dk_183 0 36 (dk_at dksX4_copy_0 8 rfl rfl)
theorem dX4_copy_11 : decode cX4_copy 11 = .ok (.astore_n 1, 1) := dk_76 (dk_at dksX4_copy_0 11 rfl rfl)
theorem dX4_copy_12 : decode cX4_copy 12 = .ok (.aload_n 0, 1) := dk_42 (dk_at dksX4_copy_0 12 rfl rfl)
theorem dX4_copy_13 : decode cX4_copy 13 = .ok (.getfield 9, 3) := dk_180 0 9 (dk_at dksX4_copy_0 13 rfl rfl)
theorem dX4_copy_16 : decode cX4_copy 16 = .ok (.iconst 0, 1) := dk_3 (dk_at dksX4_copy_0 16 rfl rfl)
theorem dX4_copy_17 : decode cX4_copy 17 = .ok (.aload_n 1, 1) := dk_43 (dk_at dksX4_copy_0 17 rfl rfl)
theorem dX4_copy_18 : decode cX4_copy 18 = .ok (.getfield 9, 3) := dk_180 0 9 (dk_at dksX4_copy_0 18 rfl rfl)
theorem dX4_copy_21 : decode cX4_copy 21 = .ok (.iconst 0, 1) := dk_3 (dk_at dksX4_copy_0 21 rfl rfl)
theorem dX4_copy_22 : decode cX4_copy 22 = .ok (.bipush 25, 2) := dk_16 25 (dk_at dksX4_copy_0 22 rfl rfl)
theorem dX4_copy_24 : decode cX4_copy 24 = .ok (.invokestatic 39, 3) := dk_184 0 39 (dk_at dksX4_copy_1 0 rfl rfl)
theorem dX4_copy_27 : decode cX4_copy 27 = .ok (.aload_n 1, 1) := dk_43 (dk_at dksX4_copy_1 3 rfl rfl)
theorem dX4_copy_28 : decode cX4_copy 28 = .ok (.areturn, 1) := dk_176 (dk_at dksX4_copy_1 4 rfl rfl)
theorem q145 : (Jvm.Cond.initialized "EdgeSums$Board") ∈ lw_all := lw_g (lw_at lw_m1 21 rfl) rfl
theorem q695 : (Jvm.Cond.fieldLinkNest "EdgeSums$Board" (29 : Nat) "EdgeSums$Page" "numbers" "[I" "EdgeSums") ∈ lw_tbl := lw_at lw_m3 91 rfl
theorem q698 : (Jvm.Cond.fieldLinkNest "EdgeSums$Board" (25 : Nat) "EdgeSums$Page" "given" "[Z" "EdgeSums") ∈ lw_tbl := lw_at lw_m3 94 rfl
theorem q729 : (Jvm.Cond.instantiable "EdgeSums$Board" (2 : Nat)) ∈ lw_all := lw_g (lw_at lw_m3 125 rfl) rfl
theorem q731 : (Jvm.Cond.instanceMethod ({ cls := "EdgeSums$Board", name := "<init>", desc := "(LEdgeSums$Page;)V" } : Jvm.MethodName)) ∈ lw_all := lw_g (lw_at lw_m3 127 rfl) rfl
theorem q732 : (Jvm.Cond.code ({ cls := "EdgeSums$Board", name := "<init>", desc := "(LEdgeSums$Page;)V" } : Jvm.MethodName) prog_3_method_1_code (3 : Nat) (Option.none : Option Jvm.ClassFile.FieldType)) ∈ lw_all := lw_g (lw_at lw_m3 128 rfl) rfl
theorem q733 : (Jvm.Cond.methodLink "EdgeSums$Board" (3 : Nat) ({ cls := "java/lang/Object", name := "<init>", desc := "()V" } : Jvm.MethodName)) ∈ lw_all := lw_g (lw_at lw_m3 129 rfl) rfl
theorem q734 : (Jvm.Cond.methodLink "EdgeSums$Board" (19 : Nat) ({ cls := "EdgeSums$Page", name := "cells", desc := "()I" } : Jvm.MethodName)) ∈ lw_all := lw_g (lw_at lw_m3 130 rfl) rfl
theorem q735 : (Jvm.Cond.methodLink "EdgeSums$Board" (32 : Nat) ({ cls := "EdgeSums$Page", name := "size", desc := "(I)I" } : Jvm.MethodName)) ∈ lw_all := lw_g (lw_at lw_m3 131 rfl) rfl
theorem q739 : (Jvm.Cond.fieldLink "EdgeSums$Board" (15 : Nat) "EdgeSums$Board" "page" "LEdgeSums$Page;") ∈ lw_all := lw_g (lw_at lw_m3 135 rfl) rfl
theorem q746 : (Jvm.Cond.fieldLink "EdgeSums$Board" (9 : Nat) "EdgeSums$Board" "sets" "[I") ∈ lw_all := lw_g (lw_at lw_m3 142 rfl) rfl
theorem q753 : (Jvm.Cond.laysFinal "EdgeSums$Board" "EdgeSums$Board" "page" "LEdgeSums$Page;") ∈ lw_all := lw_g (lw_at lw_m3 149 rfl) rfl
theorem q754 : (Jvm.Cond.soleField "EdgeSums$Board" "page") ∈ lw_all := lw_g (lw_at lw_m3 150 rfl) rfl
theorem q755 : (Jvm.Cond.laysFinal "EdgeSums$Board" "EdgeSums$Board" "sets" "[I") ∈ lw_all := lw_g (lw_at lw_m3 151 rfl) rfl
theorem q756 : (Jvm.Cond.soleField "EdgeSums$Board" "sets") ∈ lw_all := lw_g (lw_at lw_m3 152 rfl) rfl
theorem q757 : (Jvm.Cond.superclass "EdgeSums$Board" "java/lang/Object") ∈ lw_all := lw_g (lw_at lw_m3 153 rfl) rfl
theorem q1088 : (Jvm.Cond.selects "EdgeSums$Board" ({ cls := "java/lang/Object", name := "getClass", desc := "()Ljava/lang/Class;" } : Jvm.MethodName) ({ cls := "java/lang/Object", name := "getClass", desc := "()Ljava/lang/Class;" } : Jvm.MethodName)) ∈ lw_all := lw_g (lw_at lw_m5 4 rfl) rfl
theorem q1316 : (Jvm.Cond.instanceMethod ({ cls := "EdgeSums$Board", name := "isBroken", desc := "()Z" } : Jvm.MethodName)) ∈ lw_all := lw_g (lw_at lw_m5 232 rfl) rfl
theorem q1317 : (Jvm.Cond.selects "EdgeSums$Board" ({ cls := "EdgeSums$Board", name := "isBroken", desc := "()Z" } : Jvm.MethodName) ({ cls := "EdgeSums$Board", name := "isBroken", desc := "()Z" } : Jvm.MethodName)) ∈ lw_all := lw_g (lw_at lw_m5 233 rfl) rfl
theorem q1318 : (Jvm.Cond.code ({ cls := "EdgeSums$Board", name := "isBroken", desc := "()Z" } : Jvm.MethodName) prog_3_method_7_code (1 : Nat) (Option.some Jvm.ClassFile.FieldType.boolean)) ∈ lw_all := lw_g (lw_at lw_m5 234 rfl) rfl
theorem q1319 : (Jvm.Cond.methodLink "EdgeSums$Board" (57 : Nat) ({ cls := "EdgeSums$Board", name := "cellsWith", desc := "(I)I" } : Jvm.MethodName)) ∈ lw_all := lw_g (lw_at lw_m5 235 rfl) rfl
theorem q1320 : (Jvm.Cond.instanceMethod ({ cls := "EdgeSums$Board", name := "cellsWith", desc := "(I)I" } : Jvm.MethodName)) ∈ lw_all := lw_g (lw_at lw_m5 236 rfl) rfl
theorem q1321 : (Jvm.Cond.selects "EdgeSums$Board" ({ cls := "EdgeSums$Board", name := "cellsWith", desc := "(I)I" } : Jvm.MethodName) ({ cls := "EdgeSums$Board", name := "cellsWith", desc := "(I)I" } : Jvm.MethodName)) ∈ lw_all := lw_g (lw_at lw_m5 237 rfl) rfl
theorem q1322 : (Jvm.Cond.code ({ cls := "EdgeSums$Board", name := "cellsWith", desc := "(I)I" } : Jvm.MethodName) prog_3_method_6_code (4 : Nat) (Option.some Jvm.ClassFile.FieldType.int)) ∈ lw_all := lw_g (lw_at lw_m5 238 rfl) rfl
theorem q1323 : (Jvm.Cond.methodLink "EdgeSums$Board" (54 : Nat) ({ cls := "EdgeSums$Board", name := "possible", desc := "(I)I" } : Jvm.MethodName)) ∈ lw_all := lw_g (lw_at lw_m5 239 rfl) rfl
theorem q1324 : (Jvm.Cond.instanceMethod ({ cls := "EdgeSums$Board", name := "possible", desc := "(I)I" } : Jvm.MethodName)) ∈ lw_all := lw_g (lw_at lw_m6 0 rfl) rfl
theorem q1325 : (Jvm.Cond.selects "EdgeSums$Board" ({ cls := "EdgeSums$Board", name := "possible", desc := "(I)I" } : Jvm.MethodName) ({ cls := "EdgeSums$Board", name := "possible", desc := "(I)I" } : Jvm.MethodName)) ∈ lw_all := lw_g (lw_at lw_m6 1 rfl) rfl
theorem q1326 : (Jvm.Cond.code ({ cls := "EdgeSums$Board", name := "possible", desc := "(I)I" } : Jvm.MethodName) prog_3_method_4_code (2 : Nat) (Option.some Jvm.ClassFile.FieldType.int)) ∈ lw_all := lw_g (lw_at lw_m6 2 rfl) rfl
theorem q1327 : (Jvm.Cond.methodLink "EdgeSums$Board" (49 : Nat) ({ cls := "java/lang/Integer", name := "bitCount", desc := "(I)I" } : Jvm.MethodName)) ∈ lw_all := lw_g (lw_at lw_m6 3 rfl) rfl
theorem q1362 : (Jvm.Cond.instanceMethod ({ cls := "EdgeSums$Board", name := "sums", desc := "(II)I" } : Jvm.MethodName)) ∈ lw_all := lw_g (lw_at lw_m6 38 rfl) rfl
theorem q1363 : (Jvm.Cond.selects "EdgeSums$Board" ({ cls := "EdgeSums$Board", name := "sums", desc := "(II)I" } : Jvm.MethodName) ({ cls := "EdgeSums$Board", name := "sums", desc := "(II)I" } : Jvm.MethodName)) ∈ lw_all := lw_g (lw_at lw_m6 39 rfl) rfl
theorem q1364 : (Jvm.Cond.code ({ cls := "EdgeSums$Board", name := "sums", desc := "(II)I" } : Jvm.MethodName) prog_3_method_10_code (7 : Nat) (Option.some Jvm.ClassFile.FieldType.int)) ∈ lw_all := lw_g (lw_at lw_m6 40 rfl) rfl
theorem q1365 : (Jvm.Cond.methodLink "EdgeSums$Board" (64 : Nat) ({ cls := "EdgeSums$Page", name := "isIn", desc := "(II)Z" } : Jvm.MethodName)) ∈ lw_all := lw_g (lw_at lw_m6 41 rfl) rfl
theorem q1366 : (Jvm.Cond.methodLink "EdgeSums$Board" (67 : Nat) ({ cls := "EdgeSums$Board", name := "isPossible", desc := "(II)Z" } : Jvm.MethodName)) ∈ lw_all := lw_g (lw_at lw_m6 42 rfl) rfl
theorem q1367 : (Jvm.Cond.instanceMethod ({ cls := "EdgeSums$Board", name := "isPossible", desc := "(II)Z" } : Jvm.MethodName)) ∈ lw_all := lw_g (lw_at lw_m6 43 rfl) rfl
theorem q1368 : (Jvm.Cond.selects "EdgeSums$Board" ({ cls := "EdgeSums$Board", name := "isPossible", desc := "(II)Z" } : Jvm.MethodName) ({ cls := "EdgeSums$Board", name := "isPossible", desc := "(II)Z" } : Jvm.MethodName)) ∈ lw_all := lw_g (lw_at lw_m6 44 rfl) rfl
theorem q1369 : (Jvm.Cond.code ({ cls := "EdgeSums$Board", name := "isPossible", desc := "(II)Z" } : Jvm.MethodName) prog_3_method_3_code (3 : Nat) (Option.some Jvm.ClassFile.FieldType.boolean)) ∈ lw_all := lw_g (lw_at lw_m6 45 rfl) rfl
theorem q1370 : (Jvm.Cond.methodLinkNest "EdgeSums$Board" (45 : Nat) ({ cls := "EdgeSums", name := "has", desc := "(II)Z" } : Jvm.MethodName) "EdgeSums") ∈ lw_tbl := lw_at lw_m6 46 rfl
theorem q1415 : (Jvm.Cond.instanceMethod ({ cls := "EdgeSums$Board", name := "strike", desc := "(II)V" } : Jvm.MethodName)) ∈ lw_all := lw_g (lw_at lw_m6 91 rfl) rfl
theorem q1416 : (Jvm.Cond.selects "EdgeSums$Board" ({ cls := "EdgeSums$Board", name := "strike", desc := "(II)V" } : Jvm.MethodName) ({ cls := "EdgeSums$Board", name := "strike", desc := "(II)V" } : Jvm.MethodName)) ∈ lw_all := lw_g (lw_at lw_m6 92 rfl) rfl
theorem q1417 : (Jvm.Cond.code ({ cls := "EdgeSums$Board", name := "strike", desc := "(II)V" } : Jvm.MethodName) prog_3_method_9_code (3 : Nat) (Option.none : Option Jvm.ClassFile.FieldType)) ∈ lw_all := lw_g (lw_at lw_m6 93 rfl) rfl
theorem q1419 : (Jvm.Cond.instanceMethod ({ cls := "EdgeSums$Board", name := "outcome", desc := "()I" } : Jvm.MethodName)) ∈ lw_all := lw_g (lw_at lw_m6 95 rfl) rfl
theorem q1420 : (Jvm.Cond.selects "EdgeSums$Board" ({ cls := "EdgeSums$Board", name := "outcome", desc := "()I" } : Jvm.MethodName) ({ cls := "EdgeSums$Board", name := "outcome", desc := "()I" } : Jvm.MethodName)) ∈ lw_all := lw_g (lw_at lw_m6 96 rfl) rfl
theorem q1421 : (Jvm.Cond.code ({ cls := "EdgeSums$Board", name := "outcome", desc := "()I" } : Jvm.MethodName) prog_3_method_8_code (1 : Nat) (Option.some Jvm.ClassFile.FieldType.int)) ∈ lw_all := lw_g (lw_at lw_m6 97 rfl) rfl
theorem q1422 : (Jvm.Cond.methodLink "EdgeSums$Board" (60 : Nat) ({ cls := "EdgeSums$Board", name := "isBroken", desc := "()Z" } : Jvm.MethodName)) ∈ lw_all := lw_g (lw_at lw_m6 98 rfl) rfl
theorem q1623 : (Jvm.Cond.instanceMethod ({ cls := "EdgeSums$Board", name := "possible", desc := "()I" } : Jvm.MethodName)) ∈ lw_all := lw_g (lw_at lw_m7 59 rfl) rfl
theorem q1624 : (Jvm.Cond.selects "EdgeSums$Board" ({ cls := "EdgeSums$Board", name := "possible", desc := "()I" } : Jvm.MethodName) ({ cls := "EdgeSums$Board", name := "possible", desc := "()I" } : Jvm.MethodName)) ∈ lw_all := lw_g (lw_at lw_m7 60 rfl) rfl
theorem q1625 : (Jvm.Cond.code ({ cls := "EdgeSums$Board", name := "possible", desc := "()I" } : Jvm.MethodName) prog_3_method_5_code (3 : Nat) (Option.some Jvm.ClassFile.FieldType.int)) ∈ lw_all := lw_g (lw_at lw_m7 61 rfl) rfl
theorem q2446 : (Jvm.Cond.instanceMethod ({ cls := "EdgeSums$Board", name := "copy", desc := "()LEdgeSums$Board;" } : Jvm.MethodName)) ∈ lw_all := lw_g (lw_at lw_m10 162 rfl) rfl
theorem q2447 : (Jvm.Cond.selects "EdgeSums$Board" ({ cls := "EdgeSums$Board", name := "copy", desc := "()LEdgeSums$Board;" } : Jvm.MethodName) ({ cls := "EdgeSums$Board", name := "copy", desc := "()LEdgeSums$Board;" } : Jvm.MethodName)) ∈ lw_all := lw_g (lw_at lw_m10 163 rfl) rfl
theorem q2448 : (Jvm.Cond.code ({ cls := "EdgeSums$Board", name := "copy", desc := "()LEdgeSums$Board;" } : Jvm.MethodName) prog_3_method_2_code (2 : Nat) (Option.some (Jvm.ClassFile.FieldType.object "EdgeSums$Board"))) ∈ lw_all := lw_g (lw_at lw_m10 164 rfl) rfl
theorem q2449 : (Jvm.Cond.classLink "EdgeSums$Board" (10 : Nat) "EdgeSums$Board") ∈ lw_all := lw_g (lw_at lw_m10 165 rfl) rfl
theorem q2450 : (Jvm.Cond.methodLink "EdgeSums$Board" (36 : Nat) ({ cls := "EdgeSums$Board", name := "<init>", desc := "(LEdgeSums$Page;)V" } : Jvm.MethodName)) ∈ lw_all := lw_g (lw_at lw_m10 166 rfl) rfl
theorem q2451 : (Jvm.Cond.methodLink "EdgeSums$Board" (39 : Nat) ({ cls := "java/lang/System", name := "arraycopy", desc := "(Ljava/lang/Object;ILjava/lang/Object;II)V" } : Jvm.MethodName)) ∈ lw_all := lw_g (lw_at lw_m10 167 rfl) rfl
theorem q3197 : (Jvm.Cond.castable "EdgeSums$Board" "java/lang/Object") ∈ lw_tbl := lw_at lw_m13 193 rfl
theorem in_X4 : ∀ w ∈ wsX40, w ∈ lw_all := lw_in wsX40 [753, 755] (by decide +kernel) (by decide +kernel)
/-! EdgeSums$Solver -/
set_option maxRecDepth 100000
def RX5 : String := "EdgeSums$Solver"
def TX5 : u_T := fun k => match k with
  | 0 => ("EdgeSums$Solver", "rules", "[LEdgeSums$Rule;", true)
  | 1 => ("EdgeSums$Solver", "rule", "I", false)
  | 2 => ("EdgeSums$Solver", "cell", "I", false)
  | 3 => ("EdgeSums$Solver", "number", "I", false)
  | _ => ("EdgeSums$Solver", "cause", "I", false)
def tyX5 : Nat → FieldType := fun k => match k with
  | 0 => .array (.object "EdgeSums$Rule")
  | 1 => .int
  | 2 => .int
  | 3 => .int
  | _ => .int
abbrev wsX50 : List Cond := u_ws RX5 TX5 5
theorem nmX5 : ∀ a, a < 5 → ∀ b, b < 5 → a ≠ b → (TX5 a).2.1 ≠ (TX5 b).2.1 := by decide +kernel
theorem tyX5_ok : ∀ k, k < 5 → parseFieldDescriptor (TX5 k).2.2.1 = some (tyX5 k) := by decide +kernel
abbrev cX5_init : ByteArray := prog_22_method_1_code
def yX5_init : MethodName := ⟨RX5, "<init>", "()V"⟩
def dkwX5_init_2 : List UInt8 := [83, 181, 0, 25, 177]
abbrev dktX5_init_2 : List UInt8 := dkwX5_init_2 ++ []
def dkwX5_init_1 : List UInt8 := [83, 89, 5, 18, 19, 184, 0, 13, 83, 89, 6, 18, 21, 184, 0, 13, 83, 89, 7, 18, 23, 184, 0, 13]
abbrev dktX5_init_1 : List UInt8 := dkwX5_init_1 ++ dktX5_init_2
def dkwX5_init_0 : List UInt8 := [42, 183, 0, 3, 42, 8, 189, 0, 9, 89, 3, 18, 11, 184, 0, 13, 83, 89, 4, 18, 17, 184, 0, 13]
abbrev dktX5_init_0 : List UInt8 := dkwX5_init_0 ++ dktX5_init_1
theorem dksX5_init_0 : cX5_init.data.toList.drop 0 = dktX5_init_0 := by decide +kernel
theorem dksX5_init_1 : cX5_init.data.toList.drop 24 = dktX5_init_1 := dk_seg dksX5_init_0 24 rfl rfl
theorem dksX5_init_2 : cX5_init.data.toList.drop 48 = dktX5_init_2 := dk_seg dksX5_init_1 24 rfl rfl
theorem dX5_init_0 : decode cX5_init 0 = .ok (.aload_n 0, 1) := dk_42 (dk_at dksX5_init_0 0 rfl rfl)
theorem dX5_init_1 : decode cX5_init 1 = .ok (.invokespecial 3, 3) := dk_183 0 3 (dk_at dksX5_init_0 1 rfl rfl)
theorem dX5_init_4 : decode cX5_init 4 = .ok (.aload_n 0, 1) := dk_42 (dk_at dksX5_init_0 4 rfl rfl)
theorem dX5_init_5 : decode cX5_init 5 = .ok (.iconst 5, 1) := dk_8 (dk_at dksX5_init_0 5 rfl rfl)
theorem dX5_init_6 : decode cX5_init 6 = .ok (.anewarray 9, 3) := dk_189 0 9 (dk_at dksX5_init_0 6 rfl rfl)
theorem dX5_init_9 : decode cX5_init 9 = .ok (.dup, 1) := dk_89 (dk_at dksX5_init_0 9 rfl rfl)
theorem dX5_init_10 : decode cX5_init 10 = .ok (.iconst 0, 1) := dk_3 (dk_at dksX5_init_0 10 rfl rfl)
theorem dX5_init_11 : decode cX5_init 11 = .ok (.ldc 11, 2) := dk_18 11 (dk_at dksX5_init_0 11 rfl rfl)
theorem dX5_init_13 : decode cX5_init 13 = .ok (.invokestatic 13, 3) := dk_184 0 13 (dk_at dksX5_init_0 13 rfl rfl)
theorem dX5_init_16 : decode cX5_init 16 = .ok (.aastore, 1) := dk_83 (dk_at dksX5_init_0 16 rfl rfl)
theorem dX5_init_17 : decode cX5_init 17 = .ok (.dup, 1) := dk_89 (dk_at dksX5_init_0 17 rfl rfl)
theorem dX5_init_18 : decode cX5_init 18 = .ok (.iconst 1, 1) := dk_4 (dk_at dksX5_init_0 18 rfl rfl)
theorem dX5_init_19 : decode cX5_init 19 = .ok (.ldc 17, 2) := dk_18 17 (dk_at dksX5_init_0 19 rfl rfl)
theorem dX5_init_21 : decode cX5_init 21 = .ok (.invokestatic 13, 3) := dk_184 0 13 (dk_at dksX5_init_0 21 rfl rfl)
theorem dX5_init_24 : decode cX5_init 24 = .ok (.aastore, 1) := dk_83 (dk_at dksX5_init_1 0 rfl rfl)
theorem dX5_init_25 : decode cX5_init 25 = .ok (.dup, 1) := dk_89 (dk_at dksX5_init_1 1 rfl rfl)
theorem dX5_init_26 : decode cX5_init 26 = .ok (.iconst 2, 1) := dk_5 (dk_at dksX5_init_1 2 rfl rfl)
theorem dX5_init_27 : decode cX5_init 27 = .ok (.ldc 19, 2) := dk_18 19 (dk_at dksX5_init_1 3 rfl rfl)
theorem dX5_init_29 : decode cX5_init 29 = .ok (.invokestatic 13, 3) := dk_184 0 13 (dk_at dksX5_init_1 5 rfl rfl)
theorem dX5_init_32 : decode cX5_init 32 = .ok (.aastore, 1) := dk_83 (dk_at dksX5_init_1 8 rfl rfl)
theorem dX5_init_33 : decode cX5_init 33 = .ok (.dup, 1) := dk_89 (dk_at dksX5_init_1 9 rfl rfl)
theorem dX5_init_34 : decode cX5_init 34 = .ok (.iconst 3, 1) := dk_6 (dk_at dksX5_init_1 10 rfl rfl)
theorem dX5_init_35 : decode cX5_init 35 = .ok (.ldc 21, 2) := dk_18 21 (dk_at dksX5_init_1 11 rfl rfl)
theorem dX5_init_37 : decode cX5_init 37 = .ok (.invokestatic 13, 3) := dk_184 0 13 (dk_at dksX5_init_1 13 rfl rfl)
theorem dX5_init_40 : decode cX5_init 40 = .ok (.aastore, 1) := dk_83 (dk_at dksX5_init_1 16 rfl rfl)
theorem dX5_init_41 : decode cX5_init 41 = .ok (.dup, 1) := dk_89 (dk_at dksX5_init_1 17 rfl rfl)
theorem dX5_init_42 : decode cX5_init 42 = .ok (.iconst 4, 1) := dk_7 (dk_at dksX5_init_1 18 rfl rfl)
theorem dX5_init_43 : decode cX5_init 43 = .ok (.ldc 23, 2) := dk_18 23 (dk_at dksX5_init_1 19 rfl rfl)
theorem dX5_init_45 : decode cX5_init 45 = .ok (.invokestatic 13, 3) := dk_184 0 13 (dk_at dksX5_init_1 21 rfl rfl)
theorem dX5_init_48 : decode cX5_init 48 = .ok (.aastore, 1) := dk_83 (dk_at dksX5_init_2 0 rfl rfl)
theorem dX5_init_49 : decode cX5_init 49 = .ok (.putfield 25, 3) := dk_181 0 25 (dk_at dksX5_init_2 1 rfl rfl)
theorem dX5_init_52 : decode cX5_init 52 = .ok (.return_, 1) := dk_177 (dk_at dksX5_init_2 4 rfl rfl)
abbrev cX5_isSolvable : ByteArray := prog_22_method_8_code
def yX5_isSolvable : MethodName := ⟨RX5, "isSolvable", "(LEdgeSums$Page;I)Z"⟩
def dkwX5_isSolvable_1 : List UInt8 := [160, 0, 7, 4, 167, 0, 4, 3, 172]
abbrev dktX5_isSolvable_1 : List UInt8 := dkwX5_isSolvable_1 ++ []
def dkwX5_isSolvable_0 : List UInt8 := [187, 0, 36, 89, 43, 183, 0, 96, 78, 42, 45, 28, 18, 101, 182, 0, 102, 54, 4, 45, 182, 0, 105, 4]
abbrev dktX5_isSolvable_0 : List UInt8 := dkwX5_isSolvable_0 ++ dktX5_isSolvable_1
theorem dksX5_isSolvable_0 : cX5_isSolvable.data.toList.drop 0 = dktX5_isSolvable_0 := by decide +kernel
theorem dksX5_isSolvable_1 : cX5_isSolvable.data.toList.drop 24 = dktX5_isSolvable_1 := dk_seg dksX5_isSolvable_0 24 rfl rfl
theorem dX5_isSolvable_0 : decode cX5_isSolvable 0 = .ok (.new 36, 3) := dk_187 0 36 (dk_at dksX5_isSolvable_0 0 rfl rfl)
theorem dX5_isSolvable_3 : decode cX5_isSolvable 3 = .ok (.dup, 1) := dk_89 (dk_at dksX5_isSolvable_0 3 rfl rfl)
theorem dX5_isSolvable_4 : decode cX5_isSolvable 4 = .ok (.aload_n 1, 1) := dk_43 (dk_at dksX5_isSolvable_0 4 rfl rfl)
theorem dX5_isSolvable_5 : decode cX5_isSolvable 5 = .ok (.invokespecial 96, 3) := dk_183 0 96 (dk_at dksX5_isSolvable_0 5 rfl rfl)
theorem dX5_isSolvable_8 : decode cX5_isSolvable 8 = .ok (.astore_n 3, 1) := dk_78 (dk_at dksX5_isSolvable_0 8 rfl rfl)
theorem dX5_isSolvable_9 : decode cX5_isSolvable 9 = .ok (.aload_n 0, 1) := dk_42 (dk_at dksX5_isSolvable_0 9 rfl rfl)
theorem dX5_isSolvable_10 : decode cX5_isSolvable 10 = .ok (.aload_n 3, 1) := dk_45 (dk_at dksX5_isSolvable_0 10 rfl rfl)
theorem dX5_isSolvable_11 : decode cX5_isSolvable 11 = .ok (.iload_n 2, 1) := dk_28 (dk_at dksX5_isSolvable_0 11 rfl rfl)
theorem dX5_isSolvable_12 : decode cX5_isSolvable 12 = .ok (.ldc 101, 2) := dk_18 101 (dk_at dksX5_isSolvable_0 12 rfl rfl)
theorem dX5_isSolvable_14 : decode cX5_isSolvable 14 = .ok (.invokevirtual 102, 3) := dk_182 0 102 (dk_at dksX5_isSolvable_0 14 rfl rfl)
theorem dX5_isSolvable_17 : decode cX5_isSolvable 17 = .ok (.istore 4, 2) := dk_54 4 (dk_at dksX5_isSolvable_0 17 rfl rfl)
theorem dX5_isSolvable_19 : decode cX5_isSolvable 19 = .ok (.aload_n 3, 1) := dk_45 (dk_at dksX5_isSolvable_0 19 rfl rfl)
theorem dX5_isSolvable_20 : decode cX5_isSolvable 20 = .ok (.invokevirtual 105, 3) := dk_182 0 105 (dk_at dksX5_isSolvable_0 20 rfl rfl)
theorem dX5_isSolvable_23 : decode cX5_isSolvable 23 = .ok (.iconst 1, 1) := dk_4 (dk_at dksX5_isSolvable_0 23 rfl rfl)
theorem dX5_isSolvable_24 : decode cX5_isSolvable 24 = .ok (.if_icmp .ne 7, 3) := dk_160 0 7 (dk_at dksX5_isSolvable_1 0 rfl rfl)
theorem dX5_isSolvable_27 : decode cX5_isSolvable 27 = .ok (.iconst 1, 1) := dk_4 (dk_at dksX5_isSolvable_1 3 rfl rfl)
theorem dX5_isSolvable_28 : decode cX5_isSolvable 28 = .ok (.goto 4, 3) := dk_167 0 4 (dk_at dksX5_isSolvable_1 4 rfl rfl)
theorem dX5_isSolvable_31 : decode cX5_isSolvable 31 = .ok (.iconst 0, 1) := dk_3 (dk_at dksX5_isSolvable_1 7 rfl rfl)
theorem dX5_isSolvable_32 : decode cX5_isSolvable 32 = .ok (.ireturn, 1) := dk_172 (dk_at dksX5_isSolvable_1 8 rfl rfl)
abbrev cX5_solve : ByteArray := prog_22_method_6_code
def yX5_solve : MethodName := ⟨RX5, "solve", "(LEdgeSums$Board;II)I"⟩
def dkwX5_solve_1 : List UInt8 := [180, 0, 52, 182, 0, 87, 132, 4, 1, 167, 255, 226, 21, 4, 172]
abbrev dktX5_solve_1 : List UInt8 := dkwX5_solve_1 ++ []
def dkwX5_solve_0 : List UInt8 := [3, 54, 4, 21, 4, 29, 162, 0, 30, 42, 43, 28, 182, 0, 83, 153, 0, 21, 43, 42, 180, 0, 49, 42]
abbrev dktX5_solve_0 : List UInt8 := dkwX5_solve_0 ++ dktX5_solve_1
theorem dksX5_solve_0 : cX5_solve.data.toList.drop 0 = dktX5_solve_0 := by decide +kernel
theorem dksX5_solve_1 : cX5_solve.data.toList.drop 24 = dktX5_solve_1 := dk_seg dksX5_solve_0 24 rfl rfl
theorem dX5_solve_0 : decode cX5_solve 0 = .ok (.iconst 0, 1) := dk_3 (dk_at dksX5_solve_0 0 rfl rfl)
theorem dX5_solve_1 : decode cX5_solve 1 = .ok (.istore 4, 2) := dk_54 4 (dk_at dksX5_solve_0 1 rfl rfl)
theorem dX5_solve_3 : decode cX5_solve 3 = .ok (.iload 4, 2) := dk_21 4 (dk_at dksX5_solve_0 3 rfl rfl)
theorem dX5_solve_5 : decode cX5_solve 5 = .ok (.iload_n 3, 1) := dk_29 (dk_at dksX5_solve_0 5 rfl rfl)
theorem dX5_solve_6 : decode cX5_solve 6 = .ok (.if_icmp .ge 30, 3) := dk_162 0 30 (dk_at dksX5_solve_0 6 rfl rfl)
theorem dX5_solve_9 : decode cX5_solve 9 = .ok (.aload_n 0, 1) := dk_42 (dk_at dksX5_solve_0 9 rfl rfl)
theorem dX5_solve_10 : decode cX5_solve 10 = .ok (.aload_n 1, 1) := dk_43 (dk_at dksX5_solve_0 10 rfl rfl)
theorem dX5_solve_11 : decode cX5_solve 11 = .ok (.iload_n 2, 1) := dk_28 (dk_at dksX5_solve_0 11 rfl rfl)
theorem dX5_solve_12 : decode cX5_solve 12 = .ok (.invokevirtual 83, 3) := dk_182 0 83 (dk_at dksX5_solve_0 12 rfl rfl)
theorem dX5_solve_15 : decode cX5_solve 15 = .ok (.ifCond .eq 21, 3) := dk_153 0 21 (dk_at dksX5_solve_0 15 rfl rfl)
theorem dX5_solve_18 : decode cX5_solve 18 = .ok (.aload_n 1, 1) := dk_43 (dk_at dksX5_solve_0 18 rfl rfl)
theorem dX5_solve_19 : decode cX5_solve 19 = .ok (.aload_n 0, 1) := dk_42 (dk_at dksX5_solve_0 19 rfl rfl)
theorem dX5_solve_20 : decode cX5_solve 20 = .ok (.getfield 49, 3) := dk_180 0 49 (dk_at dksX5_solve_0 20 rfl rfl)
theorem dX5_solve_23 : decode cX5_solve 23 = .ok (.aload_n 0, 1) := dk_42 (dk_at dksX5_solve_0 23 rfl rfl)
theorem dX5_solve_24 : decode cX5_solve 24 = .ok (.getfield 52, 3) := dk_180 0 52 (dk_at dksX5_solve_1 0 rfl rfl)
theorem dX5_solve_27 : decode cX5_solve 27 = .ok (.invokevirtual 87, 3) := dk_182 0 87 (dk_at dksX5_solve_1 3 rfl rfl)
theorem dX5_solve_30 : decode cX5_solve 30 = .ok (.iinc 4 1, 3) := dk_132 4 1 (dk_at dksX5_solve_1 6 rfl rfl)
theorem dX5_solve_33 : decode cX5_solve 33 = .ok (.goto (-30), 3) := dk_167 255 226 (dk_at dksX5_solve_1 9 rfl rfl)
theorem dX5_solve_36 : decode cX5_solve 36 = .ok (.iload 4, 2) := dk_21 4 (dk_at dksX5_solve_1 12 rfl rfl)
theorem dX5_solve_38 : decode cX5_solve 38 = .ok (.ireturn, 1) := dk_172 (dk_at dksX5_solve_1 14 rfl rfl)
abbrev cX5_find : ByteArray := prog_22_method_4_code
def yX5_find : MethodName := ⟨RX5, "find", "(LEdgeSums$Board;I)Z"⟩
def dkwX5_find_2 : List UInt8 := [4, 96, 181, 0, 31, 167, 255, 210, 3, 172]
abbrev dktX5_find_2 : List UInt8 := dkwX5_find_2 ++ []
def dkwX5_find_1 : List UInt8 := [180, 0, 31, 184, 0, 41, 153, 0, 13, 42, 43, 182, 0, 61, 153, 0, 5, 4, 172, 42, 89, 180, 0, 31]
abbrev dktX5_find_1 : List UInt8 := dkwX5_find_1 ++ dktX5_find_2
def dkwX5_find_0 : List UInt8 := [42, 3, 181, 0, 31, 42, 180, 0, 31, 8, 162, 0, 44, 43, 182, 0, 35, 154, 0, 37, 28, 42]
abbrev dktX5_find_0 : List UInt8 := dkwX5_find_0 ++ dktX5_find_1
theorem dksX5_find_0 : cX5_find.data.toList.drop 0 = dktX5_find_0 := by decide +kernel
theorem dksX5_find_1 : cX5_find.data.toList.drop 22 = dktX5_find_1 := dk_seg dksX5_find_0 22 rfl rfl
theorem dksX5_find_2 : cX5_find.data.toList.drop 46 = dktX5_find_2 := dk_seg dksX5_find_1 24 rfl rfl
theorem dX5_find_0 : decode cX5_find 0 = .ok (.aload_n 0, 1) := dk_42 (dk_at dksX5_find_0 0 rfl rfl)
theorem dX5_find_1 : decode cX5_find 1 = .ok (.iconst 0, 1) := dk_3 (dk_at dksX5_find_0 1 rfl rfl)
theorem dX5_find_2 : decode cX5_find 2 = .ok (.putfield 31, 3) := dk_181 0 31 (dk_at dksX5_find_0 2 rfl rfl)
theorem dX5_find_5 : decode cX5_find 5 = .ok (.aload_n 0, 1) := dk_42 (dk_at dksX5_find_0 5 rfl rfl)
theorem dX5_find_6 : decode cX5_find 6 = .ok (.getfield 31, 3) := dk_180 0 31 (dk_at dksX5_find_0 6 rfl rfl)
theorem dX5_find_9 : decode cX5_find 9 = .ok (.iconst 5, 1) := dk_8 (dk_at dksX5_find_0 9 rfl rfl)
theorem dX5_find_10 : decode cX5_find 10 = .ok (.if_icmp .ge 44, 3) := dk_162 0 44 (dk_at dksX5_find_0 10 rfl rfl)
theorem dX5_find_13 : decode cX5_find 13 = .ok (.aload_n 1, 1) := dk_43 (dk_at dksX5_find_0 13 rfl rfl)
theorem dX5_find_14 : decode cX5_find 14 = .ok (.invokevirtual 35, 3) := dk_182 0 35 (dk_at dksX5_find_0 14 rfl rfl)
theorem dX5_find_17 : decode cX5_find 17 = .ok (.ifCond .ne 37, 3) := dk_154 0 37 (dk_at dksX5_find_0 17 rfl rfl)
theorem dX5_find_20 : decode cX5_find 20 = .ok (.iload_n 2, 1) := dk_28 (dk_at dksX5_find_0 20 rfl rfl)
theorem dX5_find_21 : decode cX5_find 21 = .ok (.aload_n 0, 1) := dk_42 (dk_at dksX5_find_0 21 rfl rfl)
theorem dX5_find_22 : decode cX5_find 22 = .ok (.getfield 31, 3) := dk_180 0 31 (dk_at dksX5_find_1 0 rfl rfl)
theorem dX5_find_25 : decode cX5_find 25 = .ok (.invokestatic 41, 3) := dk_184 0 41 (dk_at dksX5_find_1 3 rfl rfl)
theorem dX5_find_28 : decode cX5_find 28 = .ok (.ifCond .eq 13, 3) := dk_153 0 13 (dk_at dksX5_find_1 6 rfl rfl)
theorem dX5_find_31 : decode cX5_find 31 = .ok (.aload_n 0, 1) := dk_42 (dk_at dksX5_find_1 9 rfl rfl)
theorem dX5_find_32 : decode cX5_find 32 = .ok (.aload_n 1, 1) := dk_43 (dk_at dksX5_find_1 10 rfl rfl)
theorem dX5_find_33 : decode cX5_find 33 = .ok (.invokevirtual 61, 3) := dk_182 0 61 (dk_at dksX5_find_1 11 rfl rfl)
theorem dX5_find_36 : decode cX5_find 36 = .ok (.ifCond .eq 5, 3) := dk_153 0 5 (dk_at dksX5_find_1 14 rfl rfl)
theorem dX5_find_39 : decode cX5_find 39 = .ok (.iconst 1, 1) := dk_4 (dk_at dksX5_find_1 17 rfl rfl)
theorem dX5_find_40 : decode cX5_find 40 = .ok (.ireturn, 1) := dk_172 (dk_at dksX5_find_1 18 rfl rfl)
theorem dX5_find_41 : decode cX5_find 41 = .ok (.aload_n 0, 1) := dk_42 (dk_at dksX5_find_1 19 rfl rfl)
theorem dX5_find_42 : decode cX5_find 42 = .ok (.dup, 1) := dk_89 (dk_at dksX5_find_1 20 rfl rfl)
theorem dX5_find_43 : decode cX5_find 43 = .ok (.getfield 31, 3) := dk_180 0 31 (dk_at dksX5_find_1 21 rfl rfl)
theorem dX5_find_46 : decode cX5_find 46 = .ok (.iconst 1, 1) := dk_4 (dk_at dksX5_find_2 0 rfl rfl)
theorem dX5_find_47 : decode cX5_find 47 = .ok (.iadd, 1) := dk_96 (dk_at dksX5_find_2 1 rfl rfl)
theorem dX5_find_48 : decode cX5_find 48 = .ok (.putfield 31, 3) := dk_181 0 31 (dk_at dksX5_find_2 2 rfl rfl)
theorem dX5_find_51 : decode cX5_find 51 = .ok (.goto (-46), 3) := dk_167 255 210 (dk_at dksX5_find_2 5 rfl rfl)
theorem dX5_find_54 : decode cX5_find 54 = .ok (.iconst 0, 1) := dk_3 (dk_at dksX5_find_2 8 rfl rfl)
theorem dX5_find_55 : decode cX5_find 55 = .ok (.ireturn, 1) := dk_172 (dk_at dksX5_find_2 9 rfl rfl)
abbrev cX5_findCell : ByteArray := prog_22_method_5_code
def yX5_findCell : MethodName := ⟨RX5, "findCell", "(LEdgeSums$Board;)Z"⟩
def dkwX5_findCell_2 : List UInt8 := [132, 2, 1, 167, 255, 207, 3, 172]
abbrev dktX5_findCell_2 : List UInt8 := dkwX5_findCell_2 ++ []
def dkwX5_findCell_1 : List UInt8 := [42, 43, 28, 29, 184, 0, 79, 182, 0, 45, 153, 0, 5, 4, 172, 29, 29, 4, 100, 126, 62, 167, 255, 231]
abbrev dktX5_findCell_1 : List UInt8 := dkwX5_findCell_1 ++ dktX5_findCell_2
def dkwX5_findCell_0 : List UInt8 := [3, 61, 28, 43, 180, 0, 65, 182, 0, 69, 162, 0, 44, 43, 180, 0, 75, 28, 46, 62, 29, 153, 0, 27]
abbrev dktX5_findCell_0 : List UInt8 := dkwX5_findCell_0 ++ dktX5_findCell_1
theorem dksX5_findCell_0 : cX5_findCell.data.toList.drop 0 = dktX5_findCell_0 := by decide +kernel
theorem dksX5_findCell_1 : cX5_findCell.data.toList.drop 24 = dktX5_findCell_1 := dk_seg dksX5_findCell_0 24 rfl rfl
theorem dksX5_findCell_2 : cX5_findCell.data.toList.drop 48 = dktX5_findCell_2 := dk_seg dksX5_findCell_1 24 rfl rfl
theorem dX5_findCell_0 : decode cX5_findCell 0 = .ok (.iconst 0, 1) := dk_3 (dk_at dksX5_findCell_0 0 rfl rfl)
theorem dX5_findCell_1 : decode cX5_findCell 1 = .ok (.istore_n 2, 1) := dk_61 (dk_at dksX5_findCell_0 1 rfl rfl)
theorem dX5_findCell_2 : decode cX5_findCell 2 = .ok (.iload_n 2, 1) := dk_28 (dk_at dksX5_findCell_0 2 rfl rfl)
theorem dX5_findCell_3 : decode cX5_findCell 3 = .ok (.aload_n 1, 1) := dk_43 (dk_at dksX5_findCell_0 3 rfl rfl)
theorem dX5_findCell_4 : decode cX5_findCell 4 = .ok (.getfield 65, 3) := dk_180 0 65 (dk_at dksX5_findCell_0 4 rfl rfl)
theorem dX5_findCell_7 : decode cX5_findCell 7 = .ok (.invokevirtual 69, 3) := dk_182 0 69 (dk_at dksX5_findCell_0 7 rfl rfl)
theorem dX5_findCell_10 : decode cX5_findCell 10 = .ok (.if_icmp .ge 44, 3) := dk_162 0 44 (dk_at dksX5_findCell_0 10 rfl rfl)
theorem dX5_findCell_13 : decode cX5_findCell 13 = .ok (.aload_n 1, 1) := dk_43 (dk_at dksX5_findCell_0 13 rfl rfl)
theorem dX5_findCell_14 : decode cX5_findCell 14 = .ok (.getfield 75, 3) := dk_180 0 75 (dk_at dksX5_findCell_0 14 rfl rfl)
theorem dX5_findCell_17 : decode cX5_findCell 17 = .ok (.iload_n 2, 1) := dk_28 (dk_at dksX5_findCell_0 17 rfl rfl)
theorem dX5_findCell_18 : decode cX5_findCell 18 = .ok (.iaload, 1) := dk_46 (dk_at dksX5_findCell_0 18 rfl rfl)
theorem dX5_findCell_19 : decode cX5_findCell 19 = .ok (.istore_n 3, 1) := dk_62 (dk_at dksX5_findCell_0 19 rfl rfl)
theorem dX5_findCell_20 : decode cX5_findCell 20 = .ok (.iload_n 3, 1) := dk_29 (dk_at dksX5_findCell_0 20 rfl rfl)
theorem dX5_findCell_21 : decode cX5_findCell 21 = .ok (.ifCond .eq 27, 3) := dk_153 0 27 (dk_at dksX5_findCell_0 21 rfl rfl)
theorem dX5_findCell_24 : decode cX5_findCell 24 = .ok (.aload_n 0, 1) := dk_42 (dk_at dksX5_findCell_1 0 rfl rfl)
theorem dX5_findCell_25 : decode cX5_findCell 25 = .ok (.aload_n 1, 1) := dk_43 (dk_at dksX5_findCell_1 1 rfl rfl)
theorem dX5_findCell_26 : decode cX5_findCell 26 = .ok (.iload_n 2, 1) := dk_28 (dk_at dksX5_findCell_1 2 rfl rfl)
theorem dX5_findCell_27 : decode cX5_findCell 27 = .ok (.iload_n 3, 1) := dk_29 (dk_at dksX5_findCell_1 3 rfl rfl)
theorem dX5_findCell_28 : decode cX5_findCell 28 = .ok (.invokestatic 79, 3) := dk_184 0 79 (dk_at dksX5_findCell_1 4 rfl rfl)
theorem dX5_findCell_31 : decode cX5_findCell 31 = .ok (.invokevirtual 45, 3) := dk_182 0 45 (dk_at dksX5_findCell_1 7 rfl rfl)
theorem dX5_findCell_34 : decode cX5_findCell 34 = .ok (.ifCond .eq 5, 3) := dk_153 0 5 (dk_at dksX5_findCell_1 10 rfl rfl)
theorem dX5_findCell_37 : decode cX5_findCell 37 = .ok (.iconst 1, 1) := dk_4 (dk_at dksX5_findCell_1 13 rfl rfl)
theorem dX5_findCell_38 : decode cX5_findCell 38 = .ok (.ireturn, 1) := dk_172 (dk_at dksX5_findCell_1 14 rfl rfl)
theorem dX5_findCell_39 : decode cX5_findCell 39 = .ok (.iload_n 3, 1) := dk_29 (dk_at dksX5_findCell_1 15 rfl rfl)
theorem dX5_findCell_40 : decode cX5_findCell 40 = .ok (.iload_n 3, 1) := dk_29 (dk_at dksX5_findCell_1 16 rfl rfl)
theorem dX5_findCell_41 : decode cX5_findCell 41 = .ok (.iconst 1, 1) := dk_4 (dk_at dksX5_findCell_1 17 rfl rfl)
theorem dX5_findCell_42 : decode cX5_findCell 42 = .ok (.isub, 1) := dk_100 (dk_at dksX5_findCell_1 18 rfl rfl)
theorem dX5_findCell_43 : decode cX5_findCell 43 = .ok (.iand, 1) := dk_126 (dk_at dksX5_findCell_1 19 rfl rfl)
theorem dX5_findCell_44 : decode cX5_findCell 44 = .ok (.istore_n 3, 1) := dk_62 (dk_at dksX5_findCell_1 20 rfl rfl)
theorem dX5_findCell_45 : decode cX5_findCell 45 = .ok (.goto (-25), 3) := dk_167 255 231 (dk_at dksX5_findCell_1 21 rfl rfl)
theorem dX5_findCell_48 : decode cX5_findCell 48 = .ok (.iinc 2 1, 3) := dk_132 2 1 (dk_at dksX5_findCell_2 0 rfl rfl)
theorem dX5_findCell_51 : decode cX5_findCell 51 = .ok (.goto (-49), 3) := dk_167 255 207 (dk_at dksX5_findCell_2 3 rfl rfl)
theorem dX5_findCell_54 : decode cX5_findCell 54 = .ok (.iconst 0, 1) := dk_3 (dk_at dksX5_findCell_2 6 rfl rfl)
theorem dX5_findCell_55 : decode cX5_findCell 55 = .ok (.ireturn, 1) := dk_172 (dk_at dksX5_findCell_2 7 rfl rfl)
abbrev cX5_isStrike : ByteArray := prog_22_method_3_code
def yX5_isStrike : MethodName := ⟨RX5, "isStrike", "(LEdgeSums$Board;II)Z"⟩
def dkwX5_isStrike_2 : List UInt8 := [4, 167, 0, 4, 3, 172]
abbrev dktX5_isStrike_2 : List UInt8 := dkwX5_isStrike_2 ++ []
def dkwX5_isStrike_1 : List UInt8 := [180, 0, 49, 42, 180, 0, 52, 185, 0, 55, 4, 0, 181, 0, 59, 42, 180, 0, 59, 16, 157, 159, 0, 7]
abbrev dktX5_isStrike_1 : List UInt8 := dkwX5_isStrike_1 ++ dktX5_isStrike_2
def dkwX5_isStrike_0 : List UInt8 := [42, 28, 181, 0, 49, 42, 29, 181, 0, 52, 42, 42, 180, 0, 25, 42, 180, 0, 31, 50, 43, 42]
abbrev dktX5_isStrike_0 : List UInt8 := dkwX5_isStrike_0 ++ dktX5_isStrike_1
theorem dksX5_isStrike_0 : cX5_isStrike.data.toList.drop 0 = dktX5_isStrike_0 := by decide +kernel
theorem dksX5_isStrike_1 : cX5_isStrike.data.toList.drop 22 = dktX5_isStrike_1 := dk_seg dksX5_isStrike_0 22 rfl rfl
theorem dksX5_isStrike_2 : cX5_isStrike.data.toList.drop 46 = dktX5_isStrike_2 := dk_seg dksX5_isStrike_1 24 rfl rfl
theorem dX5_isStrike_0 : decode cX5_isStrike 0 = .ok (.aload_n 0, 1) := dk_42 (dk_at dksX5_isStrike_0 0 rfl rfl)
theorem dX5_isStrike_1 : decode cX5_isStrike 1 = .ok (.iload_n 2, 1) := dk_28 (dk_at dksX5_isStrike_0 1 rfl rfl)
theorem dX5_isStrike_2 : decode cX5_isStrike 2 = .ok (.putfield 49, 3) := dk_181 0 49 (dk_at dksX5_isStrike_0 2 rfl rfl)
theorem dX5_isStrike_5 : decode cX5_isStrike 5 = .ok (.aload_n 0, 1) := dk_42 (dk_at dksX5_isStrike_0 5 rfl rfl)
theorem dX5_isStrike_6 : decode cX5_isStrike 6 = .ok (.iload_n 3, 1) := dk_29 (dk_at dksX5_isStrike_0 6 rfl rfl)
theorem dX5_isStrike_7 : decode cX5_isStrike 7 = .ok (.putfield 52, 3) := dk_181 0 52 (dk_at dksX5_isStrike_0 7 rfl rfl)
theorem dX5_isStrike_10 : decode cX5_isStrike 10 = .ok (.aload_n 0, 1) := dk_42 (dk_at dksX5_isStrike_0 10 rfl rfl)
theorem dX5_isStrike_11 : decode cX5_isStrike 11 = .ok (.aload_n 0, 1) := dk_42 (dk_at dksX5_isStrike_0 11 rfl rfl)
theorem dX5_isStrike_12 : decode cX5_isStrike 12 = .ok (.getfield 25, 3) := dk_180 0 25 (dk_at dksX5_isStrike_0 12 rfl rfl)
theorem dX5_isStrike_15 : decode cX5_isStrike 15 = .ok (.aload_n 0, 1) := dk_42 (dk_at dksX5_isStrike_0 15 rfl rfl)
theorem dX5_isStrike_16 : decode cX5_isStrike 16 = .ok (.getfield 31, 3) := dk_180 0 31 (dk_at dksX5_isStrike_0 16 rfl rfl)
theorem dX5_isStrike_19 : decode cX5_isStrike 19 = .ok (.aaload, 1) := dk_50 (dk_at dksX5_isStrike_0 19 rfl rfl)
theorem dX5_isStrike_20 : decode cX5_isStrike 20 = .ok (.aload_n 1, 1) := dk_43 (dk_at dksX5_isStrike_0 20 rfl rfl)
theorem dX5_isStrike_21 : decode cX5_isStrike 21 = .ok (.aload_n 0, 1) := dk_42 (dk_at dksX5_isStrike_0 21 rfl rfl)
theorem dX5_isStrike_22 : decode cX5_isStrike 22 = .ok (.getfield 49, 3) := dk_180 0 49 (dk_at dksX5_isStrike_1 0 rfl rfl)
theorem dX5_isStrike_25 : decode cX5_isStrike 25 = .ok (.aload_n 0, 1) := dk_42 (dk_at dksX5_isStrike_1 3 rfl rfl)
theorem dX5_isStrike_26 : decode cX5_isStrike 26 = .ok (.getfield 52, 3) := dk_180 0 52 (dk_at dksX5_isStrike_1 4 rfl rfl)
theorem dX5_isStrike_29 : decode cX5_isStrike 29 = .ok (.invokeinterface 55 4, 5) := by decide +kernel
theorem dX5_isStrike_34 : decode cX5_isStrike 34 = .ok (.putfield 59, 3) := dk_181 0 59 (dk_at dksX5_isStrike_1 12 rfl rfl)
theorem dX5_isStrike_37 : decode cX5_isStrike 37 = .ok (.aload_n 0, 1) := dk_42 (dk_at dksX5_isStrike_1 15 rfl rfl)
theorem dX5_isStrike_38 : decode cX5_isStrike 38 = .ok (.getfield 59, 3) := dk_180 0 59 (dk_at dksX5_isStrike_1 16 rfl rfl)
theorem dX5_isStrike_41 : decode cX5_isStrike 41 = .ok (.bipush (-99), 2) := dk_16 157 (dk_at dksX5_isStrike_1 19 rfl rfl)
theorem dX5_isStrike_43 : decode cX5_isStrike 43 = .ok (.if_icmp .eq 7, 3) := dk_159 0 7 (dk_at dksX5_isStrike_1 21 rfl rfl)
theorem dX5_isStrike_46 : decode cX5_isStrike 46 = .ok (.iconst 1, 1) := dk_4 (dk_at dksX5_isStrike_2 0 rfl rfl)
theorem dX5_isStrike_47 : decode cX5_isStrike 47 = .ok (.goto 4, 3) := dk_167 0 4 (dk_at dksX5_isStrike_2 1 rfl rfl)
theorem dX5_isStrike_50 : decode cX5_isStrike 50 = .ok (.iconst 0, 1) := dk_3 (dk_at dksX5_isStrike_2 4 rfl rfl)
theorem dX5_isStrike_51 : decode cX5_isStrike 51 = .ok (.ireturn, 1) := dk_172 (dk_at dksX5_isStrike_2 5 rfl rfl)
abbrev cX5_findRule : ByteArray := prog_22_method_2_code
def yX5_findRule : MethodName := ⟨RX5, "findRule", "(LEdgeSums$Board;III)Z"⟩
def dkwX5_findRule_2 : List UInt8 := [180, 0, 31, 4, 96, 181, 0, 31, 167, 255, 207, 3, 172]
abbrev dktX5_findRule_2 : List UInt8 := dkwX5_findRule_2 ++ []
def dkwX5_findRule_1 : List UInt8 := [180, 0, 31, 184, 0, 41, 153, 0, 16, 42, 43, 29, 21, 4, 182, 0, 45, 153, 0, 5, 4, 172, 42, 89]
abbrev dktX5_findRule_1 : List UInt8 := dkwX5_findRule_1 ++ dktX5_findRule_2
def dkwX5_findRule_0 : List UInt8 := [42, 3, 181, 0, 31, 42, 180, 0, 31, 8, 162, 0, 47, 43, 182, 0, 35, 154, 0, 40, 28, 42]
abbrev dktX5_findRule_0 : List UInt8 := dkwX5_findRule_0 ++ dktX5_findRule_1
theorem dksX5_findRule_0 : cX5_findRule.data.toList.drop 0 = dktX5_findRule_0 := by decide +kernel
theorem dksX5_findRule_1 : cX5_findRule.data.toList.drop 22 = dktX5_findRule_1 := dk_seg dksX5_findRule_0 22 rfl rfl
theorem dksX5_findRule_2 : cX5_findRule.data.toList.drop 46 = dktX5_findRule_2 := dk_seg dksX5_findRule_1 24 rfl rfl
theorem dX5_findRule_0 : decode cX5_findRule 0 = .ok (.aload_n 0, 1) := dk_42 (dk_at dksX5_findRule_0 0 rfl rfl)
theorem dX5_findRule_1 : decode cX5_findRule 1 = .ok (.iconst 0, 1) := dk_3 (dk_at dksX5_findRule_0 1 rfl rfl)
theorem dX5_findRule_2 : decode cX5_findRule 2 = .ok (.putfield 31, 3) := dk_181 0 31 (dk_at dksX5_findRule_0 2 rfl rfl)
theorem dX5_findRule_5 : decode cX5_findRule 5 = .ok (.aload_n 0, 1) := dk_42 (dk_at dksX5_findRule_0 5 rfl rfl)
theorem dX5_findRule_6 : decode cX5_findRule 6 = .ok (.getfield 31, 3) := dk_180 0 31 (dk_at dksX5_findRule_0 6 rfl rfl)
theorem dX5_findRule_9 : decode cX5_findRule 9 = .ok (.iconst 5, 1) := dk_8 (dk_at dksX5_findRule_0 9 rfl rfl)
theorem dX5_findRule_10 : decode cX5_findRule 10 = .ok (.if_icmp .ge 47, 3) := dk_162 0 47 (dk_at dksX5_findRule_0 10 rfl rfl)
theorem dX5_findRule_13 : decode cX5_findRule 13 = .ok (.aload_n 1, 1) := dk_43 (dk_at dksX5_findRule_0 13 rfl rfl)
theorem dX5_findRule_14 : decode cX5_findRule 14 = .ok (.invokevirtual 35, 3) := dk_182 0 35 (dk_at dksX5_findRule_0 14 rfl rfl)
theorem dX5_findRule_17 : decode cX5_findRule 17 = .ok (.ifCond .ne 40, 3) := dk_154 0 40 (dk_at dksX5_findRule_0 17 rfl rfl)
theorem dX5_findRule_20 : decode cX5_findRule 20 = .ok (.iload_n 2, 1) := dk_28 (dk_at dksX5_findRule_0 20 rfl rfl)
theorem dX5_findRule_21 : decode cX5_findRule 21 = .ok (.aload_n 0, 1) := dk_42 (dk_at dksX5_findRule_0 21 rfl rfl)
theorem dX5_findRule_22 : decode cX5_findRule 22 = .ok (.getfield 31, 3) := dk_180 0 31 (dk_at dksX5_findRule_1 0 rfl rfl)
theorem dX5_findRule_25 : decode cX5_findRule 25 = .ok (.invokestatic 41, 3) := dk_184 0 41 (dk_at dksX5_findRule_1 3 rfl rfl)
theorem dX5_findRule_28 : decode cX5_findRule 28 = .ok (.ifCond .eq 16, 3) := dk_153 0 16 (dk_at dksX5_findRule_1 6 rfl rfl)
theorem dX5_findRule_31 : decode cX5_findRule 31 = .ok (.aload_n 0, 1) := dk_42 (dk_at dksX5_findRule_1 9 rfl rfl)
theorem dX5_findRule_32 : decode cX5_findRule 32 = .ok (.aload_n 1, 1) := dk_43 (dk_at dksX5_findRule_1 10 rfl rfl)
theorem dX5_findRule_33 : decode cX5_findRule 33 = .ok (.iload_n 3, 1) := dk_29 (dk_at dksX5_findRule_1 11 rfl rfl)
theorem dX5_findRule_34 : decode cX5_findRule 34 = .ok (.iload 4, 2) := dk_21 4 (dk_at dksX5_findRule_1 12 rfl rfl)
theorem dX5_findRule_36 : decode cX5_findRule 36 = .ok (.invokevirtual 45, 3) := dk_182 0 45 (dk_at dksX5_findRule_1 14 rfl rfl)
theorem dX5_findRule_39 : decode cX5_findRule 39 = .ok (.ifCond .eq 5, 3) := dk_153 0 5 (dk_at dksX5_findRule_1 17 rfl rfl)
theorem dX5_findRule_42 : decode cX5_findRule 42 = .ok (.iconst 1, 1) := dk_4 (dk_at dksX5_findRule_1 20 rfl rfl)
theorem dX5_findRule_43 : decode cX5_findRule 43 = .ok (.ireturn, 1) := dk_172 (dk_at dksX5_findRule_1 21 rfl rfl)
theorem dX5_findRule_44 : decode cX5_findRule 44 = .ok (.aload_n 0, 1) := dk_42 (dk_at dksX5_findRule_1 22 rfl rfl)
theorem dX5_findRule_45 : decode cX5_findRule 45 = .ok (.dup, 1) := dk_89 (dk_at dksX5_findRule_1 23 rfl rfl)
theorem dX5_findRule_46 : decode cX5_findRule 46 = .ok (.getfield 31, 3) := dk_180 0 31 (dk_at dksX5_findRule_2 0 rfl rfl)
theorem dX5_findRule_49 : decode cX5_findRule 49 = .ok (.iconst 1, 1) := dk_4 (dk_at dksX5_findRule_2 3 rfl rfl)
theorem dX5_findRule_50 : decode cX5_findRule 50 = .ok (.iadd, 1) := dk_96 (dk_at dksX5_findRule_2 4 rfl rfl)
theorem dX5_findRule_51 : decode cX5_findRule 51 = .ok (.putfield 31, 3) := dk_181 0 31 (dk_at dksX5_findRule_2 5 rfl rfl)
theorem dX5_findRule_54 : decode cX5_findRule 54 = .ok (.goto (-49), 3) := dk_167 255 207 (dk_at dksX5_findRule_2 8 rfl rfl)
theorem dX5_findRule_57 : decode cX5_findRule 57 = .ok (.iconst 0, 1) := dk_3 (dk_at dksX5_findRule_2 11 rfl rfl)
theorem dX5_findRule_58 : decode cX5_findRule 58 = .ok (.ireturn, 1) := dk_172 (dk_at dksX5_findRule_2 12 rfl rfl)
abbrev cX5_step : ByteArray := prog_22_method_7_code
def yX5_step : MethodName := ⟨RX5, "step", "()LEdgeSums$Step;"⟩
def dkwX5_step_1 : List UInt8 := [180, 0, 52, 79, 89, 6, 42, 180, 0, 59, 79, 183, 0, 93, 176]
abbrev dktX5_step_1 : List UInt8 := dkwX5_step_1 ++ []
def dkwX5_step_0 : List UInt8 := [187, 0, 91, 89, 7, 188, 10, 89, 3, 42, 180, 0, 31, 79, 89, 4, 42, 180, 0, 49, 79, 89, 5, 42]
abbrev dktX5_step_0 : List UInt8 := dkwX5_step_0 ++ dktX5_step_1
theorem dksX5_step_0 : cX5_step.data.toList.drop 0 = dktX5_step_0 := by decide +kernel
theorem dksX5_step_1 : cX5_step.data.toList.drop 24 = dktX5_step_1 := dk_seg dksX5_step_0 24 rfl rfl
theorem dX5_step_0 : decode cX5_step 0 = .ok (.new 91, 3) := dk_187 0 91 (dk_at dksX5_step_0 0 rfl rfl)
theorem dX5_step_3 : decode cX5_step 3 = .ok (.dup, 1) := dk_89 (dk_at dksX5_step_0 3 rfl rfl)
theorem dX5_step_4 : decode cX5_step 4 = .ok (.iconst 4, 1) := dk_7 (dk_at dksX5_step_0 4 rfl rfl)
theorem dX5_step_5 : decode cX5_step 5 = .ok (.newarray .int, 2) := dk_188_10 (dk_at dksX5_step_0 5 rfl rfl)
theorem dX5_step_7 : decode cX5_step 7 = .ok (.dup, 1) := dk_89 (dk_at dksX5_step_0 7 rfl rfl)
theorem dX5_step_8 : decode cX5_step 8 = .ok (.iconst 0, 1) := dk_3 (dk_at dksX5_step_0 8 rfl rfl)
theorem dX5_step_9 : decode cX5_step 9 = .ok (.aload_n 0, 1) := dk_42 (dk_at dksX5_step_0 9 rfl rfl)
theorem dX5_step_10 : decode cX5_step 10 = .ok (.getfield 31, 3) := dk_180 0 31 (dk_at dksX5_step_0 10 rfl rfl)
theorem dX5_step_13 : decode cX5_step 13 = .ok (.iastore, 1) := dk_79 (dk_at dksX5_step_0 13 rfl rfl)
theorem dX5_step_14 : decode cX5_step 14 = .ok (.dup, 1) := dk_89 (dk_at dksX5_step_0 14 rfl rfl)
theorem dX5_step_15 : decode cX5_step 15 = .ok (.iconst 1, 1) := dk_4 (dk_at dksX5_step_0 15 rfl rfl)
theorem dX5_step_16 : decode cX5_step 16 = .ok (.aload_n 0, 1) := dk_42 (dk_at dksX5_step_0 16 rfl rfl)
theorem dX5_step_17 : decode cX5_step 17 = .ok (.getfield 49, 3) := dk_180 0 49 (dk_at dksX5_step_0 17 rfl rfl)
theorem dX5_step_20 : decode cX5_step 20 = .ok (.iastore, 1) := dk_79 (dk_at dksX5_step_0 20 rfl rfl)
theorem dX5_step_21 : decode cX5_step 21 = .ok (.dup, 1) := dk_89 (dk_at dksX5_step_0 21 rfl rfl)
theorem dX5_step_22 : decode cX5_step 22 = .ok (.iconst 2, 1) := dk_5 (dk_at dksX5_step_0 22 rfl rfl)
theorem dX5_step_23 : decode cX5_step 23 = .ok (.aload_n 0, 1) := dk_42 (dk_at dksX5_step_0 23 rfl rfl)
theorem dX5_step_24 : decode cX5_step 24 = .ok (.getfield 52, 3) := dk_180 0 52 (dk_at dksX5_step_1 0 rfl rfl)
theorem dX5_step_27 : decode cX5_step 27 = .ok (.iastore, 1) := dk_79 (dk_at dksX5_step_1 3 rfl rfl)
theorem dX5_step_28 : decode cX5_step 28 = .ok (.dup, 1) := dk_89 (dk_at dksX5_step_1 4 rfl rfl)
theorem dX5_step_29 : decode cX5_step 29 = .ok (.iconst 3, 1) := dk_6 (dk_at dksX5_step_1 5 rfl rfl)
theorem dX5_step_30 : decode cX5_step 30 = .ok (.aload_n 0, 1) := dk_42 (dk_at dksX5_step_1 6 rfl rfl)
theorem dX5_step_31 : decode cX5_step 31 = .ok (.getfield 59, 3) := dk_180 0 59 (dk_at dksX5_step_1 7 rfl rfl)
theorem dX5_step_34 : decode cX5_step 34 = .ok (.iastore, 1) := dk_79 (dk_at dksX5_step_1 10 rfl rfl)
theorem dX5_step_35 : decode cX5_step 35 = .ok (.invokespecial 93, 3) := dk_183 0 93 (dk_at dksX5_step_1 11 rfl rfl)
theorem dX5_step_38 : decode cX5_step 38 = .ok (.areturn, 1) := dk_176 (dk_at dksX5_step_1 14 rfl rfl)
theorem q150 : (Jvm.Cond.initialized "EdgeSums$Solver") ∈ lw_all := lw_g (lw_at lw_m1 26 rfl) rfl
theorem q745 : (Jvm.Cond.fieldLinkNest "EdgeSums$Solver" (65 : Nat) "EdgeSums$Board" "page" "LEdgeSums$Page;" "EdgeSums") ∈ lw_tbl := lw_at lw_m3 141 rfl
theorem q751 : (Jvm.Cond.fieldLinkNest "EdgeSums$Solver" (75 : Nat) "EdgeSums$Board" "sets" "[I" "EdgeSums") ∈ lw_tbl := lw_at lw_m3 147 rfl
theorem q848 : (Jvm.Cond.instantiable "EdgeSums$Solver" (5 : Nat)) ∈ lw_all := lw_g (lw_at lw_m4 4 rfl) rfl
theorem q850 : (Jvm.Cond.instanceMethod ({ cls := "EdgeSums$Solver", name := "<init>", desc := "()V" } : Jvm.MethodName)) ∈ lw_all := lw_g (lw_at lw_m4 6 rfl) rfl
theorem q851 : (Jvm.Cond.code ({ cls := "EdgeSums$Solver", name := "<init>", desc := "()V" } : Jvm.MethodName) prog_22_method_1_code (1 : Nat) (Option.none : Option Jvm.ClassFile.FieldType)) ∈ lw_all := lw_g (lw_at lw_m4 7 rfl) rfl
theorem q852 : (Jvm.Cond.methodLink "EdgeSums$Solver" (3 : Nat) ({ cls := "java/lang/Object", name := "<init>", desc := "()V" } : Jvm.MethodName)) ∈ lw_all := lw_g (lw_at lw_m4 8 rfl) rfl
theorem q853 : (Jvm.Cond.classLink "EdgeSums$Solver" (9 : Nat) "EdgeSums$Rule") ∈ lw_all := lw_g (lw_at lw_m4 9 rfl) rfl
theorem q855 : (Jvm.Cond.stringRef "EdgeSums$Solver" (11 : Nat) "used") ∈ lw_tbl := lw_at lw_m4 11 rfl
theorem q856 : (Jvm.Cond.methodLink "EdgeSums$Solver" (13 : Nat) ({ cls := "EdgeSums$Rule", name := "of", desc := "(Ljava/lang/String;)LEdgeSums$Rule;" } : Jvm.MethodName)) ∈ lw_all := lw_g (lw_at lw_m4 12 rfl) rfl
theorem q961 : (Jvm.Cond.stringRef "EdgeSums$Solver" (17 : Nat) "place") ∈ lw_tbl := lw_at lw_m4 117 rfl
theorem q962 : (Jvm.Cond.stringRef "EdgeSums$Solver" (19 : Nat) "bounds") ∈ lw_tbl := lw_at lw_m4 118 rfl
theorem q963 : (Jvm.Cond.stringRef "EdgeSums$Solver" (21 : Nat) "choice") ∈ lw_tbl := lw_at lw_m4 119 rfl
theorem q964 : (Jvm.Cond.stringRef "EdgeSums$Solver" (23 : Nat) "pair") ∈ lw_tbl := lw_at lw_m4 120 rfl
theorem q965 : (Jvm.Cond.fieldLink "EdgeSums$Solver" (25 : Nat) "EdgeSums$Solver" "rules" "[LEdgeSums$Rule;") ∈ lw_all := lw_g (lw_at lw_m4 121 rfl) rfl
theorem q967 : (Jvm.Cond.fieldLink "EdgeSums$Solver" (31 : Nat) "EdgeSums$Solver" "rule" "I") ∈ lw_all := lw_g (lw_at lw_m4 123 rfl) rfl
theorem q970 : (Jvm.Cond.fieldLink "EdgeSums$Solver" (49 : Nat) "EdgeSums$Solver" "cell" "I") ∈ lw_all := lw_g (lw_at lw_m4 126 rfl) rfl
theorem q972 : (Jvm.Cond.fieldLink "EdgeSums$Solver" (52 : Nat) "EdgeSums$Solver" "number" "I") ∈ lw_all := lw_g (lw_at lw_m4 128 rfl) rfl
theorem q973 : (Jvm.Cond.fieldLink "EdgeSums$Solver" (59 : Nat) "EdgeSums$Solver" "cause" "I") ∈ lw_all := lw_g (lw_at lw_m4 129 rfl) rfl
theorem q975 : (Jvm.Cond.laysFinal "EdgeSums$Solver" "EdgeSums$Solver" "rules" "[LEdgeSums$Rule;") ∈ lw_all := lw_g (lw_at lw_m4 131 rfl) rfl
theorem q976 : (Jvm.Cond.soleField "EdgeSums$Solver" "rules") ∈ lw_all := lw_g (lw_at lw_m4 132 rfl) rfl
theorem q977 : (Jvm.Cond.lays "EdgeSums$Solver" "EdgeSums$Solver" "rule" "I") ∈ lw_all := lw_g (lw_at lw_m4 133 rfl) rfl
theorem q978 : (Jvm.Cond.soleField "EdgeSums$Solver" "rule") ∈ lw_all := lw_g (lw_at lw_m4 134 rfl) rfl
theorem q979 : (Jvm.Cond.lays "EdgeSums$Solver" "EdgeSums$Solver" "cell" "I") ∈ lw_all := lw_g (lw_at lw_m4 135 rfl) rfl
theorem q980 : (Jvm.Cond.soleField "EdgeSums$Solver" "cell") ∈ lw_all := lw_g (lw_at lw_m4 136 rfl) rfl
theorem q981 : (Jvm.Cond.lays "EdgeSums$Solver" "EdgeSums$Solver" "number" "I") ∈ lw_all := lw_g (lw_at lw_m4 137 rfl) rfl
theorem q982 : (Jvm.Cond.soleField "EdgeSums$Solver" "number") ∈ lw_all := lw_g (lw_at lw_m4 138 rfl) rfl
theorem q983 : (Jvm.Cond.lays "EdgeSums$Solver" "EdgeSums$Solver" "cause" "I") ∈ lw_all := lw_g (lw_at lw_m4 139 rfl) rfl
theorem q984 : (Jvm.Cond.soleField "EdgeSums$Solver" "cause") ∈ lw_all := lw_g (lw_at lw_m4 140 rfl) rfl
theorem q985 : (Jvm.Cond.superclass "EdgeSums$Solver" "java/lang/Object") ∈ lw_all := lw_g (lw_at lw_m4 141 rfl) rfl
theorem q1104 : (Jvm.Cond.selects "EdgeSums$Solver" ({ cls := "java/lang/Object", name := "getClass", desc := "()Ljava/lang/Class;" } : Jvm.MethodName) ({ cls := "java/lang/Object", name := "getClass", desc := "()Ljava/lang/Class;" } : Jvm.MethodName)) ∈ lw_all := lw_g (lw_at lw_m5 20 rfl) rfl
theorem q1301 : (Jvm.Cond.instanceMethod ({ cls := "EdgeSums$Solver", name := "isSolvable", desc := "(LEdgeSums$Page;I)Z" } : Jvm.MethodName)) ∈ lw_all := lw_g (lw_at lw_m5 217 rfl) rfl
theorem q1302 : (Jvm.Cond.selects "EdgeSums$Solver" ({ cls := "EdgeSums$Solver", name := "isSolvable", desc := "(LEdgeSums$Page;I)Z" } : Jvm.MethodName) ({ cls := "EdgeSums$Solver", name := "isSolvable", desc := "(LEdgeSums$Page;I)Z" } : Jvm.MethodName)) ∈ lw_all := lw_g (lw_at lw_m5 218 rfl) rfl
theorem q1303 : (Jvm.Cond.code ({ cls := "EdgeSums$Solver", name := "isSolvable", desc := "(LEdgeSums$Page;I)Z" } : Jvm.MethodName) prog_22_method_8_code (5 : Nat) (Option.some Jvm.ClassFile.FieldType.boolean)) ∈ lw_all := lw_g (lw_at lw_m5 219 rfl) rfl
theorem q1304 : (Jvm.Cond.classLink "EdgeSums$Solver" (36 : Nat) "EdgeSums$Board") ∈ lw_all := lw_g (lw_at lw_m5 220 rfl) rfl
theorem q1305 : (Jvm.Cond.methodLink "EdgeSums$Solver" (96 : Nat) ({ cls := "EdgeSums$Board", name := "<init>", desc := "(LEdgeSums$Page;)V" } : Jvm.MethodName)) ∈ lw_all := lw_g (lw_at lw_m5 221 rfl) rfl
theorem q1306 : (Jvm.Cond.constant "EdgeSums$Solver" (101 : Nat) (2147483647 : Int32)) ∈ lw_all := lw_g (lw_at lw_m5 222 rfl) rfl
theorem q1307 : (Jvm.Cond.methodLink "EdgeSums$Solver" (102 : Nat) ({ cls := "EdgeSums$Solver", name := "solve", desc := "(LEdgeSums$Board;II)I" } : Jvm.MethodName)) ∈ lw_all := lw_g (lw_at lw_m5 223 rfl) rfl
theorem q1308 : (Jvm.Cond.instanceMethod ({ cls := "EdgeSums$Solver", name := "solve", desc := "(LEdgeSums$Board;II)I" } : Jvm.MethodName)) ∈ lw_all := lw_g (lw_at lw_m5 224 rfl) rfl
theorem q1309 : (Jvm.Cond.selects "EdgeSums$Solver" ({ cls := "EdgeSums$Solver", name := "solve", desc := "(LEdgeSums$Board;II)I" } : Jvm.MethodName) ({ cls := "EdgeSums$Solver", name := "solve", desc := "(LEdgeSums$Board;II)I" } : Jvm.MethodName)) ∈ lw_all := lw_g (lw_at lw_m5 225 rfl) rfl
theorem q1310 : (Jvm.Cond.code ({ cls := "EdgeSums$Solver", name := "solve", desc := "(LEdgeSums$Board;II)I" } : Jvm.MethodName) prog_22_method_6_code (5 : Nat) (Option.some Jvm.ClassFile.FieldType.int)) ∈ lw_all := lw_g (lw_at lw_m5 226 rfl) rfl
theorem q1311 : (Jvm.Cond.methodLink "EdgeSums$Solver" (83 : Nat) ({ cls := "EdgeSums$Solver", name := "find", desc := "(LEdgeSums$Board;I)Z" } : Jvm.MethodName)) ∈ lw_all := lw_g (lw_at lw_m5 227 rfl) rfl
theorem q1312 : (Jvm.Cond.instanceMethod ({ cls := "EdgeSums$Solver", name := "find", desc := "(LEdgeSums$Board;I)Z" } : Jvm.MethodName)) ∈ lw_all := lw_g (lw_at lw_m5 228 rfl) rfl
theorem q1313 : (Jvm.Cond.selects "EdgeSums$Solver" ({ cls := "EdgeSums$Solver", name := "find", desc := "(LEdgeSums$Board;I)Z" } : Jvm.MethodName) ({ cls := "EdgeSums$Solver", name := "find", desc := "(LEdgeSums$Board;I)Z" } : Jvm.MethodName)) ∈ lw_all := lw_g (lw_at lw_m5 229 rfl) rfl
theorem q1314 : (Jvm.Cond.code ({ cls := "EdgeSums$Solver", name := "find", desc := "(LEdgeSums$Board;I)Z" } : Jvm.MethodName) prog_22_method_4_code (3 : Nat) (Option.some Jvm.ClassFile.FieldType.boolean)) ∈ lw_all := lw_g (lw_at lw_m5 230 rfl) rfl
theorem q1315 : (Jvm.Cond.methodLink "EdgeSums$Solver" (35 : Nat) ({ cls := "EdgeSums$Board", name := "isBroken", desc := "()Z" } : Jvm.MethodName)) ∈ lw_all := lw_g (lw_at lw_m5 231 rfl) rfl
theorem q1328 : (Jvm.Cond.methodLinkNest "EdgeSums$Solver" (41 : Nat) ({ cls := "EdgeSums", name := "has", desc := "(II)Z" } : Jvm.MethodName) "EdgeSums") ∈ lw_tbl := lw_at lw_m6 4 rfl
theorem q1329 : (Jvm.Cond.methodLink "EdgeSums$Solver" (61 : Nat) ({ cls := "EdgeSums$Solver", name := "findCell", desc := "(LEdgeSums$Board;)Z" } : Jvm.MethodName)) ∈ lw_all := lw_g (lw_at lw_m6 5 rfl) rfl
theorem q1330 : (Jvm.Cond.privateMethod ({ cls := "EdgeSums$Solver", name := "findCell", desc := "(LEdgeSums$Board;)Z" } : Jvm.MethodName)) ∈ lw_tbl := lw_at lw_m6 6 rfl
theorem q1331 : (Jvm.Cond.instanceMethod ({ cls := "EdgeSums$Solver", name := "findCell", desc := "(LEdgeSums$Board;)Z" } : Jvm.MethodName)) ∈ lw_all := lw_g (lw_at lw_m6 7 rfl) rfl
theorem q1332 : (Jvm.Cond.code ({ cls := "EdgeSums$Solver", name := "findCell", desc := "(LEdgeSums$Board;)Z" } : Jvm.MethodName) prog_22_method_5_code (4 : Nat) (Option.some Jvm.ClassFile.FieldType.boolean)) ∈ lw_all := lw_g (lw_at lw_m6 8 rfl) rfl
theorem q1333 : (Jvm.Cond.methodLink "EdgeSums$Solver" (69 : Nat) ({ cls := "EdgeSums$Page", name := "cells", desc := "()I" } : Jvm.MethodName)) ∈ lw_all := lw_g (lw_at lw_m6 9 rfl) rfl
theorem q1334 : (Jvm.Cond.methodLinkNest "EdgeSums$Solver" (79 : Nat) ({ cls := "EdgeSums", name := "least", desc := "(I)I" } : Jvm.MethodName) "EdgeSums") ∈ lw_tbl := lw_at lw_m6 10 rfl
theorem q1338 : (Jvm.Cond.methodLink "EdgeSums$Solver" (45 : Nat) ({ cls := "EdgeSums$Solver", name := "isStrike", desc := "(LEdgeSums$Board;II)Z" } : Jvm.MethodName)) ∈ lw_all := lw_g (lw_at lw_m6 14 rfl) rfl
theorem q1339 : (Jvm.Cond.privateMethod ({ cls := "EdgeSums$Solver", name := "isStrike", desc := "(LEdgeSums$Board;II)Z" } : Jvm.MethodName)) ∈ lw_tbl := lw_at lw_m6 15 rfl
theorem q1340 : (Jvm.Cond.instanceMethod ({ cls := "EdgeSums$Solver", name := "isStrike", desc := "(LEdgeSums$Board;II)Z" } : Jvm.MethodName)) ∈ lw_all := lw_g (lw_at lw_m6 16 rfl) rfl
theorem q1341 : (Jvm.Cond.code ({ cls := "EdgeSums$Solver", name := "isStrike", desc := "(LEdgeSums$Board;II)Z" } : Jvm.MethodName) prog_22_method_3_code (4 : Nat) (Option.some Jvm.ClassFile.FieldType.boolean)) ∈ lw_all := lw_g (lw_at lw_m6 17 rfl) rfl
theorem q1342 : (Jvm.Cond.interfaceEntry "EdgeSums$Solver" (55 : Nat)) ∈ lw_tbl := lw_at lw_m6 18 rfl
theorem q1343 : (Jvm.Cond.methodLink "EdgeSums$Solver" (55 : Nat) ({ cls := "EdgeSums$Rule", name := "cause", desc := "(LEdgeSums$Board;II)I" } : Jvm.MethodName)) ∈ lw_all := lw_g (lw_at lw_m6 19 rfl) rfl
theorem q1414 : (Jvm.Cond.methodLink "EdgeSums$Solver" (87 : Nat) ({ cls := "EdgeSums$Board", name := "strike", desc := "(II)V" } : Jvm.MethodName)) ∈ lw_all := lw_g (lw_at lw_m6 90 rfl) rfl
theorem q1418 : (Jvm.Cond.methodLink "EdgeSums$Solver" (105 : Nat) ({ cls := "EdgeSums$Board", name := "outcome", desc := "()I" } : Jvm.MethodName)) ∈ lw_all := lw_g (lw_at lw_m6 94 rfl) rfl
theorem q1609 : (Jvm.Cond.instanceMethod ({ cls := "EdgeSums$Solver", name := "findRule", desc := "(LEdgeSums$Board;III)Z" } : Jvm.MethodName)) ∈ lw_all := lw_g (lw_at lw_m7 45 rfl) rfl
theorem q1610 : (Jvm.Cond.selects "EdgeSums$Solver" ({ cls := "EdgeSums$Solver", name := "findRule", desc := "(LEdgeSums$Board;III)Z" } : Jvm.MethodName) ({ cls := "EdgeSums$Solver", name := "findRule", desc := "(LEdgeSums$Board;III)Z" } : Jvm.MethodName)) ∈ lw_all := lw_g (lw_at lw_m7 46 rfl) rfl
theorem q1611 : (Jvm.Cond.code ({ cls := "EdgeSums$Solver", name := "findRule", desc := "(LEdgeSums$Board;III)Z" } : Jvm.MethodName) prog_22_method_2_code (5 : Nat) (Option.some Jvm.ClassFile.FieldType.boolean)) ∈ lw_all := lw_g (lw_at lw_m7 47 rfl) rfl
theorem q2269 : (Jvm.Cond.instanceMethod ({ cls := "EdgeSums$Solver", name := "step", desc := "()LEdgeSums$Step;" } : Jvm.MethodName)) ∈ lw_all := lw_g (lw_at lw_m9 225 rfl) rfl
theorem q2270 : (Jvm.Cond.selects "EdgeSums$Solver" ({ cls := "EdgeSums$Solver", name := "step", desc := "()LEdgeSums$Step;" } : Jvm.MethodName) ({ cls := "EdgeSums$Solver", name := "step", desc := "()LEdgeSums$Step;" } : Jvm.MethodName)) ∈ lw_all := lw_g (lw_at lw_m9 226 rfl) rfl
theorem q2271 : (Jvm.Cond.code ({ cls := "EdgeSums$Solver", name := "step", desc := "()LEdgeSums$Step;" } : Jvm.MethodName) prog_22_method_7_code (1 : Nat) (Option.some (Jvm.ClassFile.FieldType.object "EdgeSums$Step"))) ∈ lw_all := lw_g (lw_at lw_m9 227 rfl) rfl
theorem q2272 : (Jvm.Cond.classLink "EdgeSums$Solver" (91 : Nat) "EdgeSums$Step") ∈ lw_all := lw_g (lw_at lw_m9 228 rfl) rfl
theorem q2274 : (Jvm.Cond.methodLink "EdgeSums$Solver" (93 : Nat) ({ cls := "EdgeSums$Step", name := "<init>", desc := "([I)V" } : Jvm.MethodName)) ∈ lw_all := lw_g (lw_at lw_m9 230 rfl) rfl
theorem q3200 : (Jvm.Cond.castable "EdgeSums$Solver" "java/lang/Object") ∈ lw_tbl := lw_at lw_m13 196 rfl
theorem in_X5 : ∀ w ∈ wsX50, w ∈ lw_all := lw_in wsX50 [975, 977, 979, 981, 983] (by decide +kernel) (by decide +kernel)
/-! EdgeSums$Rule -/
set_option maxRecDepth 100000
def RX6 : String := "EdgeSums$Rule"
abbrev cX6_of : ByteArray := prog_18_method_4_code
def yX6_of : MethodName := ⟨RX6, "of", "(Ljava/lang/String;)LEdgeSums$Rule;"⟩
def dkwX6_of_7 : List UInt8 := [183, 0, 65, 167, 0, 20, 187, 0, 66, 89, 183, 0, 68, 167, 0, 10, 187, 0, 69, 89, 183, 0, 71, 176]
abbrev dktX6_of_7 : List UInt8 := dkwX6_of_7 ++ []
def dkwX6_of_6 : List UInt8 := [187, 0, 54, 89, 183, 0, 56, 167, 0, 40, 187, 0, 60, 89, 183, 0, 62, 167, 0, 30, 187, 0, 63, 89]
abbrev dktX6_of_6 : List UInt8 := dkwX6_of_6 ++ dktX6_of_7
def dkwX6_of_5 : List UInt8 := [170, 0, 0, 0, 0, 70, 0, 0, 0, 0, 0, 0, 0, 3, 0, 0, 0, 30, 0, 0, 0, 40, 0, 0, 0, 50, 0, 0, 0, 60]
abbrev dktX6_of_5 : List UInt8 := dkwX6_of_5 ++ dktX6_of_6
def dkwX6_of_4 : List UInt8 := [153, 0, 5, 6, 61, 28]
abbrev dktX6_of_4 : List UInt8 := dkwX6_of_4 ++ dktX6_of_5
def dkwX6_of_3 : List UInt8 := [61, 167, 0, 28, 43, 18, 50, 182, 0, 44, 153, 0, 19, 5, 61, 167, 0, 14, 43, 18, 52, 182, 0, 44]
abbrev dktX6_of_3 : List UInt8 := dkwX6_of_3 ++ dktX6_of_4
def dkwX6_of_2 : List UInt8 := [43, 18, 42, 182, 0, 44, 153, 0, 47, 3, 61, 167, 0, 42, 43, 18, 48, 182, 0, 44, 153, 0, 33, 4]
abbrev dktX6_of_2 : List UInt8 := dkwX6_of_2 ++ dktX6_of_3
def dkwX6_of_1 : List UInt8 := [171, 0, 0, 0, 0, 0, 0, 97, 0, 0, 0, 4, 173, 141, 246, 181, 0, 0, 0, 72, 174, 221, 93, 161, 0, 0, 0, 86, 0, 54, 235, 189, 0, 0, 0, 44, 6, 92, 217, 7, 0, 0, 0, 58]
abbrev dktX6_of_1 : List UInt8 := dkwX6_of_1 ++ dktX6_of_2
def dkwX6_of_0 : List UInt8 := [42, 76, 2, 61, 43, 182, 0, 37]
abbrev dktX6_of_0 : List UInt8 := dkwX6_of_0 ++ dktX6_of_1
theorem dksX6_of_0 : cX6_of.data.toList.drop 0 = dktX6_of_0 := by decide +kernel
theorem dksX6_of_1 : cX6_of.data.toList.drop 8 = dktX6_of_1 := dk_seg dksX6_of_0 8 rfl rfl
theorem dksX6_of_2 : cX6_of.data.toList.drop 52 = dktX6_of_2 := dk_seg dksX6_of_1 44 rfl rfl
theorem dksX6_of_3 : cX6_of.data.toList.drop 76 = dktX6_of_3 := dk_seg dksX6_of_2 24 rfl rfl
theorem dksX6_of_4 : cX6_of.data.toList.drop 100 = dktX6_of_4 := dk_seg dksX6_of_3 24 rfl rfl
theorem dksX6_of_5 : cX6_of.data.toList.drop 106 = dktX6_of_5 := dk_seg dksX6_of_4 6 rfl rfl
theorem dksX6_of_6 : cX6_of.data.toList.drop 136 = dktX6_of_6 := dk_seg dksX6_of_5 30 rfl rfl
theorem dksX6_of_7 : cX6_of.data.toList.drop 160 = dktX6_of_7 := dk_seg dksX6_of_6 24 rfl rfl
theorem dX6_of_0 : decode cX6_of 0 = .ok (.aload_n 0, 1) := dk_42 (dk_at dksX6_of_0 0 rfl rfl)
theorem dX6_of_1 : decode cX6_of 1 = .ok (.astore_n 1, 1) := dk_76 (dk_at dksX6_of_0 1 rfl rfl)
theorem dX6_of_2 : decode cX6_of 2 = .ok (.iconst (-1), 1) := dk_2 (dk_at dksX6_of_0 2 rfl rfl)
theorem dX6_of_3 : decode cX6_of 3 = .ok (.istore_n 2, 1) := dk_61 (dk_at dksX6_of_0 3 rfl rfl)
theorem dX6_of_4 : decode cX6_of 4 = .ok (.aload_n 1, 1) := dk_43 (dk_at dksX6_of_0 4 rfl rfl)
theorem dX6_of_5 : decode cX6_of 5 = .ok (.invokevirtual 37, 3) := dk_182 0 37 (dk_at dksX6_of_0 5 rfl rfl)
theorem dX6_of_8 : decode cX6_of 8 = .ok (.lookupswitch 97 #[(-1383205195, 72), (-1361224287, 86), (3599293, 44), (106748167, 58)], 44) := by decide +kernel
theorem dX6_of_52 : decode cX6_of 52 = .ok (.aload_n 1, 1) := dk_43 (dk_at dksX6_of_2 0 rfl rfl)
theorem dX6_of_53 : decode cX6_of 53 = .ok (.ldc 42, 2) := dk_18 42 (dk_at dksX6_of_2 1 rfl rfl)
theorem dX6_of_55 : decode cX6_of 55 = .ok (.invokevirtual 44, 3) := dk_182 0 44 (dk_at dksX6_of_2 3 rfl rfl)
theorem dX6_of_58 : decode cX6_of 58 = .ok (.ifCond .eq 47, 3) := dk_153 0 47 (dk_at dksX6_of_2 6 rfl rfl)
theorem dX6_of_61 : decode cX6_of 61 = .ok (.iconst 0, 1) := dk_3 (dk_at dksX6_of_2 9 rfl rfl)
theorem dX6_of_62 : decode cX6_of 62 = .ok (.istore_n 2, 1) := dk_61 (dk_at dksX6_of_2 10 rfl rfl)
theorem dX6_of_63 : decode cX6_of 63 = .ok (.goto 42, 3) := dk_167 0 42 (dk_at dksX6_of_2 11 rfl rfl)
theorem dX6_of_66 : decode cX6_of 66 = .ok (.aload_n 1, 1) := dk_43 (dk_at dksX6_of_2 14 rfl rfl)
theorem dX6_of_67 : decode cX6_of 67 = .ok (.ldc 48, 2) := dk_18 48 (dk_at dksX6_of_2 15 rfl rfl)
theorem dX6_of_69 : decode cX6_of 69 = .ok (.invokevirtual 44, 3) := dk_182 0 44 (dk_at dksX6_of_2 17 rfl rfl)
theorem dX6_of_72 : decode cX6_of 72 = .ok (.ifCond .eq 33, 3) := dk_153 0 33 (dk_at dksX6_of_2 20 rfl rfl)
theorem dX6_of_75 : decode cX6_of 75 = .ok (.iconst 1, 1) := dk_4 (dk_at dksX6_of_2 23 rfl rfl)
theorem dX6_of_76 : decode cX6_of 76 = .ok (.istore_n 2, 1) := dk_61 (dk_at dksX6_of_3 0 rfl rfl)
theorem dX6_of_77 : decode cX6_of 77 = .ok (.goto 28, 3) := dk_167 0 28 (dk_at dksX6_of_3 1 rfl rfl)
theorem dX6_of_80 : decode cX6_of 80 = .ok (.aload_n 1, 1) := dk_43 (dk_at dksX6_of_3 4 rfl rfl)
theorem dX6_of_81 : decode cX6_of 81 = .ok (.ldc 50, 2) := dk_18 50 (dk_at dksX6_of_3 5 rfl rfl)
theorem dX6_of_83 : decode cX6_of 83 = .ok (.invokevirtual 44, 3) := dk_182 0 44 (dk_at dksX6_of_3 7 rfl rfl)
theorem dX6_of_86 : decode cX6_of 86 = .ok (.ifCond .eq 19, 3) := dk_153 0 19 (dk_at dksX6_of_3 10 rfl rfl)
theorem dX6_of_89 : decode cX6_of 89 = .ok (.iconst 2, 1) := dk_5 (dk_at dksX6_of_3 13 rfl rfl)
theorem dX6_of_90 : decode cX6_of 90 = .ok (.istore_n 2, 1) := dk_61 (dk_at dksX6_of_3 14 rfl rfl)
theorem dX6_of_91 : decode cX6_of 91 = .ok (.goto 14, 3) := dk_167 0 14 (dk_at dksX6_of_3 15 rfl rfl)
theorem dX6_of_94 : decode cX6_of 94 = .ok (.aload_n 1, 1) := dk_43 (dk_at dksX6_of_3 18 rfl rfl)
theorem dX6_of_95 : decode cX6_of 95 = .ok (.ldc 52, 2) := dk_18 52 (dk_at dksX6_of_3 19 rfl rfl)
theorem dX6_of_97 : decode cX6_of 97 = .ok (.invokevirtual 44, 3) := dk_182 0 44 (dk_at dksX6_of_3 21 rfl rfl)
theorem dX6_of_100 : decode cX6_of 100 = .ok (.ifCond .eq 5, 3) := dk_153 0 5 (dk_at dksX6_of_4 0 rfl rfl)
theorem dX6_of_103 : decode cX6_of 103 = .ok (.iconst 3, 1) := dk_6 (dk_at dksX6_of_4 3 rfl rfl)
theorem dX6_of_104 : decode cX6_of 104 = .ok (.istore_n 2, 1) := dk_61 (dk_at dksX6_of_4 4 rfl rfl)
theorem dX6_of_105 : decode cX6_of 105 = .ok (.iload_n 2, 1) := dk_28 (dk_at dksX6_of_4 5 rfl rfl)
theorem dX6_of_106 : decode cX6_of 106 = .ok (.tableswitch 70 0 3 #[30, 40, 50, 60], 30) := by decide +kernel
theorem dX6_of_136 : decode cX6_of 136 = .ok (.new 54, 3) := dk_187 0 54 (dk_at dksX6_of_6 0 rfl rfl)
theorem dX6_of_139 : decode cX6_of 139 = .ok (.dup, 1) := dk_89 (dk_at dksX6_of_6 3 rfl rfl)
theorem dX6_of_140 : decode cX6_of 140 = .ok (.invokespecial 56, 3) := dk_183 0 56 (dk_at dksX6_of_6 4 rfl rfl)
theorem dX6_of_143 : decode cX6_of 143 = .ok (.goto 40, 3) := dk_167 0 40 (dk_at dksX6_of_6 7 rfl rfl)
theorem dX6_of_146 : decode cX6_of 146 = .ok (.new 60, 3) := dk_187 0 60 (dk_at dksX6_of_6 10 rfl rfl)
theorem dX6_of_149 : decode cX6_of 149 = .ok (.dup, 1) := dk_89 (dk_at dksX6_of_6 13 rfl rfl)
theorem dX6_of_150 : decode cX6_of 150 = .ok (.invokespecial 62, 3) := dk_183 0 62 (dk_at dksX6_of_6 14 rfl rfl)
theorem dX6_of_153 : decode cX6_of 153 = .ok (.goto 30, 3) := dk_167 0 30 (dk_at dksX6_of_6 17 rfl rfl)
theorem dX6_of_156 : decode cX6_of 156 = .ok (.new 63, 3) := dk_187 0 63 (dk_at dksX6_of_6 20 rfl rfl)
theorem dX6_of_159 : decode cX6_of 159 = .ok (.dup, 1) := dk_89 (dk_at dksX6_of_6 23 rfl rfl)
theorem dX6_of_160 : decode cX6_of 160 = .ok (.invokespecial 65, 3) := dk_183 0 65 (dk_at dksX6_of_7 0 rfl rfl)
theorem dX6_of_163 : decode cX6_of 163 = .ok (.goto 20, 3) := dk_167 0 20 (dk_at dksX6_of_7 3 rfl rfl)
theorem dX6_of_166 : decode cX6_of 166 = .ok (.new 66, 3) := dk_187 0 66 (dk_at dksX6_of_7 6 rfl rfl)
theorem dX6_of_169 : decode cX6_of 169 = .ok (.dup, 1) := dk_89 (dk_at dksX6_of_7 9 rfl rfl)
theorem dX6_of_170 : decode cX6_of 170 = .ok (.invokespecial 68, 3) := dk_183 0 68 (dk_at dksX6_of_7 10 rfl rfl)
theorem dX6_of_173 : decode cX6_of 173 = .ok (.goto 10, 3) := dk_167 0 10 (dk_at dksX6_of_7 13 rfl rfl)
theorem dX6_of_176 : decode cX6_of 176 = .ok (.new 69, 3) := dk_187 0 69 (dk_at dksX6_of_7 16 rfl rfl)
theorem dX6_of_179 : decode cX6_of 179 = .ok (.dup, 1) := dk_89 (dk_at dksX6_of_7 19 rfl rfl)
theorem dX6_of_180 : decode cX6_of 180 = .ok (.invokespecial 71, 3) := dk_183 0 71 (dk_at dksX6_of_7 20 rfl rfl)
theorem dX6_of_183 : decode cX6_of 183 = .ok (.areturn, 1) := dk_176 (dk_at dksX6_of_7 23 rfl rfl)
abbrev cX6_strikes : ByteArray := prog_18_method_3_code
def yX6_strikes : MethodName := ⟨RX6, "strikes", "(LEdgeSums$Board;)I"⟩
def dkwX6_strikes_3 : List UInt8 := [132, 4, 1, 167, 255, 209, 132, 3, 1, 167, 255, 182, 28, 172]
abbrev dktX6_strikes_3 : List UInt8 := dkwX6_strikes_3 ++ []
def dkwX6_strikes_2 : List UInt8 := [153, 0, 20, 42, 43, 29, 21, 4, 185, 0, 33, 4, 0, 153, 0, 7, 4, 167, 0, 4, 3, 96, 61]
abbrev dktX6_strikes_2 : List UInt8 := dkwX6_strikes_2 ++ dktX6_strikes_3
def dkwX6_strikes_1 : List UInt8 := [54, 4, 21, 4, 43, 180, 0, 9, 29, 182, 0, 25, 163, 0, 40, 28, 43, 29, 21, 4, 182, 0, 29]
abbrev dktX6_strikes_1 : List UInt8 := dkwX6_strikes_1 ++ dktX6_strikes_2
def dkwX6_strikes_0 : List UInt8 := [3, 61, 3, 62, 29, 43, 180, 0, 9, 182, 0, 15, 162, 0, 69, 43, 182, 0, 21, 154, 0, 62, 4]
abbrev dktX6_strikes_0 : List UInt8 := dkwX6_strikes_0 ++ dktX6_strikes_1
theorem dksX6_strikes_0 : cX6_strikes.data.toList.drop 0 = dktX6_strikes_0 := by decide +kernel
theorem dksX6_strikes_1 : cX6_strikes.data.toList.drop 23 = dktX6_strikes_1 := dk_seg dksX6_strikes_0 23 rfl rfl
theorem dksX6_strikes_2 : cX6_strikes.data.toList.drop 46 = dktX6_strikes_2 := dk_seg dksX6_strikes_1 23 rfl rfl
theorem dksX6_strikes_3 : cX6_strikes.data.toList.drop 69 = dktX6_strikes_3 := dk_seg dksX6_strikes_2 23 rfl rfl
theorem dX6_strikes_0 : decode cX6_strikes 0 = .ok (.iconst 0, 1) := dk_3 (dk_at dksX6_strikes_0 0 rfl rfl)
theorem dX6_strikes_1 : decode cX6_strikes 1 = .ok (.istore_n 2, 1) := dk_61 (dk_at dksX6_strikes_0 1 rfl rfl)
theorem dX6_strikes_2 : decode cX6_strikes 2 = .ok (.iconst 0, 1) := dk_3 (dk_at dksX6_strikes_0 2 rfl rfl)
theorem dX6_strikes_3 : decode cX6_strikes 3 = .ok (.istore_n 3, 1) := dk_62 (dk_at dksX6_strikes_0 3 rfl rfl)
theorem dX6_strikes_4 : decode cX6_strikes 4 = .ok (.iload_n 3, 1) := dk_29 (dk_at dksX6_strikes_0 4 rfl rfl)
theorem dX6_strikes_5 : decode cX6_strikes 5 = .ok (.aload_n 1, 1) := dk_43 (dk_at dksX6_strikes_0 5 rfl rfl)
theorem dX6_strikes_6 : decode cX6_strikes 6 = .ok (.getfield 9, 3) := dk_180 0 9 (dk_at dksX6_strikes_0 6 rfl rfl)
theorem dX6_strikes_9 : decode cX6_strikes 9 = .ok (.invokevirtual 15, 3) := dk_182 0 15 (dk_at dksX6_strikes_0 9 rfl rfl)
theorem dX6_strikes_12 : decode cX6_strikes 12 = .ok (.if_icmp .ge 69, 3) := dk_162 0 69 (dk_at dksX6_strikes_0 12 rfl rfl)
theorem dX6_strikes_15 : decode cX6_strikes 15 = .ok (.aload_n 1, 1) := dk_43 (dk_at dksX6_strikes_0 15 rfl rfl)
theorem dX6_strikes_16 : decode cX6_strikes 16 = .ok (.invokevirtual 21, 3) := dk_182 0 21 (dk_at dksX6_strikes_0 16 rfl rfl)
theorem dX6_strikes_19 : decode cX6_strikes 19 = .ok (.ifCond .ne 62, 3) := dk_154 0 62 (dk_at dksX6_strikes_0 19 rfl rfl)
theorem dX6_strikes_22 : decode cX6_strikes 22 = .ok (.iconst 1, 1) := dk_4 (dk_at dksX6_strikes_0 22 rfl rfl)
theorem dX6_strikes_23 : decode cX6_strikes 23 = .ok (.istore 4, 2) := dk_54 4 (dk_at dksX6_strikes_1 0 rfl rfl)
theorem dX6_strikes_25 : decode cX6_strikes 25 = .ok (.iload 4, 2) := dk_21 4 (dk_at dksX6_strikes_1 2 rfl rfl)
theorem dX6_strikes_27 : decode cX6_strikes 27 = .ok (.aload_n 1, 1) := dk_43 (dk_at dksX6_strikes_1 4 rfl rfl)
theorem dX6_strikes_28 : decode cX6_strikes 28 = .ok (.getfield 9, 3) := dk_180 0 9 (dk_at dksX6_strikes_1 5 rfl rfl)
theorem dX6_strikes_31 : decode cX6_strikes 31 = .ok (.iload_n 3, 1) := dk_29 (dk_at dksX6_strikes_1 8 rfl rfl)
theorem dX6_strikes_32 : decode cX6_strikes 32 = .ok (.invokevirtual 25, 3) := dk_182 0 25 (dk_at dksX6_strikes_1 9 rfl rfl)
theorem dX6_strikes_35 : decode cX6_strikes 35 = .ok (.if_icmp .gt 40, 3) := dk_163 0 40 (dk_at dksX6_strikes_1 12 rfl rfl)
theorem dX6_strikes_38 : decode cX6_strikes 38 = .ok (.iload_n 2, 1) := dk_28 (dk_at dksX6_strikes_1 15 rfl rfl)
theorem dX6_strikes_39 : decode cX6_strikes 39 = .ok (.aload_n 1, 1) := dk_43 (dk_at dksX6_strikes_1 16 rfl rfl)
theorem dX6_strikes_40 : decode cX6_strikes 40 = .ok (.iload_n 3, 1) := dk_29 (dk_at dksX6_strikes_1 17 rfl rfl)
theorem dX6_strikes_41 : decode cX6_strikes 41 = .ok (.iload 4, 2) := dk_21 4 (dk_at dksX6_strikes_1 18 rfl rfl)
theorem dX6_strikes_43 : decode cX6_strikes 43 = .ok (.invokevirtual 29, 3) := dk_182 0 29 (dk_at dksX6_strikes_1 20 rfl rfl)
theorem dX6_strikes_46 : decode cX6_strikes 46 = .ok (.ifCond .eq 20, 3) := dk_153 0 20 (dk_at dksX6_strikes_2 0 rfl rfl)
theorem dX6_strikes_49 : decode cX6_strikes 49 = .ok (.aload_n 0, 1) := dk_42 (dk_at dksX6_strikes_2 3 rfl rfl)
theorem dX6_strikes_50 : decode cX6_strikes 50 = .ok (.aload_n 1, 1) := dk_43 (dk_at dksX6_strikes_2 4 rfl rfl)
theorem dX6_strikes_51 : decode cX6_strikes 51 = .ok (.iload_n 3, 1) := dk_29 (dk_at dksX6_strikes_2 5 rfl rfl)
theorem dX6_strikes_52 : decode cX6_strikes 52 = .ok (.iload 4, 2) := dk_21 4 (dk_at dksX6_strikes_2 6 rfl rfl)
theorem dX6_strikes_54 : decode cX6_strikes 54 = .ok (.invokeinterface 33 4, 5) := by decide +kernel
theorem dX6_strikes_59 : decode cX6_strikes 59 = .ok (.ifCond .eq 7, 3) := dk_153 0 7 (dk_at dksX6_strikes_2 13 rfl rfl)
theorem dX6_strikes_62 : decode cX6_strikes 62 = .ok (.iconst 1, 1) := dk_4 (dk_at dksX6_strikes_2 16 rfl rfl)
theorem dX6_strikes_63 : decode cX6_strikes 63 = .ok (.goto 4, 3) := dk_167 0 4 (dk_at dksX6_strikes_2 17 rfl rfl)
theorem dX6_strikes_66 : decode cX6_strikes 66 = .ok (.iconst 0, 1) := dk_3 (dk_at dksX6_strikes_2 20 rfl rfl)
theorem dX6_strikes_67 : decode cX6_strikes 67 = .ok (.iadd, 1) := dk_96 (dk_at dksX6_strikes_2 21 rfl rfl)
theorem dX6_strikes_68 : decode cX6_strikes 68 = .ok (.istore_n 2, 1) := dk_61 (dk_at dksX6_strikes_2 22 rfl rfl)
theorem dX6_strikes_69 : decode cX6_strikes 69 = .ok (.iinc 4 1, 3) := dk_132 4 1 (dk_at dksX6_strikes_3 0 rfl rfl)
theorem dX6_strikes_72 : decode cX6_strikes 72 = .ok (.goto (-47), 3) := dk_167 255 209 (dk_at dksX6_strikes_3 3 rfl rfl)
theorem dX6_strikes_75 : decode cX6_strikes 75 = .ok (.iinc 3 1, 3) := dk_132 3 1 (dk_at dksX6_strikes_3 6 rfl rfl)
theorem dX6_strikes_78 : decode cX6_strikes 78 = .ok (.goto (-74), 3) := dk_167 255 182 (dk_at dksX6_strikes_3 9 rfl rfl)
theorem dX6_strikes_81 : decode cX6_strikes 81 = .ok (.iload_n 2, 1) := dk_28 (dk_at dksX6_strikes_3 12 rfl rfl)
theorem dX6_strikes_82 : decode cX6_strikes 82 = .ok (.ireturn, 1) := dk_172 (dk_at dksX6_strikes_3 13 rfl rfl)
abbrev cX6_strikes_2 : ByteArray := prog_18_method_2_code
def yX6_strikes_2 : MethodName := ⟨RX6, "strikes", "(LEdgeSums$Board;II)Z"⟩
def dkwX6_strikes_2_0 : List UInt8 := [42, 43, 28, 29, 185, 0, 3, 4, 0, 16, 157, 159, 0, 7, 4, 167, 0, 4, 3, 172]
abbrev dktX6_strikes_2_0 : List UInt8 := dkwX6_strikes_2_0 ++ []
theorem dksX6_strikes_2_0 : cX6_strikes_2.data.toList.drop 0 = dktX6_strikes_2_0 := by decide +kernel
theorem dX6_strikes_2_0 : decode cX6_strikes_2 0 = .ok (.aload_n 0, 1) := dk_42 (dk_at dksX6_strikes_2_0 0 rfl rfl)
theorem dX6_strikes_2_1 : decode cX6_strikes_2 1 = .ok (.aload_n 1, 1) := dk_43 (dk_at dksX6_strikes_2_0 1 rfl rfl)
theorem dX6_strikes_2_2 : decode cX6_strikes_2 2 = .ok (.iload_n 2, 1) := dk_28 (dk_at dksX6_strikes_2_0 2 rfl rfl)
theorem dX6_strikes_2_3 : decode cX6_strikes_2 3 = .ok (.iload_n 3, 1) := dk_29 (dk_at dksX6_strikes_2_0 3 rfl rfl)
theorem dX6_strikes_2_4 : decode cX6_strikes_2 4 = .ok (.invokeinterface 3 4, 5) := by decide +kernel
theorem dX6_strikes_2_9 : decode cX6_strikes_2 9 = .ok (.bipush (-99), 2) := dk_16 157 (dk_at dksX6_strikes_2_0 9 rfl rfl)
theorem dX6_strikes_2_11 : decode cX6_strikes_2 11 = .ok (.if_icmp .eq 7, 3) := dk_159 0 7 (dk_at dksX6_strikes_2_0 11 rfl rfl)
theorem dX6_strikes_2_14 : decode cX6_strikes_2 14 = .ok (.iconst 1, 1) := dk_4 (dk_at dksX6_strikes_2_0 14 rfl rfl)
theorem dX6_strikes_2_15 : decode cX6_strikes_2 15 = .ok (.goto 4, 3) := dk_167 0 4 (dk_at dksX6_strikes_2_0 15 rfl rfl)
theorem dX6_strikes_2_18 : decode cX6_strikes_2 18 = .ok (.iconst 0, 1) := dk_3 (dk_at dksX6_strikes_2_0 18 rfl rfl)
theorem dX6_strikes_2_19 : decode cX6_strikes_2 19 = .ok (.ireturn, 1) := dk_172 (dk_at dksX6_strikes_2_0 19 rfl rfl)
theorem q151 : (Jvm.Cond.initialized "EdgeSums$Rule") ∈ lw_all := lw_g (lw_at lw_m1 27 rfl) rfl
theorem q744 : (Jvm.Cond.fieldLinkNest "EdgeSums$Rule" (9 : Nat) "EdgeSums$Board" "page" "LEdgeSums$Page;" "EdgeSums") ∈ lw_tbl := lw_at lw_m3 140 rfl
theorem q857 : (Jvm.Cond.static ({ cls := "EdgeSums$Rule", name := "of", desc := "(Ljava/lang/String;)LEdgeSums$Rule;" } : Jvm.MethodName)) ∈ lw_all := lw_g (lw_at lw_m4 13 rfl) rfl
theorem q858 : (Jvm.Cond.code ({ cls := "EdgeSums$Rule", name := "of", desc := "(Ljava/lang/String;)LEdgeSums$Rule;" } : Jvm.MethodName) prog_18_method_4_code (3 : Nat) (Option.some (Jvm.ClassFile.FieldType.object "EdgeSums$Rule"))) ∈ lw_all := lw_g (lw_at lw_m4 14 rfl) rfl
theorem q859 : (Jvm.Cond.methodLink "EdgeSums$Rule" (37 : Nat) ({ cls := "java/lang/String", name := "hashCode", desc := "()I" } : Jvm.MethodName)) ∈ lw_all := lw_g (lw_at lw_m4 15 rfl) rfl
theorem q912 : (Jvm.Cond.stringRef "EdgeSums$Rule" (42 : Nat) "used") ∈ lw_tbl := lw_at lw_m4 68 rfl
theorem q913 : (Jvm.Cond.methodLink "EdgeSums$Rule" (44 : Nat) ({ cls := "java/lang/String", name := "equals", desc := "(Ljava/lang/Object;)Z" } : Jvm.MethodName)) ∈ lw_all := lw_g (lw_at lw_m4 69 rfl) rfl
theorem q920 : (Jvm.Cond.stringRef "EdgeSums$Rule" (48 : Nat) "place") ∈ lw_tbl := lw_at lw_m4 76 rfl
theorem q921 : (Jvm.Cond.stringRef "EdgeSums$Rule" (50 : Nat) "bounds") ∈ lw_tbl := lw_at lw_m4 77 rfl
theorem q922 : (Jvm.Cond.stringRef "EdgeSums$Rule" (52 : Nat) "choice") ∈ lw_tbl := lw_at lw_m4 78 rfl
theorem q923 : (Jvm.Cond.classLink "EdgeSums$Rule" (54 : Nat) "EdgeSums$UsedRule") ∈ lw_all := lw_g (lw_at lw_m4 79 rfl) rfl
theorem q925 : (Jvm.Cond.methodLinkNest "EdgeSums$Rule" (56 : Nat) ({ cls := "EdgeSums$UsedRule", name := "<init>", desc := "()V" } : Jvm.MethodName) "EdgeSums") ∈ lw_tbl := lw_at lw_m4 81 rfl
theorem q930 : (Jvm.Cond.classLink "EdgeSums$Rule" (60 : Nat) "EdgeSums$PlaceRule") ∈ lw_all := lw_g (lw_at lw_m4 86 rfl) rfl
theorem q932 : (Jvm.Cond.methodLinkNest "EdgeSums$Rule" (62 : Nat) ({ cls := "EdgeSums$PlaceRule", name := "<init>", desc := "()V" } : Jvm.MethodName) "EdgeSums") ∈ lw_tbl := lw_at lw_m4 88 rfl
theorem q937 : (Jvm.Cond.classLink "EdgeSums$Rule" (63 : Nat) "EdgeSums$BoundsRule") ∈ lw_all := lw_g (lw_at lw_m4 93 rfl) rfl
theorem q939 : (Jvm.Cond.methodLinkNest "EdgeSums$Rule" (65 : Nat) ({ cls := "EdgeSums$BoundsRule", name := "<init>", desc := "()V" } : Jvm.MethodName) "EdgeSums") ∈ lw_tbl := lw_at lw_m4 95 rfl
theorem q947 : (Jvm.Cond.classLink "EdgeSums$Rule" (66 : Nat) "EdgeSums$ChoiceRule") ∈ lw_all := lw_g (lw_at lw_m4 103 rfl) rfl
theorem q949 : (Jvm.Cond.methodLinkNest "EdgeSums$Rule" (68 : Nat) ({ cls := "EdgeSums$ChoiceRule", name := "<init>", desc := "()V" } : Jvm.MethodName) "EdgeSums") ∈ lw_tbl := lw_at lw_m4 105 rfl
theorem q954 : (Jvm.Cond.classLink "EdgeSums$Rule" (69 : Nat) "EdgeSums$PairRule") ∈ lw_all := lw_g (lw_at lw_m4 110 rfl) rfl
theorem q956 : (Jvm.Cond.methodLinkNest "EdgeSums$Rule" (71 : Nat) ({ cls := "EdgeSums$PairRule", name := "<init>", desc := "()V" } : Jvm.MethodName) "EdgeSums") ∈ lw_tbl := lw_at lw_m4 112 rfl
theorem q1344 : (Jvm.Cond.interfaceMethod "EdgeSums$Rule" "EdgeSums$Rule" "cause" "(LEdgeSums$Board;II)I") ∈ lw_tbl := lw_at lw_m6 20 rfl
theorem q1345 : (Jvm.Cond.declares ({ cls := "EdgeSums$Rule", name := "cause", desc := "(LEdgeSums$Board;II)I" } : Jvm.MethodName)) ∈ lw_tbl := lw_at lw_m6 21 rfl
theorem q2362 : (Jvm.Cond.interfaceMethod "EdgeSums$Rule" "EdgeSums$Rule" "strikes" "(LEdgeSums$Board;)I") ∈ lw_tbl := lw_at lw_m10 78 rfl
theorem q2363 : (Jvm.Cond.declares ({ cls := "EdgeSums$Rule", name := "strikes", desc := "(LEdgeSums$Board;)I" } : Jvm.MethodName)) ∈ lw_tbl := lw_at lw_m10 79 rfl
theorem q2365 : (Jvm.Cond.instanceMethod ({ cls := "EdgeSums$Rule", name := "strikes", desc := "(LEdgeSums$Board;)I" } : Jvm.MethodName)) ∈ lw_all := lw_g (lw_at lw_m10 81 rfl) rfl
theorem q2366 : (Jvm.Cond.publicMethod ({ cls := "EdgeSums$Rule", name := "strikes", desc := "(LEdgeSums$Board;)I" } : Jvm.MethodName)) ∈ lw_tbl := lw_at lw_m10 82 rfl
theorem q2367 : (Jvm.Cond.code ({ cls := "EdgeSums$Rule", name := "strikes", desc := "(LEdgeSums$Board;)I" } : Jvm.MethodName) prog_18_method_3_code (5 : Nat) (Option.some Jvm.ClassFile.FieldType.int)) ∈ lw_all := lw_g (lw_at lw_m10 83 rfl) rfl
theorem q2368 : (Jvm.Cond.methodLink "EdgeSums$Rule" (15 : Nat) ({ cls := "EdgeSums$Page", name := "cells", desc := "()I" } : Jvm.MethodName)) ∈ lw_all := lw_g (lw_at lw_m10 84 rfl) rfl
theorem q2369 : (Jvm.Cond.methodLink "EdgeSums$Rule" (21 : Nat) ({ cls := "EdgeSums$Board", name := "isBroken", desc := "()Z" } : Jvm.MethodName)) ∈ lw_all := lw_g (lw_at lw_m10 85 rfl) rfl
theorem q2370 : (Jvm.Cond.methodLink "EdgeSums$Rule" (25 : Nat) ({ cls := "EdgeSums$Page", name := "size", desc := "(I)I" } : Jvm.MethodName)) ∈ lw_all := lw_g (lw_at lw_m10 86 rfl) rfl
theorem q2371 : (Jvm.Cond.methodLink "EdgeSums$Rule" (29 : Nat) ({ cls := "EdgeSums$Board", name := "isPossible", desc := "(II)Z" } : Jvm.MethodName)) ∈ lw_all := lw_g (lw_at lw_m10 87 rfl) rfl
theorem q2372 : (Jvm.Cond.interfaceEntry "EdgeSums$Rule" (33 : Nat)) ∈ lw_tbl := lw_at lw_m10 88 rfl
theorem q2373 : (Jvm.Cond.methodLink "EdgeSums$Rule" (33 : Nat) ({ cls := "EdgeSums$Rule", name := "strikes", desc := "(LEdgeSums$Board;II)Z" } : Jvm.MethodName)) ∈ lw_all := lw_g (lw_at lw_m10 89 rfl) rfl
theorem q2374 : (Jvm.Cond.interfaceMethod "EdgeSums$Rule" "EdgeSums$Rule" "strikes" "(LEdgeSums$Board;II)Z") ∈ lw_tbl := lw_at lw_m10 90 rfl
theorem q2375 : (Jvm.Cond.declares ({ cls := "EdgeSums$Rule", name := "strikes", desc := "(LEdgeSums$Board;II)Z" } : Jvm.MethodName)) ∈ lw_tbl := lw_at lw_m10 91 rfl
theorem q2377 : (Jvm.Cond.instanceMethod ({ cls := "EdgeSums$Rule", name := "strikes", desc := "(LEdgeSums$Board;II)Z" } : Jvm.MethodName)) ∈ lw_all := lw_g (lw_at lw_m10 93 rfl) rfl
theorem q2378 : (Jvm.Cond.publicMethod ({ cls := "EdgeSums$Rule", name := "strikes", desc := "(LEdgeSums$Board;II)Z" } : Jvm.MethodName)) ∈ lw_tbl := lw_at lw_m10 94 rfl
theorem q2379 : (Jvm.Cond.code ({ cls := "EdgeSums$Rule", name := "strikes", desc := "(LEdgeSums$Board;II)Z" } : Jvm.MethodName) prog_18_method_2_code (4 : Nat) (Option.some Jvm.ClassFile.FieldType.boolean)) ∈ lw_all := lw_g (lw_at lw_m10 95 rfl) rfl
theorem q2380 : (Jvm.Cond.interfaceEntry "EdgeSums$Rule" (3 : Nat)) ∈ lw_tbl := lw_at lw_m10 96 rfl
theorem q2381 : (Jvm.Cond.methodLink "EdgeSums$Rule" (3 : Nat) ({ cls := "EdgeSums$Rule", name := "cause", desc := "(LEdgeSums$Board;II)I" } : Jvm.MethodName)) ∈ lw_all := lw_g (lw_at lw_m10 97 rfl) rfl
theorem q3190 : (Jvm.Cond.castable "EdgeSums$Rule" "java/lang/Object") ∈ lw_tbl := lw_at lw_m13 186 rfl
/-! EdgeSums$UsedRule -/
set_option maxRecDepth 100000
def RX7 : String := "EdgeSums$UsedRule"
abbrev cX7_init : ByteArray := prog_26_method_1_code
def yX7_init : MethodName := ⟨RX7, "<init>", "()V"⟩
theorem dX7_init_0 : decode cX7_init 0 = .ok (.aload_n 0, 1) := by decide +kernel
theorem dX7_init_1 : decode cX7_init 1 = .ok (.invokespecial 3, 3) := by decide +kernel
theorem dX7_init_4 : decode cX7_init 4 = .ok (.return_, 1) := by decide +kernel
abbrev cX7_cause : ByteArray := prog_26_method_2_code
def yX7_cause : MethodName := ⟨RX7, "cause", "(LEdgeSums$Board;II)I"⟩
def dkwX7_cause_2 : List UInt8 := [29, 120, 160, 0, 6, 21, 7, 172, 132, 6, 1, 167, 255, 217, 16, 157, 172]
abbrev dktX7_cause_2 : List UInt8 := dkwX7_cause_2 ++ []
def dkwX7_cause_1 : List UInt8 := [162, 0, 38, 25, 4, 21, 6, 46, 54, 7, 21, 7, 28, 159, 0, 19, 43, 180, 0, 21, 21, 7, 46, 4]
abbrev dktX7_cause_1 : List UInt8 := dkwX7_cause_1 ++ dktX7_cause_2
def dkwX7_cause_0 : List UInt8 := [43, 180, 0, 9, 28, 182, 0, 15, 58, 4, 25, 4, 190, 54, 5, 3, 54, 6, 21, 6, 21, 5]
abbrev dktX7_cause_0 : List UInt8 := dkwX7_cause_0 ++ dktX7_cause_1
theorem dksX7_cause_0 : cX7_cause.data.toList.drop 0 = dktX7_cause_0 := by decide +kernel
theorem dksX7_cause_1 : cX7_cause.data.toList.drop 22 = dktX7_cause_1 := dk_seg dksX7_cause_0 22 rfl rfl
theorem dksX7_cause_2 : cX7_cause.data.toList.drop 46 = dktX7_cause_2 := dk_seg dksX7_cause_1 24 rfl rfl
theorem dX7_cause_0 : decode cX7_cause 0 = .ok (.aload_n 1, 1) := dk_43 (dk_at dksX7_cause_0 0 rfl rfl)
theorem dX7_cause_1 : decode cX7_cause 1 = .ok (.getfield 9, 3) := dk_180 0 9 (dk_at dksX7_cause_0 1 rfl rfl)
theorem dX7_cause_4 : decode cX7_cause 4 = .ok (.iload_n 2, 1) := dk_28 (dk_at dksX7_cause_0 4 rfl rfl)
theorem dX7_cause_5 : decode cX7_cause 5 = .ok (.invokevirtual 15, 3) := dk_182 0 15 (dk_at dksX7_cause_0 5 rfl rfl)
theorem dX7_cause_8 : decode cX7_cause 8 = .ok (.astore 4, 2) := dk_58 4 (dk_at dksX7_cause_0 8 rfl rfl)
theorem dX7_cause_10 : decode cX7_cause 10 = .ok (.aload 4, 2) := dk_25 4 (dk_at dksX7_cause_0 10 rfl rfl)
theorem dX7_cause_12 : decode cX7_cause 12 = .ok (.arraylength, 1) := dk_190 (dk_at dksX7_cause_0 12 rfl rfl)
theorem dX7_cause_13 : decode cX7_cause 13 = .ok (.istore 5, 2) := dk_54 5 (dk_at dksX7_cause_0 13 rfl rfl)
theorem dX7_cause_15 : decode cX7_cause 15 = .ok (.iconst 0, 1) := dk_3 (dk_at dksX7_cause_0 15 rfl rfl)
theorem dX7_cause_16 : decode cX7_cause 16 = .ok (.istore 6, 2) := dk_54 6 (dk_at dksX7_cause_0 16 rfl rfl)
theorem dX7_cause_18 : decode cX7_cause 18 = .ok (.iload 6, 2) := dk_21 6 (dk_at dksX7_cause_0 18 rfl rfl)
theorem dX7_cause_20 : decode cX7_cause 20 = .ok (.iload 5, 2) := dk_21 5 (dk_at dksX7_cause_0 20 rfl rfl)
theorem dX7_cause_22 : decode cX7_cause 22 = .ok (.if_icmp .ge 38, 3) := dk_162 0 38 (dk_at dksX7_cause_1 0 rfl rfl)
theorem dX7_cause_25 : decode cX7_cause 25 = .ok (.aload 4, 2) := dk_25 4 (dk_at dksX7_cause_1 3 rfl rfl)
theorem dX7_cause_27 : decode cX7_cause 27 = .ok (.iload 6, 2) := dk_21 6 (dk_at dksX7_cause_1 5 rfl rfl)
theorem dX7_cause_29 : decode cX7_cause 29 = .ok (.iaload, 1) := dk_46 (dk_at dksX7_cause_1 7 rfl rfl)
theorem dX7_cause_30 : decode cX7_cause 30 = .ok (.istore 7, 2) := dk_54 7 (dk_at dksX7_cause_1 8 rfl rfl)
theorem dX7_cause_32 : decode cX7_cause 32 = .ok (.iload 7, 2) := dk_21 7 (dk_at dksX7_cause_1 10 rfl rfl)
theorem dX7_cause_34 : decode cX7_cause 34 = .ok (.iload_n 2, 1) := dk_28 (dk_at dksX7_cause_1 12 rfl rfl)
theorem dX7_cause_35 : decode cX7_cause 35 = .ok (.if_icmp .eq 19, 3) := dk_159 0 19 (dk_at dksX7_cause_1 13 rfl rfl)
theorem dX7_cause_38 : decode cX7_cause 38 = .ok (.aload_n 1, 1) := dk_43 (dk_at dksX7_cause_1 16 rfl rfl)
theorem dX7_cause_39 : decode cX7_cause 39 = .ok (.getfield 21, 3) := dk_180 0 21 (dk_at dksX7_cause_1 17 rfl rfl)
theorem dX7_cause_42 : decode cX7_cause 42 = .ok (.iload 7, 2) := dk_21 7 (dk_at dksX7_cause_1 20 rfl rfl)
theorem dX7_cause_44 : decode cX7_cause 44 = .ok (.iaload, 1) := dk_46 (dk_at dksX7_cause_1 22 rfl rfl)
theorem dX7_cause_45 : decode cX7_cause 45 = .ok (.iconst 1, 1) := dk_4 (dk_at dksX7_cause_1 23 rfl rfl)
theorem dX7_cause_46 : decode cX7_cause 46 = .ok (.iload_n 3, 1) := dk_29 (dk_at dksX7_cause_2 0 rfl rfl)
theorem dX7_cause_47 : decode cX7_cause 47 = .ok (.ishl, 1) := dk_120 (dk_at dksX7_cause_2 1 rfl rfl)
theorem dX7_cause_48 : decode cX7_cause 48 = .ok (.if_icmp .ne 6, 3) := dk_160 0 6 (dk_at dksX7_cause_2 2 rfl rfl)
theorem dX7_cause_51 : decode cX7_cause 51 = .ok (.iload 7, 2) := dk_21 7 (dk_at dksX7_cause_2 5 rfl rfl)
theorem dX7_cause_53 : decode cX7_cause 53 = .ok (.ireturn, 1) := dk_172 (dk_at dksX7_cause_2 7 rfl rfl)
theorem dX7_cause_54 : decode cX7_cause 54 = .ok (.iinc 6 1, 3) := dk_132 6 1 (dk_at dksX7_cause_2 8 rfl rfl)
theorem dX7_cause_57 : decode cX7_cause 57 = .ok (.goto (-39), 3) := dk_167 255 217 (dk_at dksX7_cause_2 11 rfl rfl)
theorem dX7_cause_60 : decode cX7_cause 60 = .ok (.bipush (-99), 2) := dk_16 157 (dk_at dksX7_cause_2 14 rfl rfl)
theorem dX7_cause_62 : decode cX7_cause 62 = .ok (.ireturn, 1) := dk_172 (dk_at dksX7_cause_2 16 rfl rfl)
theorem q152 : (Jvm.Cond.initialized "EdgeSums$UsedRule") ∈ lw_all := lw_g (lw_at lw_m1 28 rfl) rfl
theorem q741 : (Jvm.Cond.fieldLinkNest "EdgeSums$UsedRule" (9 : Nat) "EdgeSums$Board" "page" "LEdgeSums$Page;" "EdgeSums") ∈ lw_tbl := lw_at lw_m3 137 rfl
theorem q748 : (Jvm.Cond.fieldLinkNest "EdgeSums$UsedRule" (21 : Nat) "EdgeSums$Board" "sets" "[I" "EdgeSums") ∈ lw_tbl := lw_at lw_m3 144 rfl
theorem q924 : (Jvm.Cond.instantiable "EdgeSums$UsedRule" (0 : Nat)) ∈ lw_all := lw_g (lw_at lw_m4 80 rfl) rfl
theorem q926 : (Jvm.Cond.instanceMethod ({ cls := "EdgeSums$UsedRule", name := "<init>", desc := "()V" } : Jvm.MethodName)) ∈ lw_all := lw_g (lw_at lw_m4 82 rfl) rfl
theorem q927 : (Jvm.Cond.code ({ cls := "EdgeSums$UsedRule", name := "<init>", desc := "()V" } : Jvm.MethodName) prog_26_method_1_code (1 : Nat) (Option.none : Option Jvm.ClassFile.FieldType)) ∈ lw_all := lw_g (lw_at lw_m4 83 rfl) rfl
theorem q928 : (Jvm.Cond.methodLink "EdgeSums$UsedRule" (3 : Nat) ({ cls := "java/lang/Object", name := "<init>", desc := "()V" } : Jvm.MethodName)) ∈ lw_all := lw_g (lw_at lw_m4 84 rfl) rfl
theorem q929 : (Jvm.Cond.superclass "EdgeSums$UsedRule" "java/lang/Object") ∈ lw_all := lw_g (lw_at lw_m4 85 rfl) rfl
theorem q1108 : (Jvm.Cond.selects "EdgeSums$UsedRule" ({ cls := "java/lang/Object", name := "getClass", desc := "()Ljava/lang/Class;" } : Jvm.MethodName) ({ cls := "java/lang/Object", name := "getClass", desc := "()Ljava/lang/Class;" } : Jvm.MethodName)) ∈ lw_all := lw_g (lw_at lw_m5 24 rfl) rfl
theorem q1407 : (Jvm.Cond.castable "EdgeSums$UsedRule" "EdgeSums$Rule") ∈ lw_tbl := lw_at lw_m6 83 rfl
theorem q1408 : (Jvm.Cond.selects "EdgeSums$UsedRule" ({ cls := "EdgeSums$Rule", name := "cause", desc := "(LEdgeSums$Board;II)I" } : Jvm.MethodName) ({ cls := "EdgeSums$UsedRule", name := "cause", desc := "(LEdgeSums$Board;II)I" } : Jvm.MethodName)) ∈ lw_all := lw_g (lw_at lw_m6 84 rfl) rfl
theorem q1409 : (Jvm.Cond.unhidden "EdgeSums$UsedRule" "cause" "(LEdgeSums$Board;II)I") ∈ lw_tbl := lw_at lw_m6 85 rfl
theorem q1410 : (Jvm.Cond.instanceMethod ({ cls := "EdgeSums$UsedRule", name := "cause", desc := "(LEdgeSums$Board;II)I" } : Jvm.MethodName)) ∈ lw_all := lw_g (lw_at lw_m6 86 rfl) rfl
theorem q1411 : (Jvm.Cond.publicMethod ({ cls := "EdgeSums$UsedRule", name := "cause", desc := "(LEdgeSums$Board;II)I" } : Jvm.MethodName)) ∈ lw_tbl := lw_at lw_m6 87 rfl
theorem q1412 : (Jvm.Cond.code ({ cls := "EdgeSums$UsedRule", name := "cause", desc := "(LEdgeSums$Board;II)I" } : Jvm.MethodName) prog_26_method_2_code (8 : Nat) (Option.some Jvm.ClassFile.FieldType.int)) ∈ lw_all := lw_g (lw_at lw_m6 88 rfl) rfl
theorem q1413 : (Jvm.Cond.methodLink "EdgeSums$UsedRule" (15 : Nat) ({ cls := "EdgeSums$Page", name := "members", desc := "(I)[I" } : Jvm.MethodName)) ∈ lw_all := lw_g (lw_at lw_m6 89 rfl) rfl
theorem q2385 : (Jvm.Cond.unhidden "EdgeSums$UsedRule" "strikes" "(LEdgeSums$Board;II)Z") ∈ lw_tbl := lw_at lw_m10 101 rfl
theorem q2389 : (Jvm.Cond.unhidden "EdgeSums$UsedRule" "strikes" "(LEdgeSums$Board;)I") ∈ lw_tbl := lw_at lw_m10 105 rfl
theorem q3202 : (Jvm.Cond.castable "EdgeSums$UsedRule" "java/lang/Object") ∈ lw_tbl := lw_at lw_m13 198 rfl
/-! EdgeSums$PlaceRule -/
set_option maxRecDepth 100000
def RX8 : String := "EdgeSums$PlaceRule"
abbrev cX8_init : ByteArray := prog_17_method_1_code
def yX8_init : MethodName := ⟨RX8, "<init>", "()V"⟩
theorem dX8_init_0 : decode cX8_init 0 = .ok (.aload_n 0, 1) := by decide +kernel
theorem dX8_init_1 : decode cX8_init 1 = .ok (.invokespecial 3, 3) := by decide +kernel
theorem dX8_init_4 : decode cX8_init 4 = .ok (.return_, 1) := by decide +kernel
abbrev cX8_cause : ByteArray := prog_17_method_2_code
def yX8_cause : MethodName := ⟨RX8, "cause", "(LEdgeSums$Board;II)I"⟩
def dkwX8_cause_3 : List UInt8 := [46, 21, 4, 2, 130, 126, 54, 5, 21, 5, 154, 0, 8, 16, 157, 167, 0, 8, 21, 5, 184, 0, 25, 172]
abbrev dktX8_cause_3 : List UInt8 := dkwX8_cause_3 ++ []
def dkwX8_cause_2 : List UInt8 := [167, 0, 10, 43, 180, 0, 21, 21, 8, 46, 128, 54, 4, 132, 7, 1, 167, 255, 217, 43, 180, 0, 21, 28]
abbrev dktX8_cause_2 : List UInt8 := dkwX8_cause_2 ++ dktX8_cause_3
def dkwX8_cause_1 : List UInt8 := [21, 7, 21, 6, 162, 0, 38, 25, 5, 21, 7, 46, 54, 8, 21, 4, 21, 8, 28, 160, 0, 7, 3]
abbrev dktX8_cause_1 : List UInt8 := dkwX8_cause_1 ++ dktX8_cause_2
def dkwX8_cause_0 : List UInt8 := [4, 29, 120, 54, 4, 43, 180, 0, 9, 28, 182, 0, 15, 58, 5, 25, 5, 190, 54, 6, 3, 54, 7]
abbrev dktX8_cause_0 : List UInt8 := dkwX8_cause_0 ++ dktX8_cause_1
theorem dksX8_cause_0 : cX8_cause.data.toList.drop 0 = dktX8_cause_0 := by decide +kernel
theorem dksX8_cause_1 : cX8_cause.data.toList.drop 23 = dktX8_cause_1 := dk_seg dksX8_cause_0 23 rfl rfl
theorem dksX8_cause_2 : cX8_cause.data.toList.drop 46 = dktX8_cause_2 := dk_seg dksX8_cause_1 23 rfl rfl
theorem dksX8_cause_3 : cX8_cause.data.toList.drop 70 = dktX8_cause_3 := dk_seg dksX8_cause_2 24 rfl rfl
theorem dX8_cause_0 : decode cX8_cause 0 = .ok (.iconst 1, 1) := dk_4 (dk_at dksX8_cause_0 0 rfl rfl)
theorem dX8_cause_1 : decode cX8_cause 1 = .ok (.iload_n 3, 1) := dk_29 (dk_at dksX8_cause_0 1 rfl rfl)
theorem dX8_cause_2 : decode cX8_cause 2 = .ok (.ishl, 1) := dk_120 (dk_at dksX8_cause_0 2 rfl rfl)
theorem dX8_cause_3 : decode cX8_cause 3 = .ok (.istore 4, 2) := dk_54 4 (dk_at dksX8_cause_0 3 rfl rfl)
theorem dX8_cause_5 : decode cX8_cause 5 = .ok (.aload_n 1, 1) := dk_43 (dk_at dksX8_cause_0 5 rfl rfl)
theorem dX8_cause_6 : decode cX8_cause 6 = .ok (.getfield 9, 3) := dk_180 0 9 (dk_at dksX8_cause_0 6 rfl rfl)
theorem dX8_cause_9 : decode cX8_cause 9 = .ok (.iload_n 2, 1) := dk_28 (dk_at dksX8_cause_0 9 rfl rfl)
theorem dX8_cause_10 : decode cX8_cause 10 = .ok (.invokevirtual 15, 3) := dk_182 0 15 (dk_at dksX8_cause_0 10 rfl rfl)
theorem dX8_cause_13 : decode cX8_cause 13 = .ok (.astore 5, 2) := dk_58 5 (dk_at dksX8_cause_0 13 rfl rfl)
theorem dX8_cause_15 : decode cX8_cause 15 = .ok (.aload 5, 2) := dk_25 5 (dk_at dksX8_cause_0 15 rfl rfl)
theorem dX8_cause_17 : decode cX8_cause 17 = .ok (.arraylength, 1) := dk_190 (dk_at dksX8_cause_0 17 rfl rfl)
theorem dX8_cause_18 : decode cX8_cause 18 = .ok (.istore 6, 2) := dk_54 6 (dk_at dksX8_cause_0 18 rfl rfl)
theorem dX8_cause_20 : decode cX8_cause 20 = .ok (.iconst 0, 1) := dk_3 (dk_at dksX8_cause_0 20 rfl rfl)
theorem dX8_cause_21 : decode cX8_cause 21 = .ok (.istore 7, 2) := dk_54 7 (dk_at dksX8_cause_0 21 rfl rfl)
theorem dX8_cause_23 : decode cX8_cause 23 = .ok (.iload 7, 2) := dk_21 7 (dk_at dksX8_cause_1 0 rfl rfl)
theorem dX8_cause_25 : decode cX8_cause 25 = .ok (.iload 6, 2) := dk_21 6 (dk_at dksX8_cause_1 2 rfl rfl)
theorem dX8_cause_27 : decode cX8_cause 27 = .ok (.if_icmp .ge 38, 3) := dk_162 0 38 (dk_at dksX8_cause_1 4 rfl rfl)
theorem dX8_cause_30 : decode cX8_cause 30 = .ok (.aload 5, 2) := dk_25 5 (dk_at dksX8_cause_1 7 rfl rfl)
theorem dX8_cause_32 : decode cX8_cause 32 = .ok (.iload 7, 2) := dk_21 7 (dk_at dksX8_cause_1 9 rfl rfl)
theorem dX8_cause_34 : decode cX8_cause 34 = .ok (.iaload, 1) := dk_46 (dk_at dksX8_cause_1 11 rfl rfl)
theorem dX8_cause_35 : decode cX8_cause 35 = .ok (.istore 8, 2) := dk_54 8 (dk_at dksX8_cause_1 12 rfl rfl)
theorem dX8_cause_37 : decode cX8_cause 37 = .ok (.iload 4, 2) := dk_21 4 (dk_at dksX8_cause_1 14 rfl rfl)
theorem dX8_cause_39 : decode cX8_cause 39 = .ok (.iload 8, 2) := dk_21 8 (dk_at dksX8_cause_1 16 rfl rfl)
theorem dX8_cause_41 : decode cX8_cause 41 = .ok (.iload_n 2, 1) := dk_28 (dk_at dksX8_cause_1 18 rfl rfl)
theorem dX8_cause_42 : decode cX8_cause 42 = .ok (.if_icmp .ne 7, 3) := dk_160 0 7 (dk_at dksX8_cause_1 19 rfl rfl)
theorem dX8_cause_45 : decode cX8_cause 45 = .ok (.iconst 0, 1) := dk_3 (dk_at dksX8_cause_1 22 rfl rfl)
theorem dX8_cause_46 : decode cX8_cause 46 = .ok (.goto 10, 3) := dk_167 0 10 (dk_at dksX8_cause_2 0 rfl rfl)
theorem dX8_cause_49 : decode cX8_cause 49 = .ok (.aload_n 1, 1) := dk_43 (dk_at dksX8_cause_2 3 rfl rfl)
theorem dX8_cause_50 : decode cX8_cause 50 = .ok (.getfield 21, 3) := dk_180 0 21 (dk_at dksX8_cause_2 4 rfl rfl)
theorem dX8_cause_53 : decode cX8_cause 53 = .ok (.iload 8, 2) := dk_21 8 (dk_at dksX8_cause_2 7 rfl rfl)
theorem dX8_cause_55 : decode cX8_cause 55 = .ok (.iaload, 1) := dk_46 (dk_at dksX8_cause_2 9 rfl rfl)
theorem dX8_cause_56 : decode cX8_cause 56 = .ok (.ior, 1) := dk_128 (dk_at dksX8_cause_2 10 rfl rfl)
theorem dX8_cause_57 : decode cX8_cause 57 = .ok (.istore 4, 2) := dk_54 4 (dk_at dksX8_cause_2 11 rfl rfl)
theorem dX8_cause_59 : decode cX8_cause 59 = .ok (.iinc 7 1, 3) := dk_132 7 1 (dk_at dksX8_cause_2 13 rfl rfl)
theorem dX8_cause_62 : decode cX8_cause 62 = .ok (.goto (-39), 3) := dk_167 255 217 (dk_at dksX8_cause_2 16 rfl rfl)
theorem dX8_cause_65 : decode cX8_cause 65 = .ok (.aload_n 1, 1) := dk_43 (dk_at dksX8_cause_2 19 rfl rfl)
theorem dX8_cause_66 : decode cX8_cause 66 = .ok (.getfield 21, 3) := dk_180 0 21 (dk_at dksX8_cause_2 20 rfl rfl)
theorem dX8_cause_69 : decode cX8_cause 69 = .ok (.iload_n 2, 1) := dk_28 (dk_at dksX8_cause_2 23 rfl rfl)
theorem dX8_cause_70 : decode cX8_cause 70 = .ok (.iaload, 1) := dk_46 (dk_at dksX8_cause_3 0 rfl rfl)
theorem dX8_cause_71 : decode cX8_cause 71 = .ok (.iload 4, 2) := dk_21 4 (dk_at dksX8_cause_3 1 rfl rfl)
theorem dX8_cause_73 : decode cX8_cause 73 = .ok (.iconst (-1), 1) := dk_2 (dk_at dksX8_cause_3 3 rfl rfl)
theorem dX8_cause_74 : decode cX8_cause 74 = .ok (.ixor, 1) := dk_130 (dk_at dksX8_cause_3 4 rfl rfl)
theorem dX8_cause_75 : decode cX8_cause 75 = .ok (.iand, 1) := dk_126 (dk_at dksX8_cause_3 5 rfl rfl)
theorem dX8_cause_76 : decode cX8_cause 76 = .ok (.istore 5, 2) := dk_54 5 (dk_at dksX8_cause_3 6 rfl rfl)
theorem dX8_cause_78 : decode cX8_cause 78 = .ok (.iload 5, 2) := dk_21 5 (dk_at dksX8_cause_3 8 rfl rfl)
theorem dX8_cause_80 : decode cX8_cause 80 = .ok (.ifCond .ne 8, 3) := dk_154 0 8 (dk_at dksX8_cause_3 10 rfl rfl)
theorem dX8_cause_83 : decode cX8_cause 83 = .ok (.bipush (-99), 2) := dk_16 157 (dk_at dksX8_cause_3 13 rfl rfl)
theorem dX8_cause_85 : decode cX8_cause 85 = .ok (.goto 8, 3) := dk_167 0 8 (dk_at dksX8_cause_3 15 rfl rfl)
theorem dX8_cause_88 : decode cX8_cause 88 = .ok (.iload 5, 2) := dk_21 5 (dk_at dksX8_cause_3 18 rfl rfl)
theorem dX8_cause_90 : decode cX8_cause 90 = .ok (.invokestatic 25, 3) := dk_184 0 25 (dk_at dksX8_cause_3 20 rfl rfl)
theorem dX8_cause_93 : decode cX8_cause 93 = .ok (.ireturn, 1) := dk_172 (dk_at dksX8_cause_3 23 rfl rfl)
theorem q153 : (Jvm.Cond.initialized "EdgeSums$PlaceRule") ∈ lw_all := lw_g (lw_at lw_m1 29 rfl) rfl
theorem q742 : (Jvm.Cond.fieldLinkNest "EdgeSums$PlaceRule" (9 : Nat) "EdgeSums$Board" "page" "LEdgeSums$Page;" "EdgeSums") ∈ lw_tbl := lw_at lw_m3 138 rfl
theorem q749 : (Jvm.Cond.fieldLinkNest "EdgeSums$PlaceRule" (21 : Nat) "EdgeSums$Board" "sets" "[I" "EdgeSums") ∈ lw_tbl := lw_at lw_m3 145 rfl
theorem q931 : (Jvm.Cond.instantiable "EdgeSums$PlaceRule" (0 : Nat)) ∈ lw_all := lw_g (lw_at lw_m4 87 rfl) rfl
theorem q933 : (Jvm.Cond.instanceMethod ({ cls := "EdgeSums$PlaceRule", name := "<init>", desc := "()V" } : Jvm.MethodName)) ∈ lw_all := lw_g (lw_at lw_m4 89 rfl) rfl
theorem q934 : (Jvm.Cond.code ({ cls := "EdgeSums$PlaceRule", name := "<init>", desc := "()V" } : Jvm.MethodName) prog_17_method_1_code (1 : Nat) (Option.none : Option Jvm.ClassFile.FieldType)) ∈ lw_all := lw_g (lw_at lw_m4 90 rfl) rfl
theorem q935 : (Jvm.Cond.methodLink "EdgeSums$PlaceRule" (3 : Nat) ({ cls := "java/lang/Object", name := "<init>", desc := "()V" } : Jvm.MethodName)) ∈ lw_all := lw_g (lw_at lw_m4 91 rfl) rfl
theorem q936 : (Jvm.Cond.superclass "EdgeSums$PlaceRule" "java/lang/Object") ∈ lw_all := lw_g (lw_at lw_m4 92 rfl) rfl
theorem q1100 : (Jvm.Cond.selects "EdgeSums$PlaceRule" ({ cls := "java/lang/Object", name := "getClass", desc := "()Ljava/lang/Class;" } : Jvm.MethodName) ({ cls := "java/lang/Object", name := "getClass", desc := "()Ljava/lang/Class;" } : Jvm.MethodName)) ∈ lw_all := lw_g (lw_at lw_m5 16 rfl) rfl
theorem q1399 : (Jvm.Cond.castable "EdgeSums$PlaceRule" "EdgeSums$Rule") ∈ lw_tbl := lw_at lw_m6 75 rfl
theorem q1400 : (Jvm.Cond.selects "EdgeSums$PlaceRule" ({ cls := "EdgeSums$Rule", name := "cause", desc := "(LEdgeSums$Board;II)I" } : Jvm.MethodName) ({ cls := "EdgeSums$PlaceRule", name := "cause", desc := "(LEdgeSums$Board;II)I" } : Jvm.MethodName)) ∈ lw_all := lw_g (lw_at lw_m6 76 rfl) rfl
theorem q1401 : (Jvm.Cond.unhidden "EdgeSums$PlaceRule" "cause" "(LEdgeSums$Board;II)I") ∈ lw_tbl := lw_at lw_m6 77 rfl
theorem q1402 : (Jvm.Cond.instanceMethod ({ cls := "EdgeSums$PlaceRule", name := "cause", desc := "(LEdgeSums$Board;II)I" } : Jvm.MethodName)) ∈ lw_all := lw_g (lw_at lw_m6 78 rfl) rfl
theorem q1403 : (Jvm.Cond.publicMethod ({ cls := "EdgeSums$PlaceRule", name := "cause", desc := "(LEdgeSums$Board;II)I" } : Jvm.MethodName)) ∈ lw_tbl := lw_at lw_m6 79 rfl
theorem q1404 : (Jvm.Cond.code ({ cls := "EdgeSums$PlaceRule", name := "cause", desc := "(LEdgeSums$Board;II)I" } : Jvm.MethodName) prog_17_method_2_code (9 : Nat) (Option.some Jvm.ClassFile.FieldType.int)) ∈ lw_all := lw_g (lw_at lw_m6 80 rfl) rfl
theorem q1405 : (Jvm.Cond.methodLink "EdgeSums$PlaceRule" (15 : Nat) ({ cls := "EdgeSums$Page", name := "members", desc := "(I)[I" } : Jvm.MethodName)) ∈ lw_all := lw_g (lw_at lw_m6 81 rfl) rfl
theorem q1406 : (Jvm.Cond.methodLinkNest "EdgeSums$PlaceRule" (25 : Nat) ({ cls := "EdgeSums", name := "least", desc := "(I)I" } : Jvm.MethodName) "EdgeSums") ∈ lw_tbl := lw_at lw_m6 82 rfl
theorem q2384 : (Jvm.Cond.unhidden "EdgeSums$PlaceRule" "strikes" "(LEdgeSums$Board;II)Z") ∈ lw_tbl := lw_at lw_m10 100 rfl
theorem q2388 : (Jvm.Cond.unhidden "EdgeSums$PlaceRule" "strikes" "(LEdgeSums$Board;)I") ∈ lw_tbl := lw_at lw_m10 104 rfl
theorem q3203 : (Jvm.Cond.castable "EdgeSums$PlaceRule" "java/lang/Object") ∈ lw_tbl := lw_at lw_m13 199 rfl
/-! EdgeSums$LineRule -/
set_option maxRecDepth 100000
def RX9 : String := "EdgeSums$LineRule"
abbrev cX9_init : ByteArray := prog_12_method_1_code
def yX9_init : MethodName := ⟨RX9, "<init>", "()V"⟩
theorem dX9_init_0 : decode cX9_init 0 = .ok (.aload_n 0, 1) := by decide +kernel
theorem dX9_init_1 : decode cX9_init 1 = .ok (.invokespecial 3, 3) := by decide +kernel
theorem dX9_init_4 : decode cX9_init 4 = .ok (.return_, 1) := by decide +kernel
abbrev cX9_cause : ByteArray := prog_12_method_3_code
def yX9_cause : MethodName := ⟨RX9, "cause", "(LEdgeSums$Board;II)I"⟩
def dkwX9_cause_2 : List UInt8 := [153, 0, 8, 21, 5, 167, 0, 5, 16, 157, 172]
abbrev dktX9_cause_2 : List UInt8 := dkwX9_cause_2 ++ []
def dkwX9_cause_1 : List UInt8 := [21, 4, 28, 29, 182, 0, 21, 153, 0, 8, 21, 4, 167, 0, 22, 42, 43, 21, 5, 28, 29, 182, 0, 21]
abbrev dktX9_cause_1 : List UInt8 := dkwX9_cause_1 ++ dktX9_cause_2
def dkwX9_cause_0 : List UInt8 := [43, 180, 0, 9, 28, 4, 182, 0, 15, 54, 4, 43, 180, 0, 9, 28, 3, 182, 0, 15, 54, 5, 42, 43]
abbrev dktX9_cause_0 : List UInt8 := dkwX9_cause_0 ++ dktX9_cause_1
theorem dksX9_cause_0 : cX9_cause.data.toList.drop 0 = dktX9_cause_0 := by decide +kernel
theorem dksX9_cause_1 : cX9_cause.data.toList.drop 24 = dktX9_cause_1 := dk_seg dksX9_cause_0 24 rfl rfl
theorem dksX9_cause_2 : cX9_cause.data.toList.drop 48 = dktX9_cause_2 := dk_seg dksX9_cause_1 24 rfl rfl
theorem dX9_cause_0 : decode cX9_cause 0 = .ok (.aload_n 1, 1) := dk_43 (dk_at dksX9_cause_0 0 rfl rfl)
theorem dX9_cause_1 : decode cX9_cause 1 = .ok (.getfield 9, 3) := dk_180 0 9 (dk_at dksX9_cause_0 1 rfl rfl)
theorem dX9_cause_4 : decode cX9_cause 4 = .ok (.iload_n 2, 1) := dk_28 (dk_at dksX9_cause_0 4 rfl rfl)
theorem dX9_cause_5 : decode cX9_cause 5 = .ok (.iconst 1, 1) := dk_4 (dk_at dksX9_cause_0 5 rfl rfl)
theorem dX9_cause_6 : decode cX9_cause 6 = .ok (.invokevirtual 15, 3) := dk_182 0 15 (dk_at dksX9_cause_0 6 rfl rfl)
theorem dX9_cause_9 : decode cX9_cause 9 = .ok (.istore 4, 2) := dk_54 4 (dk_at dksX9_cause_0 9 rfl rfl)
theorem dX9_cause_11 : decode cX9_cause 11 = .ok (.aload_n 1, 1) := dk_43 (dk_at dksX9_cause_0 11 rfl rfl)
theorem dX9_cause_12 : decode cX9_cause 12 = .ok (.getfield 9, 3) := dk_180 0 9 (dk_at dksX9_cause_0 12 rfl rfl)
theorem dX9_cause_15 : decode cX9_cause 15 = .ok (.iload_n 2, 1) := dk_28 (dk_at dksX9_cause_0 15 rfl rfl)
theorem dX9_cause_16 : decode cX9_cause 16 = .ok (.iconst 0, 1) := dk_3 (dk_at dksX9_cause_0 16 rfl rfl)
theorem dX9_cause_17 : decode cX9_cause 17 = .ok (.invokevirtual 15, 3) := dk_182 0 15 (dk_at dksX9_cause_0 17 rfl rfl)
theorem dX9_cause_20 : decode cX9_cause 20 = .ok (.istore 5, 2) := dk_54 5 (dk_at dksX9_cause_0 20 rfl rfl)
theorem dX9_cause_22 : decode cX9_cause 22 = .ok (.aload_n 0, 1) := dk_42 (dk_at dksX9_cause_0 22 rfl rfl)
theorem dX9_cause_23 : decode cX9_cause 23 = .ok (.aload_n 1, 1) := dk_43 (dk_at dksX9_cause_0 23 rfl rfl)
theorem dX9_cause_24 : decode cX9_cause 24 = .ok (.iload 4, 2) := dk_21 4 (dk_at dksX9_cause_1 0 rfl rfl)
theorem dX9_cause_26 : decode cX9_cause 26 = .ok (.iload_n 2, 1) := dk_28 (dk_at dksX9_cause_1 2 rfl rfl)
theorem dX9_cause_27 : decode cX9_cause 27 = .ok (.iload_n 3, 1) := dk_29 (dk_at dksX9_cause_1 3 rfl rfl)
theorem dX9_cause_28 : decode cX9_cause 28 = .ok (.invokevirtual 21, 3) := dk_182 0 21 (dk_at dksX9_cause_1 4 rfl rfl)
theorem dX9_cause_31 : decode cX9_cause 31 = .ok (.ifCond .eq 8, 3) := dk_153 0 8 (dk_at dksX9_cause_1 7 rfl rfl)
theorem dX9_cause_34 : decode cX9_cause 34 = .ok (.iload 4, 2) := dk_21 4 (dk_at dksX9_cause_1 10 rfl rfl)
theorem dX9_cause_36 : decode cX9_cause 36 = .ok (.goto 22, 3) := dk_167 0 22 (dk_at dksX9_cause_1 12 rfl rfl)
theorem dX9_cause_39 : decode cX9_cause 39 = .ok (.aload_n 0, 1) := dk_42 (dk_at dksX9_cause_1 15 rfl rfl)
theorem dX9_cause_40 : decode cX9_cause 40 = .ok (.aload_n 1, 1) := dk_43 (dk_at dksX9_cause_1 16 rfl rfl)
theorem dX9_cause_41 : decode cX9_cause 41 = .ok (.iload 5, 2) := dk_21 5 (dk_at dksX9_cause_1 17 rfl rfl)
theorem dX9_cause_43 : decode cX9_cause 43 = .ok (.iload_n 2, 1) := dk_28 (dk_at dksX9_cause_1 19 rfl rfl)
theorem dX9_cause_44 : decode cX9_cause 44 = .ok (.iload_n 3, 1) := dk_29 (dk_at dksX9_cause_1 20 rfl rfl)
theorem dX9_cause_45 : decode cX9_cause 45 = .ok (.invokevirtual 21, 3) := dk_182 0 21 (dk_at dksX9_cause_1 21 rfl rfl)
theorem dX9_cause_48 : decode cX9_cause 48 = .ok (.ifCond .eq 8, 3) := dk_153 0 8 (dk_at dksX9_cause_2 0 rfl rfl)
theorem dX9_cause_51 : decode cX9_cause 51 = .ok (.iload 5, 2) := dk_21 5 (dk_at dksX9_cause_2 3 rfl rfl)
theorem dX9_cause_53 : decode cX9_cause 53 = .ok (.goto 5, 3) := dk_167 0 5 (dk_at dksX9_cause_2 5 rfl rfl)
theorem dX9_cause_56 : decode cX9_cause 56 = .ok (.bipush (-99), 2) := dk_16 157 (dk_at dksX9_cause_2 8 rfl rfl)
theorem dX9_cause_58 : decode cX9_cause 58 = .ok (.ireturn, 1) := dk_172 (dk_at dksX9_cause_2 10 rfl rfl)
abbrev cX9_isAgainstLine : ByteArray := prog_12_method_4_code
def yX9_isAgainstLine : MethodName := ⟨RX9, "isAgainstLine", "(LEdgeSums$Board;III)Z"⟩
def dkwX9_isAgainstLine_1 : List UInt8 := [28, 29, 182, 0, 35, 182, 0, 39, 153, 0, 7, 4, 167, 0, 4, 3, 172]
abbrev dktX9_isAgainstLine_1 : List UInt8 := dkwX9_isAgainstLine_1 ++ []
def dkwX9_isAgainstLine_0 : List UInt8 := [43, 180, 0, 9, 180, 0, 27, 28, 51, 153, 0, 30, 42, 43, 180, 0, 9, 28, 182, 0, 31, 21, 4, 43]
abbrev dktX9_isAgainstLine_0 : List UInt8 := dkwX9_isAgainstLine_0 ++ dktX9_isAgainstLine_1
theorem dksX9_isAgainstLine_0 : cX9_isAgainstLine.data.toList.drop 0 = dktX9_isAgainstLine_0 := by decide +kernel
theorem dksX9_isAgainstLine_1 : cX9_isAgainstLine.data.toList.drop 24 = dktX9_isAgainstLine_1 := dk_seg dksX9_isAgainstLine_0 24 rfl rfl
theorem dX9_isAgainstLine_0 : decode cX9_isAgainstLine 0 = .ok (.aload_n 1, 1) := dk_43 (dk_at dksX9_isAgainstLine_0 0 rfl rfl)
theorem dX9_isAgainstLine_1 : decode cX9_isAgainstLine 1 = .ok (.getfield 9, 3) := dk_180 0 9 (dk_at dksX9_isAgainstLine_0 1 rfl rfl)
theorem dX9_isAgainstLine_4 : decode cX9_isAgainstLine 4 = .ok (.getfield 27, 3) := dk_180 0 27 (dk_at dksX9_isAgainstLine_0 4 rfl rfl)
theorem dX9_isAgainstLine_7 : decode cX9_isAgainstLine 7 = .ok (.iload_n 2, 1) := dk_28 (dk_at dksX9_isAgainstLine_0 7 rfl rfl)
theorem dX9_isAgainstLine_8 : decode cX9_isAgainstLine 8 = .ok (.baload, 1) := dk_51 (dk_at dksX9_isAgainstLine_0 8 rfl rfl)
theorem dX9_isAgainstLine_9 : decode cX9_isAgainstLine 9 = .ok (.ifCond .eq 30, 3) := dk_153 0 30 (dk_at dksX9_isAgainstLine_0 9 rfl rfl)
theorem dX9_isAgainstLine_12 : decode cX9_isAgainstLine 12 = .ok (.aload_n 0, 1) := dk_42 (dk_at dksX9_isAgainstLine_0 12 rfl rfl)
theorem dX9_isAgainstLine_13 : decode cX9_isAgainstLine 13 = .ok (.aload_n 1, 1) := dk_43 (dk_at dksX9_isAgainstLine_0 13 rfl rfl)
theorem dX9_isAgainstLine_14 : decode cX9_isAgainstLine 14 = .ok (.getfield 9, 3) := dk_180 0 9 (dk_at dksX9_isAgainstLine_0 14 rfl rfl)
theorem dX9_isAgainstLine_17 : decode cX9_isAgainstLine 17 = .ok (.iload_n 2, 1) := dk_28 (dk_at dksX9_isAgainstLine_0 17 rfl rfl)
theorem dX9_isAgainstLine_18 : decode cX9_isAgainstLine 18 = .ok (.invokevirtual 31, 3) := dk_182 0 31 (dk_at dksX9_isAgainstLine_0 18 rfl rfl)
theorem dX9_isAgainstLine_21 : decode cX9_isAgainstLine 21 = .ok (.iload 4, 2) := dk_21 4 (dk_at dksX9_isAgainstLine_0 21 rfl rfl)
theorem dX9_isAgainstLine_23 : decode cX9_isAgainstLine 23 = .ok (.aload_n 1, 1) := dk_43 (dk_at dksX9_isAgainstLine_0 23 rfl rfl)
theorem dX9_isAgainstLine_24 : decode cX9_isAgainstLine 24 = .ok (.iload_n 2, 1) := dk_28 (dk_at dksX9_isAgainstLine_1 0 rfl rfl)
theorem dX9_isAgainstLine_25 : decode cX9_isAgainstLine 25 = .ok (.iload_n 3, 1) := dk_29 (dk_at dksX9_isAgainstLine_1 1 rfl rfl)
theorem dX9_isAgainstLine_26 : decode cX9_isAgainstLine 26 = .ok (.invokevirtual 35, 3) := dk_182 0 35 (dk_at dksX9_isAgainstLine_1 2 rfl rfl)
theorem dX9_isAgainstLine_29 : decode cX9_isAgainstLine 29 = .ok (.invokevirtual 39, 3) := dk_182 0 39 (dk_at dksX9_isAgainstLine_1 5 rfl rfl)
theorem dX9_isAgainstLine_32 : decode cX9_isAgainstLine 32 = .ok (.ifCond .eq 7, 3) := dk_153 0 7 (dk_at dksX9_isAgainstLine_1 8 rfl rfl)
theorem dX9_isAgainstLine_35 : decode cX9_isAgainstLine 35 = .ok (.iconst 1, 1) := dk_4 (dk_at dksX9_isAgainstLine_1 11 rfl rfl)
theorem dX9_isAgainstLine_36 : decode cX9_isAgainstLine 36 = .ok (.goto 4, 3) := dk_167 0 4 (dk_at dksX9_isAgainstLine_1 12 rfl rfl)
theorem dX9_isAgainstLine_39 : decode cX9_isAgainstLine 39 = .ok (.iconst 0, 1) := dk_3 (dk_at dksX9_isAgainstLine_1 15 rfl rfl)
theorem dX9_isAgainstLine_40 : decode cX9_isAgainstLine 40 = .ok (.ireturn, 1) := dk_172 (dk_at dksX9_isAgainstLine_1 16 rfl rfl)
theorem q154 : (Jvm.Cond.initialized "EdgeSums$LineRule") ∈ lw_all := lw_g (lw_at lw_m1 30 rfl) rfl
theorem q701 : (Jvm.Cond.fieldLinkNest "EdgeSums$LineRule" (27 : Nat) "EdgeSums$Page" "shown" "[Z" "EdgeSums") ∈ lw_tbl := lw_at lw_m3 97 rfl
theorem q743 : (Jvm.Cond.fieldLinkNest "EdgeSums$LineRule" (9 : Nat) "EdgeSums$Board" "page" "LEdgeSums$Page;" "EdgeSums") ∈ lw_tbl := lw_at lw_m3 139 rfl
theorem q943 : (Jvm.Cond.instanceMethod ({ cls := "EdgeSums$LineRule", name := "<init>", desc := "()V" } : Jvm.MethodName)) ∈ lw_all := lw_g (lw_at lw_m4 99 rfl) rfl
theorem q944 : (Jvm.Cond.code ({ cls := "EdgeSums$LineRule", name := "<init>", desc := "()V" } : Jvm.MethodName) prog_12_method_1_code (1 : Nat) (Option.none : Option Jvm.ClassFile.FieldType)) ∈ lw_all := lw_g (lw_at lw_m4 100 rfl) rfl
theorem q945 : (Jvm.Cond.methodLink "EdgeSums$LineRule" (3 : Nat) ({ cls := "java/lang/Object", name := "<init>", desc := "()V" } : Jvm.MethodName)) ∈ lw_all := lw_g (lw_at lw_m4 101 rfl) rfl
theorem q1349 : (Jvm.Cond.instanceMethod ({ cls := "EdgeSums$LineRule", name := "cause", desc := "(LEdgeSums$Board;II)I" } : Jvm.MethodName)) ∈ lw_all := lw_g (lw_at lw_m6 25 rfl) rfl
theorem q1350 : (Jvm.Cond.publicMethod ({ cls := "EdgeSums$LineRule", name := "cause", desc := "(LEdgeSums$Board;II)I" } : Jvm.MethodName)) ∈ lw_tbl := lw_at lw_m6 26 rfl
theorem q1351 : (Jvm.Cond.code ({ cls := "EdgeSums$LineRule", name := "cause", desc := "(LEdgeSums$Board;II)I" } : Jvm.MethodName) prog_12_method_3_code (6 : Nat) (Option.some Jvm.ClassFile.FieldType.int)) ∈ lw_all := lw_g (lw_at lw_m6 27 rfl) rfl
theorem q1352 : (Jvm.Cond.methodLink "EdgeSums$LineRule" (15 : Nat) ({ cls := "EdgeSums$Page", name := "lineOf", desc := "(IZ)I" } : Jvm.MethodName)) ∈ lw_all := lw_g (lw_at lw_m6 28 rfl) rfl
theorem q1353 : (Jvm.Cond.methodLink "EdgeSums$LineRule" (21 : Nat) ({ cls := "EdgeSums$LineRule", name := "isAgainstLine", desc := "(LEdgeSums$Board;III)Z" } : Jvm.MethodName)) ∈ lw_all := lw_g (lw_at lw_m6 29 rfl) rfl
theorem q1354 : (Jvm.Cond.privateMethod ({ cls := "EdgeSums$LineRule", name := "isAgainstLine", desc := "(LEdgeSums$Board;III)Z" } : Jvm.MethodName)) ∈ lw_tbl := lw_at lw_m6 30 rfl
theorem q1355 : (Jvm.Cond.instanceMethod ({ cls := "EdgeSums$LineRule", name := "isAgainstLine", desc := "(LEdgeSums$Board;III)Z" } : Jvm.MethodName)) ∈ lw_all := lw_g (lw_at lw_m6 31 rfl) rfl
theorem q1356 : (Jvm.Cond.code ({ cls := "EdgeSums$LineRule", name := "isAgainstLine", desc := "(LEdgeSums$Board;III)Z" } : Jvm.MethodName) prog_12_method_4_code (5 : Nat) (Option.some Jvm.ClassFile.FieldType.boolean)) ∈ lw_all := lw_g (lw_at lw_m6 32 rfl) rfl
theorem q1357 : (Jvm.Cond.methodLink "EdgeSums$LineRule" (31 : Nat) ({ cls := "EdgeSums$Page", name := "sum", desc := "(I)I" } : Jvm.MethodName)) ∈ lw_all := lw_g (lw_at lw_m6 33 rfl) rfl
theorem q1361 : (Jvm.Cond.methodLink "EdgeSums$LineRule" (35 : Nat) ({ cls := "EdgeSums$Board", name := "sums", desc := "(II)I" } : Jvm.MethodName)) ∈ lw_all := lw_g (lw_at lw_m6 37 rfl) rfl
theorem q1371 : (Jvm.Cond.methodLink "EdgeSums$LineRule" (39 : Nat) ({ cls := "EdgeSums$LineRule", name := "isAgainst", desc := "(III)Z" } : Jvm.MethodName)) ∈ lw_all := lw_g (lw_at lw_m6 47 rfl) rfl
theorem q1372 : (Jvm.Cond.declares ({ cls := "EdgeSums$LineRule", name := "isAgainst", desc := "(III)Z" } : Jvm.MethodName)) ∈ lw_tbl := lw_at lw_m6 48 rfl
theorem q1373 : (Jvm.Cond.sameMethod "EdgeSums$LineRule" "EdgeSums$LineRule" "isAgainst" "(III)Z") ∈ lw_all := lw_g (lw_at lw_m6 49 rfl) rfl
theorem q3172 : (Jvm.Cond.sameMethod "EdgeSums$LineRule" "EdgeSums$LineRule" "isAgainstLine" "(LEdgeSums$Board;III)Z") ∈ lw_all := lw_g (lw_at lw_m13 168 rfl) rfl
/-! EdgeSums$BoundsRule -/
set_option maxRecDepth 100000
def RX10 : String := "EdgeSums$BoundsRule"
abbrev cX10_init : ByteArray := prog_4_method_1_code
def yX10_init : MethodName := ⟨RX10, "<init>", "()V"⟩
theorem dX10_init_0 : decode cX10_init 0 = .ok (.aload_n 0, 1) := by decide +kernel
theorem dX10_init_1 : decode cX10_init 1 = .ok (.invokespecial 1, 3) := by decide +kernel
theorem dX10_init_4 : decode cX10_init 4 = .ok (.return_, 1) := by decide +kernel
abbrev cX10_isAgainst : ByteArray := prog_4_method_2_code
def yX10_isAgainst : MethodName := ⟨RX10, "isAgainst", "(III)Z"⟩
def dkwX10_isAgainst_0 : List UInt8 := [27, 28, 100, 29, 184, 0, 7, 29, 184, 0, 13, 184, 0, 16, 154, 0, 7, 4, 167, 0, 4, 3, 172]
abbrev dktX10_isAgainst_0 : List UInt8 := dkwX10_isAgainst_0 ++ []
theorem dksX10_isAgainst_0 : cX10_isAgainst.data.toList.drop 0 = dktX10_isAgainst_0 := by decide +kernel
theorem dX10_isAgainst_0 : decode cX10_isAgainst 0 = .ok (.iload_n 1, 1) := dk_27 (dk_at dksX10_isAgainst_0 0 rfl rfl)
theorem dX10_isAgainst_1 : decode cX10_isAgainst 1 = .ok (.iload_n 2, 1) := dk_28 (dk_at dksX10_isAgainst_0 1 rfl rfl)
theorem dX10_isAgainst_2 : decode cX10_isAgainst 2 = .ok (.isub, 1) := dk_100 (dk_at dksX10_isAgainst_0 2 rfl rfl)
theorem dX10_isAgainst_3 : decode cX10_isAgainst 3 = .ok (.iload_n 3, 1) := dk_29 (dk_at dksX10_isAgainst_0 3 rfl rfl)
theorem dX10_isAgainst_4 : decode cX10_isAgainst 4 = .ok (.invokestatic 7, 3) := dk_184 0 7 (dk_at dksX10_isAgainst_0 4 rfl rfl)
theorem dX10_isAgainst_7 : decode cX10_isAgainst 7 = .ok (.iload_n 3, 1) := dk_29 (dk_at dksX10_isAgainst_0 7 rfl rfl)
theorem dX10_isAgainst_8 : decode cX10_isAgainst 8 = .ok (.invokestatic 13, 3) := dk_184 0 13 (dk_at dksX10_isAgainst_0 8 rfl rfl)
theorem dX10_isAgainst_11 : decode cX10_isAgainst 11 = .ok (.invokestatic 16, 3) := dk_184 0 16 (dk_at dksX10_isAgainst_0 11 rfl rfl)
theorem dX10_isAgainst_14 : decode cX10_isAgainst 14 = .ok (.ifCond .ne 7, 3) := dk_154 0 7 (dk_at dksX10_isAgainst_0 14 rfl rfl)
theorem dX10_isAgainst_17 : decode cX10_isAgainst 17 = .ok (.iconst 1, 1) := dk_4 (dk_at dksX10_isAgainst_0 17 rfl rfl)
theorem dX10_isAgainst_18 : decode cX10_isAgainst 18 = .ok (.goto 4, 3) := dk_167 0 4 (dk_at dksX10_isAgainst_0 18 rfl rfl)
theorem dX10_isAgainst_21 : decode cX10_isAgainst 21 = .ok (.iconst 0, 1) := dk_3 (dk_at dksX10_isAgainst_0 21 rfl rfl)
theorem dX10_isAgainst_22 : decode cX10_isAgainst 22 = .ok (.ireturn, 1) := dk_172 (dk_at dksX10_isAgainst_0 22 rfl rfl)
theorem q155 : (Jvm.Cond.initialized "EdgeSums$BoundsRule") ∈ lw_all := lw_g (lw_at lw_m1 31 rfl) rfl
theorem q938 : (Jvm.Cond.instantiable "EdgeSums$BoundsRule" (0 : Nat)) ∈ lw_all := lw_g (lw_at lw_m4 94 rfl) rfl
theorem q940 : (Jvm.Cond.instanceMethod ({ cls := "EdgeSums$BoundsRule", name := "<init>", desc := "()V" } : Jvm.MethodName)) ∈ lw_all := lw_g (lw_at lw_m4 96 rfl) rfl
theorem q941 : (Jvm.Cond.code ({ cls := "EdgeSums$BoundsRule", name := "<init>", desc := "()V" } : Jvm.MethodName) prog_4_method_1_code (1 : Nat) (Option.none : Option Jvm.ClassFile.FieldType)) ∈ lw_all := lw_g (lw_at lw_m4 97 rfl) rfl
theorem q942 : (Jvm.Cond.methodLinkNest "EdgeSums$BoundsRule" (1 : Nat) ({ cls := "EdgeSums$LineRule", name := "<init>", desc := "()V" } : Jvm.MethodName) "EdgeSums") ∈ lw_tbl := lw_at lw_m4 98 rfl
theorem q946 : (Jvm.Cond.superclass "EdgeSums$BoundsRule" "EdgeSums$LineRule") ∈ lw_all := lw_g (lw_at lw_m4 102 rfl) rfl
theorem q1089 : (Jvm.Cond.selects "EdgeSums$BoundsRule" ({ cls := "java/lang/Object", name := "getClass", desc := "()Ljava/lang/Class;" } : Jvm.MethodName) ({ cls := "java/lang/Object", name := "getClass", desc := "()Ljava/lang/Class;" } : Jvm.MethodName)) ∈ lw_all := lw_g (lw_at lw_m5 5 rfl) rfl
theorem q1346 : (Jvm.Cond.castable "EdgeSums$BoundsRule" "EdgeSums$Rule") ∈ lw_tbl := lw_at lw_m6 22 rfl
theorem q1347 : (Jvm.Cond.selects "EdgeSums$BoundsRule" ({ cls := "EdgeSums$Rule", name := "cause", desc := "(LEdgeSums$Board;II)I" } : Jvm.MethodName) ({ cls := "EdgeSums$LineRule", name := "cause", desc := "(LEdgeSums$Board;II)I" } : Jvm.MethodName)) ∈ lw_all := lw_g (lw_at lw_m6 23 rfl) rfl
theorem q1348 : (Jvm.Cond.unhidden "EdgeSums$BoundsRule" "cause" "(LEdgeSums$Board;II)I") ∈ lw_tbl := lw_at lw_m6 24 rfl
theorem q1374 : (Jvm.Cond.selects "EdgeSums$BoundsRule" ({ cls := "EdgeSums$LineRule", name := "isAgainst", desc := "(III)Z" } : Jvm.MethodName) ({ cls := "EdgeSums$BoundsRule", name := "isAgainst", desc := "(III)Z" } : Jvm.MethodName)) ∈ lw_all := lw_g (lw_at lw_m6 50 rfl) rfl
theorem q1375 : (Jvm.Cond.instanceMethod ({ cls := "EdgeSums$BoundsRule", name := "isAgainst", desc := "(III)Z" } : Jvm.MethodName)) ∈ lw_all := lw_g (lw_at lw_m6 51 rfl) rfl
theorem q1376 : (Jvm.Cond.code ({ cls := "EdgeSums$BoundsRule", name := "isAgainst", desc := "(III)Z" } : Jvm.MethodName) prog_4_method_2_code (4 : Nat) (Option.some Jvm.ClassFile.FieldType.boolean)) ∈ lw_all := lw_g (lw_at lw_m6 52 rfl) rfl
theorem q1377 : (Jvm.Cond.methodLinkNest "EdgeSums$BoundsRule" (7 : Nat) ({ cls := "EdgeSums", name := "least", desc := "(I)I" } : Jvm.MethodName) "EdgeSums") ∈ lw_tbl := lw_at lw_m6 53 rfl
theorem q1378 : (Jvm.Cond.methodLinkNest "EdgeSums$BoundsRule" (13 : Nat) ({ cls := "EdgeSums", name := "greatest", desc := "(I)I" } : Jvm.MethodName) "EdgeSums") ∈ lw_tbl := lw_at lw_m6 54 rfl
theorem q1382 : (Jvm.Cond.methodLinkNest "EdgeSums$BoundsRule" (16 : Nat) ({ cls := "EdgeSums", name := "isBetween", desc := "(III)Z" } : Jvm.MethodName) "EdgeSums") ∈ lw_tbl := lw_at lw_m6 58 rfl
theorem q2364 : (Jvm.Cond.unhidden "EdgeSums$BoundsRule" "strikes" "(LEdgeSums$Board;)I") ∈ lw_tbl := lw_at lw_m10 80 rfl
theorem q2376 : (Jvm.Cond.unhidden "EdgeSums$BoundsRule" "strikes" "(LEdgeSums$Board;II)Z") ∈ lw_tbl := lw_at lw_m10 92 rfl
theorem q3204 : (Jvm.Cond.castable "EdgeSums$BoundsRule" "java/lang/Object") ∈ lw_tbl := lw_at lw_m13 200 rfl
/-! EdgeSums$ChoiceRule -/
set_option maxRecDepth 100000
def RX11 : String := "EdgeSums$ChoiceRule"
abbrev cX11_init : ByteArray := prog_7_method_1_code
def yX11_init : MethodName := ⟨RX11, "<init>", "()V"⟩
theorem dX11_init_0 : decode cX11_init 0 = .ok (.aload_n 0, 1) := by decide +kernel
theorem dX11_init_1 : decode cX11_init 1 = .ok (.invokespecial 1, 3) := by decide +kernel
theorem dX11_init_4 : decode cX11_init 4 = .ok (.return_, 1) := by decide +kernel
abbrev cX11_isAgainst : ByteArray := prog_7_method_2_code
def yX11_isAgainst : MethodName := ⟨RX11, "isAgainst", "(III)Z"⟩
def dkwX11_isAgainst_0 : List UInt8 := [27, 28, 161, 0, 13, 29, 27, 28, 100, 184, 0, 7, 154, 0, 7, 4, 167, 0, 4, 3, 172]
abbrev dktX11_isAgainst_0 : List UInt8 := dkwX11_isAgainst_0 ++ []
theorem dksX11_isAgainst_0 : cX11_isAgainst.data.toList.drop 0 = dktX11_isAgainst_0 := by decide +kernel
theorem dX11_isAgainst_0 : decode cX11_isAgainst 0 = .ok (.iload_n 1, 1) := dk_27 (dk_at dksX11_isAgainst_0 0 rfl rfl)
theorem dX11_isAgainst_1 : decode cX11_isAgainst 1 = .ok (.iload_n 2, 1) := dk_28 (dk_at dksX11_isAgainst_0 1 rfl rfl)
theorem dX11_isAgainst_2 : decode cX11_isAgainst 2 = .ok (.if_icmp .lt 13, 3) := dk_161 0 13 (dk_at dksX11_isAgainst_0 2 rfl rfl)
theorem dX11_isAgainst_5 : decode cX11_isAgainst 5 = .ok (.iload_n 3, 1) := dk_29 (dk_at dksX11_isAgainst_0 5 rfl rfl)
theorem dX11_isAgainst_6 : decode cX11_isAgainst 6 = .ok (.iload_n 1, 1) := dk_27 (dk_at dksX11_isAgainst_0 6 rfl rfl)
theorem dX11_isAgainst_7 : decode cX11_isAgainst 7 = .ok (.iload_n 2, 1) := dk_28 (dk_at dksX11_isAgainst_0 7 rfl rfl)
theorem dX11_isAgainst_8 : decode cX11_isAgainst 8 = .ok (.isub, 1) := dk_100 (dk_at dksX11_isAgainst_0 8 rfl rfl)
theorem dX11_isAgainst_9 : decode cX11_isAgainst 9 = .ok (.invokestatic 7, 3) := dk_184 0 7 (dk_at dksX11_isAgainst_0 9 rfl rfl)
theorem dX11_isAgainst_12 : decode cX11_isAgainst 12 = .ok (.ifCond .ne 7, 3) := dk_154 0 7 (dk_at dksX11_isAgainst_0 12 rfl rfl)
theorem dX11_isAgainst_15 : decode cX11_isAgainst 15 = .ok (.iconst 1, 1) := dk_4 (dk_at dksX11_isAgainst_0 15 rfl rfl)
theorem dX11_isAgainst_16 : decode cX11_isAgainst 16 = .ok (.goto 4, 3) := dk_167 0 4 (dk_at dksX11_isAgainst_0 16 rfl rfl)
theorem dX11_isAgainst_19 : decode cX11_isAgainst 19 = .ok (.iconst 0, 1) := dk_3 (dk_at dksX11_isAgainst_0 19 rfl rfl)
theorem dX11_isAgainst_20 : decode cX11_isAgainst 20 = .ok (.ireturn, 1) := dk_172 (dk_at dksX11_isAgainst_0 20 rfl rfl)
theorem q156 : (Jvm.Cond.initialized "EdgeSums$ChoiceRule") ∈ lw_all := lw_g (lw_at lw_m1 32 rfl) rfl
theorem q948 : (Jvm.Cond.instantiable "EdgeSums$ChoiceRule" (0 : Nat)) ∈ lw_all := lw_g (lw_at lw_m4 104 rfl) rfl
theorem q950 : (Jvm.Cond.instanceMethod ({ cls := "EdgeSums$ChoiceRule", name := "<init>", desc := "()V" } : Jvm.MethodName)) ∈ lw_all := lw_g (lw_at lw_m4 106 rfl) rfl
theorem q951 : (Jvm.Cond.code ({ cls := "EdgeSums$ChoiceRule", name := "<init>", desc := "()V" } : Jvm.MethodName) prog_7_method_1_code (1 : Nat) (Option.none : Option Jvm.ClassFile.FieldType)) ∈ lw_all := lw_g (lw_at lw_m4 107 rfl) rfl
theorem q952 : (Jvm.Cond.methodLinkNest "EdgeSums$ChoiceRule" (1 : Nat) ({ cls := "EdgeSums$LineRule", name := "<init>", desc := "()V" } : Jvm.MethodName) "EdgeSums") ∈ lw_tbl := lw_at lw_m4 108 rfl
theorem q953 : (Jvm.Cond.superclass "EdgeSums$ChoiceRule" "EdgeSums$LineRule") ∈ lw_all := lw_g (lw_at lw_m4 109 rfl) rfl
theorem q1092 : (Jvm.Cond.selects "EdgeSums$ChoiceRule" ({ cls := "java/lang/Object", name := "getClass", desc := "()Ljava/lang/Class;" } : Jvm.MethodName) ({ cls := "java/lang/Object", name := "getClass", desc := "()Ljava/lang/Class;" } : Jvm.MethodName)) ∈ lw_all := lw_g (lw_at lw_m5 8 rfl) rfl
theorem q1383 : (Jvm.Cond.selects "EdgeSums$ChoiceRule" ({ cls := "EdgeSums$LineRule", name := "isAgainst", desc := "(III)Z" } : Jvm.MethodName) ({ cls := "EdgeSums$ChoiceRule", name := "isAgainst", desc := "(III)Z" } : Jvm.MethodName)) ∈ lw_all := lw_g (lw_at lw_m6 59 rfl) rfl
theorem q1384 : (Jvm.Cond.instanceMethod ({ cls := "EdgeSums$ChoiceRule", name := "isAgainst", desc := "(III)Z" } : Jvm.MethodName)) ∈ lw_all := lw_g (lw_at lw_m6 60 rfl) rfl
theorem q1385 : (Jvm.Cond.code ({ cls := "EdgeSums$ChoiceRule", name := "isAgainst", desc := "(III)Z" } : Jvm.MethodName) prog_7_method_2_code (4 : Nat) (Option.some Jvm.ClassFile.FieldType.boolean)) ∈ lw_all := lw_g (lw_at lw_m6 61 rfl) rfl
theorem q1386 : (Jvm.Cond.methodLinkNest "EdgeSums$ChoiceRule" (7 : Nat) ({ cls := "EdgeSums", name := "has", desc := "(II)Z" } : Jvm.MethodName) "EdgeSums") ∈ lw_tbl := lw_at lw_m6 62 rfl
theorem q1387 : (Jvm.Cond.castable "EdgeSums$ChoiceRule" "EdgeSums$Rule") ∈ lw_tbl := lw_at lw_m6 63 rfl
theorem q1388 : (Jvm.Cond.selects "EdgeSums$ChoiceRule" ({ cls := "EdgeSums$Rule", name := "cause", desc := "(LEdgeSums$Board;II)I" } : Jvm.MethodName) ({ cls := "EdgeSums$LineRule", name := "cause", desc := "(LEdgeSums$Board;II)I" } : Jvm.MethodName)) ∈ lw_all := lw_g (lw_at lw_m6 64 rfl) rfl
theorem q1389 : (Jvm.Cond.unhidden "EdgeSums$ChoiceRule" "cause" "(LEdgeSums$Board;II)I") ∈ lw_tbl := lw_at lw_m6 65 rfl
theorem q2382 : (Jvm.Cond.unhidden "EdgeSums$ChoiceRule" "strikes" "(LEdgeSums$Board;II)Z") ∈ lw_tbl := lw_at lw_m10 98 rfl
theorem q2386 : (Jvm.Cond.unhidden "EdgeSums$ChoiceRule" "strikes" "(LEdgeSums$Board;)I") ∈ lw_tbl := lw_at lw_m10 102 rfl
theorem q3205 : (Jvm.Cond.castable "EdgeSums$ChoiceRule" "java/lang/Object") ∈ lw_tbl := lw_at lw_m13 201 rfl
/-! EdgeSums$PairRule -/
set_option maxRecDepth 100000
def RX12 : String := "EdgeSums$PairRule"
abbrev cX12_init : ByteArray := prog_15_method_1_code
def yX12_init : MethodName := ⟨RX12, "<init>", "()V"⟩
theorem dX12_init_0 : decode cX12_init 0 = .ok (.aload_n 0, 1) := by decide +kernel
theorem dX12_init_1 : decode cX12_init 1 = .ok (.invokespecial 3, 3) := by decide +kernel
theorem dX12_init_4 : decode cX12_init 4 = .ok (.return_, 1) := by decide +kernel
abbrev cX12_cause : ByteArray := prog_15_method_2_code
def yX12_cause : MethodName := ⟨RX12, "cause", "(LEdgeSums$Board;II)I"⟩
def dkwX12_cause_6 : List UInt8 := [132, 7, 1, 167, 255, 136, 16, 157, 172]
abbrev dktX12_cause_6 : List UInt8 := dkwX12_cause_6 ++ []
def dkwX12_cause_5 : List UInt8 := [160, 0, 16, 43, 21, 8, 29, 182, 0, 29, 153, 0, 6, 21, 8, 172, 132, 11, 1, 167, 255, 168]
abbrev dktX12_cause_5 : List UInt8 := dkwX12_cause_5 ++ dktX12_cause_6
def dkwX12_cause_4 : List UInt8 := [160, 0, 7, 4, 167, 0, 4, 3, 54, 13, 21, 13, 153, 0, 26, 43, 21, 8, 182, 0, 25, 5]
abbrev dktX12_cause_4 : List UInt8 := dkwX12_cause_4 ++ dktX12_cause_5
def dkwX12_cause_3 : List UInt8 := [159, 0, 30, 21, 12, 28, 159, 0, 24, 43, 180, 0, 21, 21, 8, 46, 43, 180, 0, 21, 21, 12, 46]
abbrev dktX12_cause_3 : List UInt8 := dkwX12_cause_3 ++ dktX12_cause_4
def dkwX12_cause_2 : List UInt8 := [21, 11, 21, 10, 162, 0, 87, 25, 9, 21, 11, 46, 54, 12, 21, 8, 21, 12, 162, 0, 36, 21, 8, 28]
abbrev dktX12_cause_2 : List UInt8 := dkwX12_cause_2 ++ dktX12_cause_3
def dkwX12_cause_1 : List UInt8 := [21, 6, 162, 0, 119, 25, 5, 21, 7, 46, 54, 8, 25, 4, 58, 9, 25, 9, 190, 54, 10, 3, 54, 11]
abbrev dktX12_cause_1 : List UInt8 := dkwX12_cause_1 ++ dktX12_cause_2
def dkwX12_cause_0 : List UInt8 := [43, 180, 0, 9, 28, 182, 0, 15, 58, 4, 25, 4, 58, 5, 25, 5, 190, 54, 6, 3, 54, 7, 21, 7]
abbrev dktX12_cause_0 : List UInt8 := dkwX12_cause_0 ++ dktX12_cause_1
theorem dksX12_cause_0 : cX12_cause.data.toList.drop 0 = dktX12_cause_0 := by decide +kernel
theorem dksX12_cause_1 : cX12_cause.data.toList.drop 24 = dktX12_cause_1 := dk_seg dksX12_cause_0 24 rfl rfl
theorem dksX12_cause_2 : cX12_cause.data.toList.drop 48 = dktX12_cause_2 := dk_seg dksX12_cause_1 24 rfl rfl
theorem dksX12_cause_3 : cX12_cause.data.toList.drop 72 = dktX12_cause_3 := dk_seg dksX12_cause_2 24 rfl rfl
theorem dksX12_cause_4 : cX12_cause.data.toList.drop 95 = dktX12_cause_4 := dk_seg dksX12_cause_3 23 rfl rfl
theorem dksX12_cause_5 : cX12_cause.data.toList.drop 117 = dktX12_cause_5 := dk_seg dksX12_cause_4 22 rfl rfl
theorem dksX12_cause_6 : cX12_cause.data.toList.drop 139 = dktX12_cause_6 := dk_seg dksX12_cause_5 22 rfl rfl
theorem dX12_cause_0 : decode cX12_cause 0 = .ok (.aload_n 1, 1) := dk_43 (dk_at dksX12_cause_0 0 rfl rfl)
theorem dX12_cause_1 : decode cX12_cause 1 = .ok (.getfield 9, 3) := dk_180 0 9 (dk_at dksX12_cause_0 1 rfl rfl)
theorem dX12_cause_4 : decode cX12_cause 4 = .ok (.iload_n 2, 1) := dk_28 (dk_at dksX12_cause_0 4 rfl rfl)
theorem dX12_cause_5 : decode cX12_cause 5 = .ok (.invokevirtual 15, 3) := dk_182 0 15 (dk_at dksX12_cause_0 5 rfl rfl)
theorem dX12_cause_8 : decode cX12_cause 8 = .ok (.astore 4, 2) := dk_58 4 (dk_at dksX12_cause_0 8 rfl rfl)
theorem dX12_cause_10 : decode cX12_cause 10 = .ok (.aload 4, 2) := dk_25 4 (dk_at dksX12_cause_0 10 rfl rfl)
theorem dX12_cause_12 : decode cX12_cause 12 = .ok (.astore 5, 2) := dk_58 5 (dk_at dksX12_cause_0 12 rfl rfl)
theorem dX12_cause_14 : decode cX12_cause 14 = .ok (.aload 5, 2) := dk_25 5 (dk_at dksX12_cause_0 14 rfl rfl)
theorem dX12_cause_16 : decode cX12_cause 16 = .ok (.arraylength, 1) := dk_190 (dk_at dksX12_cause_0 16 rfl rfl)
theorem dX12_cause_17 : decode cX12_cause 17 = .ok (.istore 6, 2) := dk_54 6 (dk_at dksX12_cause_0 17 rfl rfl)
theorem dX12_cause_19 : decode cX12_cause 19 = .ok (.iconst 0, 1) := dk_3 (dk_at dksX12_cause_0 19 rfl rfl)
theorem dX12_cause_20 : decode cX12_cause 20 = .ok (.istore 7, 2) := dk_54 7 (dk_at dksX12_cause_0 20 rfl rfl)
theorem dX12_cause_22 : decode cX12_cause 22 = .ok (.iload 7, 2) := dk_21 7 (dk_at dksX12_cause_0 22 rfl rfl)
theorem dX12_cause_24 : decode cX12_cause 24 = .ok (.iload 6, 2) := dk_21 6 (dk_at dksX12_cause_1 0 rfl rfl)
theorem dX12_cause_26 : decode cX12_cause 26 = .ok (.if_icmp .ge 119, 3) := dk_162 0 119 (dk_at dksX12_cause_1 2 rfl rfl)
theorem dX12_cause_29 : decode cX12_cause 29 = .ok (.aload 5, 2) := dk_25 5 (dk_at dksX12_cause_1 5 rfl rfl)
theorem dX12_cause_31 : decode cX12_cause 31 = .ok (.iload 7, 2) := dk_21 7 (dk_at dksX12_cause_1 7 rfl rfl)
theorem dX12_cause_33 : decode cX12_cause 33 = .ok (.iaload, 1) := dk_46 (dk_at dksX12_cause_1 9 rfl rfl)
theorem dX12_cause_34 : decode cX12_cause 34 = .ok (.istore 8, 2) := dk_54 8 (dk_at dksX12_cause_1 10 rfl rfl)
theorem dX12_cause_36 : decode cX12_cause 36 = .ok (.aload 4, 2) := dk_25 4 (dk_at dksX12_cause_1 12 rfl rfl)
theorem dX12_cause_38 : decode cX12_cause 38 = .ok (.astore 9, 2) := dk_58 9 (dk_at dksX12_cause_1 14 rfl rfl)
theorem dX12_cause_40 : decode cX12_cause 40 = .ok (.aload 9, 2) := dk_25 9 (dk_at dksX12_cause_1 16 rfl rfl)
theorem dX12_cause_42 : decode cX12_cause 42 = .ok (.arraylength, 1) := dk_190 (dk_at dksX12_cause_1 18 rfl rfl)
theorem dX12_cause_43 : decode cX12_cause 43 = .ok (.istore 10, 2) := dk_54 10 (dk_at dksX12_cause_1 19 rfl rfl)
theorem dX12_cause_45 : decode cX12_cause 45 = .ok (.iconst 0, 1) := dk_3 (dk_at dksX12_cause_1 21 rfl rfl)
theorem dX12_cause_46 : decode cX12_cause 46 = .ok (.istore 11, 2) := dk_54 11 (dk_at dksX12_cause_1 22 rfl rfl)
theorem dX12_cause_48 : decode cX12_cause 48 = .ok (.iload 11, 2) := dk_21 11 (dk_at dksX12_cause_2 0 rfl rfl)
theorem dX12_cause_50 : decode cX12_cause 50 = .ok (.iload 10, 2) := dk_21 10 (dk_at dksX12_cause_2 2 rfl rfl)
theorem dX12_cause_52 : decode cX12_cause 52 = .ok (.if_icmp .ge 87, 3) := dk_162 0 87 (dk_at dksX12_cause_2 4 rfl rfl)
theorem dX12_cause_55 : decode cX12_cause 55 = .ok (.aload 9, 2) := dk_25 9 (dk_at dksX12_cause_2 7 rfl rfl)
theorem dX12_cause_57 : decode cX12_cause 57 = .ok (.iload 11, 2) := dk_21 11 (dk_at dksX12_cause_2 9 rfl rfl)
theorem dX12_cause_59 : decode cX12_cause 59 = .ok (.iaload, 1) := dk_46 (dk_at dksX12_cause_2 11 rfl rfl)
theorem dX12_cause_60 : decode cX12_cause 60 = .ok (.istore 12, 2) := dk_54 12 (dk_at dksX12_cause_2 12 rfl rfl)
theorem dX12_cause_62 : decode cX12_cause 62 = .ok (.iload 8, 2) := dk_21 8 (dk_at dksX12_cause_2 14 rfl rfl)
theorem dX12_cause_64 : decode cX12_cause 64 = .ok (.iload 12, 2) := dk_21 12 (dk_at dksX12_cause_2 16 rfl rfl)
theorem dX12_cause_66 : decode cX12_cause 66 = .ok (.if_icmp .ge 36, 3) := dk_162 0 36 (dk_at dksX12_cause_2 18 rfl rfl)
theorem dX12_cause_69 : decode cX12_cause 69 = .ok (.iload 8, 2) := dk_21 8 (dk_at dksX12_cause_2 21 rfl rfl)
theorem dX12_cause_71 : decode cX12_cause 71 = .ok (.iload_n 2, 1) := dk_28 (dk_at dksX12_cause_2 23 rfl rfl)
theorem dX12_cause_72 : decode cX12_cause 72 = .ok (.if_icmp .eq 30, 3) := dk_159 0 30 (dk_at dksX12_cause_3 0 rfl rfl)
theorem dX12_cause_75 : decode cX12_cause 75 = .ok (.iload 12, 2) := dk_21 12 (dk_at dksX12_cause_3 3 rfl rfl)
theorem dX12_cause_77 : decode cX12_cause 77 = .ok (.iload_n 2, 1) := dk_28 (dk_at dksX12_cause_3 5 rfl rfl)
theorem dX12_cause_78 : decode cX12_cause 78 = .ok (.if_icmp .eq 24, 3) := dk_159 0 24 (dk_at dksX12_cause_3 6 rfl rfl)
theorem dX12_cause_81 : decode cX12_cause 81 = .ok (.aload_n 1, 1) := dk_43 (dk_at dksX12_cause_3 9 rfl rfl)
theorem dX12_cause_82 : decode cX12_cause 82 = .ok (.getfield 21, 3) := dk_180 0 21 (dk_at dksX12_cause_3 10 rfl rfl)
theorem dX12_cause_85 : decode cX12_cause 85 = .ok (.iload 8, 2) := dk_21 8 (dk_at dksX12_cause_3 13 rfl rfl)
theorem dX12_cause_87 : decode cX12_cause 87 = .ok (.iaload, 1) := dk_46 (dk_at dksX12_cause_3 15 rfl rfl)
theorem dX12_cause_88 : decode cX12_cause 88 = .ok (.aload_n 1, 1) := dk_43 (dk_at dksX12_cause_3 16 rfl rfl)
theorem dX12_cause_89 : decode cX12_cause 89 = .ok (.getfield 21, 3) := dk_180 0 21 (dk_at dksX12_cause_3 17 rfl rfl)
theorem dX12_cause_92 : decode cX12_cause 92 = .ok (.iload 12, 2) := dk_21 12 (dk_at dksX12_cause_3 20 rfl rfl)
theorem dX12_cause_94 : decode cX12_cause 94 = .ok (.iaload, 1) := dk_46 (dk_at dksX12_cause_3 22 rfl rfl)
theorem dX12_cause_95 : decode cX12_cause 95 = .ok (.if_icmp .ne 7, 3) := dk_160 0 7 (dk_at dksX12_cause_4 0 rfl rfl)
theorem dX12_cause_98 : decode cX12_cause 98 = .ok (.iconst 1, 1) := dk_4 (dk_at dksX12_cause_4 3 rfl rfl)
theorem dX12_cause_99 : decode cX12_cause 99 = .ok (.goto 4, 3) := dk_167 0 4 (dk_at dksX12_cause_4 4 rfl rfl)
theorem dX12_cause_102 : decode cX12_cause 102 = .ok (.iconst 0, 1) := dk_3 (dk_at dksX12_cause_4 7 rfl rfl)
theorem dX12_cause_103 : decode cX12_cause 103 = .ok (.istore 13, 2) := dk_54 13 (dk_at dksX12_cause_4 8 rfl rfl)
theorem dX12_cause_105 : decode cX12_cause 105 = .ok (.iload 13, 2) := dk_21 13 (dk_at dksX12_cause_4 10 rfl rfl)
theorem dX12_cause_107 : decode cX12_cause 107 = .ok (.ifCond .eq 26, 3) := dk_153 0 26 (dk_at dksX12_cause_4 12 rfl rfl)
theorem dX12_cause_110 : decode cX12_cause 110 = .ok (.aload_n 1, 1) := dk_43 (dk_at dksX12_cause_4 15 rfl rfl)
theorem dX12_cause_111 : decode cX12_cause 111 = .ok (.iload 8, 2) := dk_21 8 (dk_at dksX12_cause_4 16 rfl rfl)
theorem dX12_cause_113 : decode cX12_cause 113 = .ok (.invokevirtual 25, 3) := dk_182 0 25 (dk_at dksX12_cause_4 18 rfl rfl)
theorem dX12_cause_116 : decode cX12_cause 116 = .ok (.iconst 2, 1) := dk_5 (dk_at dksX12_cause_4 21 rfl rfl)
theorem dX12_cause_117 : decode cX12_cause 117 = .ok (.if_icmp .ne 16, 3) := dk_160 0 16 (dk_at dksX12_cause_5 0 rfl rfl)
theorem dX12_cause_120 : decode cX12_cause 120 = .ok (.aload_n 1, 1) := dk_43 (dk_at dksX12_cause_5 3 rfl rfl)
theorem dX12_cause_121 : decode cX12_cause 121 = .ok (.iload 8, 2) := dk_21 8 (dk_at dksX12_cause_5 4 rfl rfl)
theorem dX12_cause_123 : decode cX12_cause 123 = .ok (.iload_n 3, 1) := dk_29 (dk_at dksX12_cause_5 6 rfl rfl)
theorem dX12_cause_124 : decode cX12_cause 124 = .ok (.invokevirtual 29, 3) := dk_182 0 29 (dk_at dksX12_cause_5 7 rfl rfl)
theorem dX12_cause_127 : decode cX12_cause 127 = .ok (.ifCond .eq 6, 3) := dk_153 0 6 (dk_at dksX12_cause_5 10 rfl rfl)
theorem dX12_cause_130 : decode cX12_cause 130 = .ok (.iload 8, 2) := dk_21 8 (dk_at dksX12_cause_5 13 rfl rfl)
theorem dX12_cause_132 : decode cX12_cause 132 = .ok (.ireturn, 1) := dk_172 (dk_at dksX12_cause_5 15 rfl rfl)
theorem dX12_cause_133 : decode cX12_cause 133 = .ok (.iinc 11 1, 3) := dk_132 11 1 (dk_at dksX12_cause_5 16 rfl rfl)
theorem dX12_cause_136 : decode cX12_cause 136 = .ok (.goto (-88), 3) := dk_167 255 168 (dk_at dksX12_cause_5 19 rfl rfl)
theorem dX12_cause_139 : decode cX12_cause 139 = .ok (.iinc 7 1, 3) := dk_132 7 1 (dk_at dksX12_cause_6 0 rfl rfl)
theorem dX12_cause_142 : decode cX12_cause 142 = .ok (.goto (-120), 3) := dk_167 255 136 (dk_at dksX12_cause_6 3 rfl rfl)
theorem dX12_cause_145 : decode cX12_cause 145 = .ok (.bipush (-99), 2) := dk_16 157 (dk_at dksX12_cause_6 6 rfl rfl)
theorem dX12_cause_147 : decode cX12_cause 147 = .ok (.ireturn, 1) := dk_172 (dk_at dksX12_cause_6 8 rfl rfl)
theorem q157 : (Jvm.Cond.initialized "EdgeSums$PairRule") ∈ lw_all := lw_g (lw_at lw_m1 33 rfl) rfl
theorem q740 : (Jvm.Cond.fieldLinkNest "EdgeSums$PairRule" (9 : Nat) "EdgeSums$Board" "page" "LEdgeSums$Page;" "EdgeSums") ∈ lw_tbl := lw_at lw_m3 136 rfl
theorem q750 : (Jvm.Cond.fieldLinkNest "EdgeSums$PairRule" (21 : Nat) "EdgeSums$Board" "sets" "[I" "EdgeSums") ∈ lw_tbl := lw_at lw_m3 146 rfl
theorem q955 : (Jvm.Cond.instantiable "EdgeSums$PairRule" (0 : Nat)) ∈ lw_all := lw_g (lw_at lw_m4 111 rfl) rfl
theorem q957 : (Jvm.Cond.instanceMethod ({ cls := "EdgeSums$PairRule", name := "<init>", desc := "()V" } : Jvm.MethodName)) ∈ lw_all := lw_g (lw_at lw_m4 113 rfl) rfl
theorem q958 : (Jvm.Cond.code ({ cls := "EdgeSums$PairRule", name := "<init>", desc := "()V" } : Jvm.MethodName) prog_15_method_1_code (1 : Nat) (Option.none : Option Jvm.ClassFile.FieldType)) ∈ lw_all := lw_g (lw_at lw_m4 114 rfl) rfl
theorem q959 : (Jvm.Cond.methodLink "EdgeSums$PairRule" (3 : Nat) ({ cls := "java/lang/Object", name := "<init>", desc := "()V" } : Jvm.MethodName)) ∈ lw_all := lw_g (lw_at lw_m4 115 rfl) rfl
theorem q960 : (Jvm.Cond.superclass "EdgeSums$PairRule" "java/lang/Object") ∈ lw_all := lw_g (lw_at lw_m4 116 rfl) rfl
theorem q1098 : (Jvm.Cond.selects "EdgeSums$PairRule" ({ cls := "java/lang/Object", name := "getClass", desc := "()Ljava/lang/Class;" } : Jvm.MethodName) ({ cls := "java/lang/Object", name := "getClass", desc := "()Ljava/lang/Class;" } : Jvm.MethodName)) ∈ lw_all := lw_g (lw_at lw_m5 14 rfl) rfl
theorem q1390 : (Jvm.Cond.castable "EdgeSums$PairRule" "EdgeSums$Rule") ∈ lw_tbl := lw_at lw_m6 66 rfl
theorem q1391 : (Jvm.Cond.selects "EdgeSums$PairRule" ({ cls := "EdgeSums$Rule", name := "cause", desc := "(LEdgeSums$Board;II)I" } : Jvm.MethodName) ({ cls := "EdgeSums$PairRule", name := "cause", desc := "(LEdgeSums$Board;II)I" } : Jvm.MethodName)) ∈ lw_all := lw_g (lw_at lw_m6 67 rfl) rfl
theorem q1392 : (Jvm.Cond.unhidden "EdgeSums$PairRule" "cause" "(LEdgeSums$Board;II)I") ∈ lw_tbl := lw_at lw_m6 68 rfl
theorem q1393 : (Jvm.Cond.instanceMethod ({ cls := "EdgeSums$PairRule", name := "cause", desc := "(LEdgeSums$Board;II)I" } : Jvm.MethodName)) ∈ lw_all := lw_g (lw_at lw_m6 69 rfl) rfl
theorem q1394 : (Jvm.Cond.publicMethod ({ cls := "EdgeSums$PairRule", name := "cause", desc := "(LEdgeSums$Board;II)I" } : Jvm.MethodName)) ∈ lw_tbl := lw_at lw_m6 70 rfl
theorem q1395 : (Jvm.Cond.code ({ cls := "EdgeSums$PairRule", name := "cause", desc := "(LEdgeSums$Board;II)I" } : Jvm.MethodName) prog_15_method_2_code (14 : Nat) (Option.some Jvm.ClassFile.FieldType.int)) ∈ lw_all := lw_g (lw_at lw_m6 71 rfl) rfl
theorem q1396 : (Jvm.Cond.methodLink "EdgeSums$PairRule" (15 : Nat) ({ cls := "EdgeSums$Page", name := "members", desc := "(I)[I" } : Jvm.MethodName)) ∈ lw_all := lw_g (lw_at lw_m6 72 rfl) rfl
theorem q1397 : (Jvm.Cond.methodLink "EdgeSums$PairRule" (25 : Nat) ({ cls := "EdgeSums$Board", name := "possible", desc := "(I)I" } : Jvm.MethodName)) ∈ lw_all := lw_g (lw_at lw_m6 73 rfl) rfl
theorem q1398 : (Jvm.Cond.methodLink "EdgeSums$PairRule" (29 : Nat) ({ cls := "EdgeSums$Board", name := "isPossible", desc := "(II)Z" } : Jvm.MethodName)) ∈ lw_all := lw_g (lw_at lw_m6 74 rfl) rfl
theorem q2383 : (Jvm.Cond.unhidden "EdgeSums$PairRule" "strikes" "(LEdgeSums$Board;II)Z") ∈ lw_tbl := lw_at lw_m10 99 rfl
theorem q2387 : (Jvm.Cond.unhidden "EdgeSums$PairRule" "strikes" "(LEdgeSums$Board;)I") ∈ lw_tbl := lw_at lw_m10 103 rfl
theorem q3206 : (Jvm.Cond.castable "EdgeSums$PairRule" "java/lang/Object") ∈ lw_tbl := lw_at lw_m13 202 rfl
/-! EdgeSums$Order -/
set_option maxRecDepth 100000
def RX14 : String := "EdgeSums$Order"
abbrev cX14_of : ByteArray := prog_13_method_1_code
def yX14_of : MethodName := ⟨RX14, "of", "(I)LEdgeSums$Order;"⟩
def dkwX14_of_3 : List UInt8 := [183, 0, 12, 176]
abbrev dktX14_of_3 : List UInt8 := dkwX14_of_3 ++ []
def dkwX14_of_2 : List UInt8 := [187, 0, 1, 89, 183, 0, 3, 167, 0, 20, 187, 0, 7, 89, 183, 0, 9, 167, 0, 10, 187, 0, 10, 89]
abbrev dktX14_of_2 : List UInt8 := dkwX14_of_2 ++ dktX14_of_3
def dkwX14_of_1 : List UInt8 := [171, 0, 0, 0, 0, 0, 47, 0, 0, 0, 2, 0, 0, 0, 0, 0, 0, 0, 27, 0, 0, 0, 1, 0, 0, 0, 37]
abbrev dktX14_of_1 : List UInt8 := dkwX14_of_1 ++ dktX14_of_2
def dkwX14_of_0 : List UInt8 := [26]
abbrev dktX14_of_0 : List UInt8 := dkwX14_of_0 ++ dktX14_of_1
theorem dksX14_of_0 : cX14_of.data.toList.drop 0 = dktX14_of_0 := by decide +kernel
theorem dksX14_of_1 : cX14_of.data.toList.drop 1 = dktX14_of_1 := dk_seg dksX14_of_0 1 rfl rfl
theorem dksX14_of_2 : cX14_of.data.toList.drop 28 = dktX14_of_2 := dk_seg dksX14_of_1 27 rfl rfl
theorem dksX14_of_3 : cX14_of.data.toList.drop 52 = dktX14_of_3 := dk_seg dksX14_of_2 24 rfl rfl
theorem dX14_of_0 : decode cX14_of 0 = .ok (.iload_n 0, 1) := dk_26 (dk_at dksX14_of_0 0 rfl rfl)
theorem dX14_of_1 : decode cX14_of 1 = .ok (.lookupswitch 47 #[(0, 27), (1, 37)], 27) := by decide +kernel
theorem dX14_of_28 : decode cX14_of 28 = .ok (.new 1, 3) := dk_187 0 1 (dk_at dksX14_of_2 0 rfl rfl)
theorem dX14_of_31 : decode cX14_of 31 = .ok (.dup, 1) := dk_89 (dk_at dksX14_of_2 3 rfl rfl)
theorem dX14_of_32 : decode cX14_of 32 = .ok (.invokespecial 3, 3) := dk_183 0 3 (dk_at dksX14_of_2 4 rfl rfl)
theorem dX14_of_35 : decode cX14_of 35 = .ok (.goto 20, 3) := dk_167 0 20 (dk_at dksX14_of_2 7 rfl rfl)
theorem dX14_of_38 : decode cX14_of 38 = .ok (.new 7, 3) := dk_187 0 7 (dk_at dksX14_of_2 10 rfl rfl)
theorem dX14_of_41 : decode cX14_of 41 = .ok (.dup, 1) := dk_89 (dk_at dksX14_of_2 13 rfl rfl)
theorem dX14_of_42 : decode cX14_of 42 = .ok (.invokespecial 9, 3) := dk_183 0 9 (dk_at dksX14_of_2 14 rfl rfl)
theorem dX14_of_45 : decode cX14_of 45 = .ok (.goto 10, 3) := dk_167 0 10 (dk_at dksX14_of_2 17 rfl rfl)
theorem dX14_of_48 : decode cX14_of 48 = .ok (.new 10, 3) := dk_187 0 10 (dk_at dksX14_of_2 20 rfl rfl)
theorem dX14_of_51 : decode cX14_of 51 = .ok (.dup, 1) := dk_89 (dk_at dksX14_of_2 23 rfl rfl)
theorem dX14_of_52 : decode cX14_of 52 = .ok (.invokespecial 12, 3) := dk_183 0 12 (dk_at dksX14_of_3 0 rfl rfl)
theorem dX14_of_55 : decode cX14_of 55 = .ok (.areturn, 1) := dk_176 (dk_at dksX14_of_3 3 rfl rfl)
theorem q163 : (Jvm.Cond.initialized "EdgeSums$Order") ∈ lw_all := lw_g (lw_at lw_m1 39 rfl) rfl
theorem q1426 : (Jvm.Cond.static ({ cls := "EdgeSums$Order", name := "of", desc := "(I)LEdgeSums$Order;" } : Jvm.MethodName)) ∈ lw_all := lw_g (lw_at lw_m6 102 rfl) rfl
theorem q1427 : (Jvm.Cond.code ({ cls := "EdgeSums$Order", name := "of", desc := "(I)LEdgeSums$Order;" } : Jvm.MethodName) prog_13_method_1_code (1 : Nat) (Option.some (Jvm.ClassFile.FieldType.object "EdgeSums$Order"))) ∈ lw_all := lw_g (lw_at lw_m6 103 rfl) rfl
theorem q1428 : (Jvm.Cond.classLink "EdgeSums$Order" (1 : Nat) "EdgeSums$Ascending") ∈ lw_all := lw_g (lw_at lw_m6 104 rfl) rfl
theorem q1430 : (Jvm.Cond.methodLinkNest "EdgeSums$Order" (3 : Nat) ({ cls := "EdgeSums$Ascending", name := "<init>", desc := "()V" } : Jvm.MethodName) "EdgeSums") ∈ lw_tbl := lw_at lw_m6 106 rfl
theorem q1435 : (Jvm.Cond.classLink "EdgeSums$Order" (7 : Nat) "EdgeSums$Descending") ∈ lw_all := lw_g (lw_at lw_m6 111 rfl) rfl
theorem q1437 : (Jvm.Cond.methodLinkNest "EdgeSums$Order" (9 : Nat) ({ cls := "EdgeSums$Descending", name := "<init>", desc := "()V" } : Jvm.MethodName) "EdgeSums") ∈ lw_tbl := lw_at lw_m6 113 rfl
theorem q1442 : (Jvm.Cond.classLink "EdgeSums$Order" (10 : Nat) "EdgeSums$ByValue") ∈ lw_all := lw_g (lw_at lw_m6 118 rfl) rfl
theorem q1444 : (Jvm.Cond.methodLinkNest "EdgeSums$Order" (12 : Nat) ({ cls := "EdgeSums$ByValue", name := "<init>", desc := "()V" } : Jvm.MethodName) "EdgeSums") ∈ lw_tbl := lw_at lw_m6 120 rfl
/-! EdgeSums$Ascending -/
set_option maxRecDepth 100000
def RX15 : String := "EdgeSums$Ascending"
abbrev cX15_compare : ByteArray := prog_2_method_3_code
def yX15_compare : MethodName := ⟨RX15, "compare", "(Ljava/lang/Object;Ljava/lang/Object;)I"⟩
def dkwX15_compare_0 : List UInt8 := [42, 43, 192, 0, 8, 44, 192, 0, 8, 182, 0, 19, 172]
abbrev dktX15_compare_0 : List UInt8 := dkwX15_compare_0 ++ []
theorem dksX15_compare_0 : cX15_compare.data.toList.drop 0 = dktX15_compare_0 := by decide +kernel
theorem dX15_compare_0 : decode cX15_compare 0 = .ok (.aload_n 0, 1) := dk_42 (dk_at dksX15_compare_0 0 rfl rfl)
theorem dX15_compare_1 : decode cX15_compare 1 = .ok (.aload_n 1, 1) := dk_43 (dk_at dksX15_compare_0 1 rfl rfl)
theorem dX15_compare_2 : decode cX15_compare 2 = .ok (.checkcast 8, 3) := dk_192 0 8 (dk_at dksX15_compare_0 2 rfl rfl)
theorem dX15_compare_5 : decode cX15_compare 5 = .ok (.aload_n 2, 1) := dk_44 (dk_at dksX15_compare_0 5 rfl rfl)
theorem dX15_compare_6 : decode cX15_compare 6 = .ok (.checkcast 8, 3) := dk_192 0 8 (dk_at dksX15_compare_0 6 rfl rfl)
theorem dX15_compare_9 : decode cX15_compare 9 = .ok (.invokevirtual 19, 3) := dk_182 0 19 (dk_at dksX15_compare_0 9 rfl rfl)
theorem dX15_compare_12 : decode cX15_compare 12 = .ok (.ireturn, 1) := dk_172 (dk_at dksX15_compare_0 12 rfl rfl)
abbrev cX15_compare_2 : ByteArray := prog_2_method_2_code
def yX15_compare_2 : MethodName := ⟨RX15, "compare", "(LEdgeSums$Clue;LEdgeSums$Clue;)I"⟩
def dkwX15_compare_2_0 : List UInt8 := [43, 180, 0, 7, 44, 180, 0, 7, 184, 0, 13, 172]
abbrev dktX15_compare_2_0 : List UInt8 := dkwX15_compare_2_0 ++ []
theorem dksX15_compare_2_0 : cX15_compare_2.data.toList.drop 0 = dktX15_compare_2_0 := by decide +kernel
theorem dX15_compare_2_0 : decode cX15_compare_2 0 = .ok (.aload_n 1, 1) := dk_43 (dk_at dksX15_compare_2_0 0 rfl rfl)
theorem dX15_compare_2_1 : decode cX15_compare_2 1 = .ok (.getfield 7, 3) := dk_180 0 7 (dk_at dksX15_compare_2_0 1 rfl rfl)
theorem dX15_compare_2_4 : decode cX15_compare_2 4 = .ok (.aload_n 2, 1) := dk_44 (dk_at dksX15_compare_2_0 4 rfl rfl)
theorem dX15_compare_2_5 : decode cX15_compare_2 5 = .ok (.getfield 7, 3) := dk_180 0 7 (dk_at dksX15_compare_2_0 5 rfl rfl)
theorem dX15_compare_2_8 : decode cX15_compare_2 8 = .ok (.invokestatic 13, 3) := dk_184 0 13 (dk_at dksX15_compare_2_0 8 rfl rfl)
theorem dX15_compare_2_11 : decode cX15_compare_2 11 = .ok (.ireturn, 1) := dk_172 (dk_at dksX15_compare_2_0 11 rfl rfl)
abbrev cX15_init : ByteArray := prog_2_method_1_code
def yX15_init : MethodName := ⟨RX15, "<init>", "()V"⟩
theorem dX15_init_0 : decode cX15_init 0 = .ok (.aload_n 0, 1) := by decide +kernel
theorem dX15_init_1 : decode cX15_init 1 = .ok (.invokespecial 1, 3) := by decide +kernel
theorem dX15_init_4 : decode cX15_init 4 = .ok (.return_, 1) := by decide +kernel
theorem q164 : (Jvm.Cond.initialized "EdgeSums$Ascending") ∈ lw_all := lw_g (lw_at lw_m1 40 rfl) rfl
theorem q280 : (Jvm.Cond.castable "EdgeSums$Ascending" "java/util/Comparator") ∈ lw_tbl := lw_at lw_m1 156 rfl
theorem q281 : (Jvm.Cond.selects "EdgeSums$Ascending" ({ cls := "java/util/Comparator", name := "compare", desc := "(Ljava/lang/Object;Ljava/lang/Object;)I" } : Jvm.MethodName) ({ cls := "EdgeSums$Ascending", name := "compare", desc := "(Ljava/lang/Object;Ljava/lang/Object;)I" } : Jvm.MethodName)) ∈ lw_all := lw_g (lw_at lw_m1 157 rfl) rfl
theorem q282 : (Jvm.Cond.unhidden "EdgeSums$Ascending" "compare" "(Ljava/lang/Object;Ljava/lang/Object;)I") ∈ lw_tbl := lw_at lw_m1 158 rfl
theorem q283 : (Jvm.Cond.instanceMethod ({ cls := "EdgeSums$Ascending", name := "compare", desc := "(Ljava/lang/Object;Ljava/lang/Object;)I" } : Jvm.MethodName)) ∈ lw_all := lw_g (lw_at lw_m1 159 rfl) rfl
theorem q284 : (Jvm.Cond.publicMethod ({ cls := "EdgeSums$Ascending", name := "compare", desc := "(Ljava/lang/Object;Ljava/lang/Object;)I" } : Jvm.MethodName)) ∈ lw_tbl := lw_at lw_m1 160 rfl
theorem q285 : (Jvm.Cond.code ({ cls := "EdgeSums$Ascending", name := "compare", desc := "(Ljava/lang/Object;Ljava/lang/Object;)I" } : Jvm.MethodName) prog_2_method_3_code (3 : Nat) (Option.some Jvm.ClassFile.FieldType.int)) ∈ lw_all := lw_g (lw_at lw_m1 161 rfl) rfl
theorem q286 : (Jvm.Cond.classLink "EdgeSums$Ascending" (8 : Nat) "EdgeSums$Clue") ∈ lw_all := lw_g (lw_at lw_m1 162 rfl) rfl
theorem q287 : (Jvm.Cond.methodLink "EdgeSums$Ascending" (19 : Nat) ({ cls := "EdgeSums$Ascending", name := "compare", desc := "(LEdgeSums$Clue;LEdgeSums$Clue;)I" } : Jvm.MethodName)) ∈ lw_all := lw_g (lw_at lw_m1 163 rfl) rfl
theorem q288 : (Jvm.Cond.instanceMethod ({ cls := "EdgeSums$Ascending", name := "compare", desc := "(LEdgeSums$Clue;LEdgeSums$Clue;)I" } : Jvm.MethodName)) ∈ lw_all := lw_g (lw_at lw_m1 164 rfl) rfl
theorem q289 : (Jvm.Cond.selects "EdgeSums$Ascending" ({ cls := "EdgeSums$Ascending", name := "compare", desc := "(LEdgeSums$Clue;LEdgeSums$Clue;)I" } : Jvm.MethodName) ({ cls := "EdgeSums$Ascending", name := "compare", desc := "(LEdgeSums$Clue;LEdgeSums$Clue;)I" } : Jvm.MethodName)) ∈ lw_all := lw_g (lw_at lw_m1 165 rfl) rfl
theorem q290 : (Jvm.Cond.code ({ cls := "EdgeSums$Ascending", name := "compare", desc := "(LEdgeSums$Clue;LEdgeSums$Clue;)I" } : Jvm.MethodName) prog_2_method_2_code (3 : Nat) (Option.some Jvm.ClassFile.FieldType.int)) ∈ lw_all := lw_g (lw_at lw_m1 166 rfl) rfl
theorem q291 : (Jvm.Cond.methodLink "EdgeSums$Ascending" (13 : Nat) ({ cls := "java/lang/Integer", name := "compare", desc := "(II)I" } : Jvm.MethodName)) ∈ lw_all := lw_g (lw_at lw_m1 167 rfl) rfl
theorem q1087 : (Jvm.Cond.selects "EdgeSums$Ascending" ({ cls := "java/lang/Object", name := "getClass", desc := "()Ljava/lang/Class;" } : Jvm.MethodName) ({ cls := "java/lang/Object", name := "getClass", desc := "()Ljava/lang/Class;" } : Jvm.MethodName)) ∈ lw_all := lw_g (lw_at lw_m5 3 rfl) rfl
theorem q1429 : (Jvm.Cond.instantiable "EdgeSums$Ascending" (0 : Nat)) ∈ lw_all := lw_g (lw_at lw_m6 105 rfl) rfl
theorem q1431 : (Jvm.Cond.instanceMethod ({ cls := "EdgeSums$Ascending", name := "<init>", desc := "()V" } : Jvm.MethodName)) ∈ lw_all := lw_g (lw_at lw_m6 107 rfl) rfl
theorem q1432 : (Jvm.Cond.code ({ cls := "EdgeSums$Ascending", name := "<init>", desc := "()V" } : Jvm.MethodName) prog_2_method_1_code (1 : Nat) (Option.none : Option Jvm.ClassFile.FieldType)) ∈ lw_all := lw_g (lw_at lw_m6 108 rfl) rfl
theorem q1433 : (Jvm.Cond.methodLink "EdgeSums$Ascending" (1 : Nat) ({ cls := "java/lang/Object", name := "<init>", desc := "()V" } : Jvm.MethodName)) ∈ lw_all := lw_g (lw_at lw_m6 109 rfl) rfl
theorem q1434 : (Jvm.Cond.superclass "EdgeSums$Ascending" "java/lang/Object") ∈ lw_all := lw_g (lw_at lw_m6 110 rfl) rfl
theorem q1487 : (Jvm.Cond.fieldLinkNest "EdgeSums$Ascending" (7 : Nat) "EdgeSums$Clue" "index" "I" "EdgeSums") ∈ lw_tbl := lw_at lw_m6 163 rfl
theorem q3210 : (Jvm.Cond.castable "EdgeSums$Ascending" "java/lang/Object") ∈ lw_tbl := lw_at lw_m13 206 rfl
/-! EdgeSums$Descending -/
set_option maxRecDepth 100000
def RX16 : String := "EdgeSums$Descending"
abbrev cX16_compare : ByteArray := prog_9_method_3_code
def yX16_compare : MethodName := ⟨RX16, "compare", "(Ljava/lang/Object;Ljava/lang/Object;)I"⟩
def dkwX16_compare_0 : List UInt8 := [42, 43, 192, 0, 8, 44, 192, 0, 8, 182, 0, 19, 172]
abbrev dktX16_compare_0 : List UInt8 := dkwX16_compare_0 ++ []
theorem dksX16_compare_0 : cX16_compare.data.toList.drop 0 = dktX16_compare_0 := by decide +kernel
theorem dX16_compare_0 : decode cX16_compare 0 = .ok (.aload_n 0, 1) := dk_42 (dk_at dksX16_compare_0 0 rfl rfl)
theorem dX16_compare_1 : decode cX16_compare 1 = .ok (.aload_n 1, 1) := dk_43 (dk_at dksX16_compare_0 1 rfl rfl)
theorem dX16_compare_2 : decode cX16_compare 2 = .ok (.checkcast 8, 3) := dk_192 0 8 (dk_at dksX16_compare_0 2 rfl rfl)
theorem dX16_compare_5 : decode cX16_compare 5 = .ok (.aload_n 2, 1) := dk_44 (dk_at dksX16_compare_0 5 rfl rfl)
theorem dX16_compare_6 : decode cX16_compare 6 = .ok (.checkcast 8, 3) := dk_192 0 8 (dk_at dksX16_compare_0 6 rfl rfl)
theorem dX16_compare_9 : decode cX16_compare 9 = .ok (.invokevirtual 19, 3) := dk_182 0 19 (dk_at dksX16_compare_0 9 rfl rfl)
theorem dX16_compare_12 : decode cX16_compare 12 = .ok (.ireturn, 1) := dk_172 (dk_at dksX16_compare_0 12 rfl rfl)
abbrev cX16_compare_2 : ByteArray := prog_9_method_2_code
def yX16_compare_2 : MethodName := ⟨RX16, "compare", "(LEdgeSums$Clue;LEdgeSums$Clue;)I"⟩
def dkwX16_compare_2_0 : List UInt8 := [44, 180, 0, 7, 43, 180, 0, 7, 184, 0, 13, 172]
abbrev dktX16_compare_2_0 : List UInt8 := dkwX16_compare_2_0 ++ []
theorem dksX16_compare_2_0 : cX16_compare_2.data.toList.drop 0 = dktX16_compare_2_0 := by decide +kernel
theorem dX16_compare_2_0 : decode cX16_compare_2 0 = .ok (.aload_n 2, 1) := dk_44 (dk_at dksX16_compare_2_0 0 rfl rfl)
theorem dX16_compare_2_1 : decode cX16_compare_2 1 = .ok (.getfield 7, 3) := dk_180 0 7 (dk_at dksX16_compare_2_0 1 rfl rfl)
theorem dX16_compare_2_4 : decode cX16_compare_2 4 = .ok (.aload_n 1, 1) := dk_43 (dk_at dksX16_compare_2_0 4 rfl rfl)
theorem dX16_compare_2_5 : decode cX16_compare_2 5 = .ok (.getfield 7, 3) := dk_180 0 7 (dk_at dksX16_compare_2_0 5 rfl rfl)
theorem dX16_compare_2_8 : decode cX16_compare_2 8 = .ok (.invokestatic 13, 3) := dk_184 0 13 (dk_at dksX16_compare_2_0 8 rfl rfl)
theorem dX16_compare_2_11 : decode cX16_compare_2 11 = .ok (.ireturn, 1) := dk_172 (dk_at dksX16_compare_2_0 11 rfl rfl)
abbrev cX16_init : ByteArray := prog_9_method_1_code
def yX16_init : MethodName := ⟨RX16, "<init>", "()V"⟩
theorem dX16_init_0 : decode cX16_init 0 = .ok (.aload_n 0, 1) := by decide +kernel
theorem dX16_init_1 : decode cX16_init 1 = .ok (.invokespecial 1, 3) := by decide +kernel
theorem dX16_init_4 : decode cX16_init 4 = .ok (.return_, 1) := by decide +kernel
theorem q165 : (Jvm.Cond.initialized "EdgeSums$Descending") ∈ lw_all := lw_g (lw_at lw_m1 41 rfl) rfl
theorem q339 : (Jvm.Cond.castable "EdgeSums$Descending" "java/util/Comparator") ∈ lw_tbl := lw_at lw_m1 215 rfl
theorem q340 : (Jvm.Cond.selects "EdgeSums$Descending" ({ cls := "java/util/Comparator", name := "compare", desc := "(Ljava/lang/Object;Ljava/lang/Object;)I" } : Jvm.MethodName) ({ cls := "EdgeSums$Descending", name := "compare", desc := "(Ljava/lang/Object;Ljava/lang/Object;)I" } : Jvm.MethodName)) ∈ lw_all := lw_g (lw_at lw_m1 216 rfl) rfl
theorem q341 : (Jvm.Cond.unhidden "EdgeSums$Descending" "compare" "(Ljava/lang/Object;Ljava/lang/Object;)I") ∈ lw_tbl := lw_at lw_m1 217 rfl
theorem q342 : (Jvm.Cond.instanceMethod ({ cls := "EdgeSums$Descending", name := "compare", desc := "(Ljava/lang/Object;Ljava/lang/Object;)I" } : Jvm.MethodName)) ∈ lw_all := lw_g (lw_at lw_m1 218 rfl) rfl
theorem q343 : (Jvm.Cond.publicMethod ({ cls := "EdgeSums$Descending", name := "compare", desc := "(Ljava/lang/Object;Ljava/lang/Object;)I" } : Jvm.MethodName)) ∈ lw_tbl := lw_at lw_m1 219 rfl
theorem q344 : (Jvm.Cond.code ({ cls := "EdgeSums$Descending", name := "compare", desc := "(Ljava/lang/Object;Ljava/lang/Object;)I" } : Jvm.MethodName) prog_9_method_3_code (3 : Nat) (Option.some Jvm.ClassFile.FieldType.int)) ∈ lw_all := lw_g (lw_at lw_m1 220 rfl) rfl
theorem q345 : (Jvm.Cond.classLink "EdgeSums$Descending" (8 : Nat) "EdgeSums$Clue") ∈ lw_all := lw_g (lw_at lw_m1 221 rfl) rfl
theorem q346 : (Jvm.Cond.methodLink "EdgeSums$Descending" (19 : Nat) ({ cls := "EdgeSums$Descending", name := "compare", desc := "(LEdgeSums$Clue;LEdgeSums$Clue;)I" } : Jvm.MethodName)) ∈ lw_all := lw_g (lw_at lw_m1 222 rfl) rfl
theorem q347 : (Jvm.Cond.instanceMethod ({ cls := "EdgeSums$Descending", name := "compare", desc := "(LEdgeSums$Clue;LEdgeSums$Clue;)I" } : Jvm.MethodName)) ∈ lw_all := lw_g (lw_at lw_m1 223 rfl) rfl
theorem q348 : (Jvm.Cond.selects "EdgeSums$Descending" ({ cls := "EdgeSums$Descending", name := "compare", desc := "(LEdgeSums$Clue;LEdgeSums$Clue;)I" } : Jvm.MethodName) ({ cls := "EdgeSums$Descending", name := "compare", desc := "(LEdgeSums$Clue;LEdgeSums$Clue;)I" } : Jvm.MethodName)) ∈ lw_all := lw_g (lw_at lw_m1 224 rfl) rfl
theorem q349 : (Jvm.Cond.code ({ cls := "EdgeSums$Descending", name := "compare", desc := "(LEdgeSums$Clue;LEdgeSums$Clue;)I" } : Jvm.MethodName) prog_9_method_2_code (3 : Nat) (Option.some Jvm.ClassFile.FieldType.int)) ∈ lw_all := lw_g (lw_at lw_m1 225 rfl) rfl
theorem q350 : (Jvm.Cond.methodLink "EdgeSums$Descending" (13 : Nat) ({ cls := "java/lang/Integer", name := "compare", desc := "(II)I" } : Jvm.MethodName)) ∈ lw_all := lw_g (lw_at lw_m1 226 rfl) rfl
theorem q1094 : (Jvm.Cond.selects "EdgeSums$Descending" ({ cls := "java/lang/Object", name := "getClass", desc := "()Ljava/lang/Class;" } : Jvm.MethodName) ({ cls := "java/lang/Object", name := "getClass", desc := "()Ljava/lang/Class;" } : Jvm.MethodName)) ∈ lw_all := lw_g (lw_at lw_m5 10 rfl) rfl
theorem q1436 : (Jvm.Cond.instantiable "EdgeSums$Descending" (0 : Nat)) ∈ lw_all := lw_g (lw_at lw_m6 112 rfl) rfl
theorem q1438 : (Jvm.Cond.instanceMethod ({ cls := "EdgeSums$Descending", name := "<init>", desc := "()V" } : Jvm.MethodName)) ∈ lw_all := lw_g (lw_at lw_m6 114 rfl) rfl
theorem q1439 : (Jvm.Cond.code ({ cls := "EdgeSums$Descending", name := "<init>", desc := "()V" } : Jvm.MethodName) prog_9_method_1_code (1 : Nat) (Option.none : Option Jvm.ClassFile.FieldType)) ∈ lw_all := lw_g (lw_at lw_m6 115 rfl) rfl
theorem q1440 : (Jvm.Cond.methodLink "EdgeSums$Descending" (1 : Nat) ({ cls := "java/lang/Object", name := "<init>", desc := "()V" } : Jvm.MethodName)) ∈ lw_all := lw_g (lw_at lw_m6 116 rfl) rfl
theorem q1441 : (Jvm.Cond.superclass "EdgeSums$Descending" "java/lang/Object") ∈ lw_all := lw_g (lw_at lw_m6 117 rfl) rfl
theorem q1488 : (Jvm.Cond.fieldLinkNest "EdgeSums$Descending" (7 : Nat) "EdgeSums$Clue" "index" "I" "EdgeSums") ∈ lw_tbl := lw_at lw_m6 164 rfl
theorem q3211 : (Jvm.Cond.castable "EdgeSums$Descending" "java/lang/Object") ∈ lw_tbl := lw_at lw_m13 207 rfl
/-! EdgeSums$ByValue -/
set_option maxRecDepth 100000
def RX17 : String := "EdgeSums$ByValue"
abbrev cX17_compare : ByteArray := prog_6_method_3_code
def yX17_compare : MethodName := ⟨RX17, "compare", "(Ljava/lang/Object;Ljava/lang/Object;)I"⟩
def dkwX17_compare_0 : List UInt8 := [42, 43, 192, 0, 8, 44, 192, 0, 8, 182, 0, 22, 172]
abbrev dktX17_compare_0 : List UInt8 := dkwX17_compare_0 ++ []
theorem dksX17_compare_0 : cX17_compare.data.toList.drop 0 = dktX17_compare_0 := by decide +kernel
theorem dX17_compare_0 : decode cX17_compare 0 = .ok (.aload_n 0, 1) := dk_42 (dk_at dksX17_compare_0 0 rfl rfl)
theorem dX17_compare_1 : decode cX17_compare 1 = .ok (.aload_n 1, 1) := dk_43 (dk_at dksX17_compare_0 1 rfl rfl)
theorem dX17_compare_2 : decode cX17_compare 2 = .ok (.checkcast 8, 3) := dk_192 0 8 (dk_at dksX17_compare_0 2 rfl rfl)
theorem dX17_compare_5 : decode cX17_compare 5 = .ok (.aload_n 2, 1) := dk_44 (dk_at dksX17_compare_0 5 rfl rfl)
theorem dX17_compare_6 : decode cX17_compare 6 = .ok (.checkcast 8, 3) := dk_192 0 8 (dk_at dksX17_compare_0 6 rfl rfl)
theorem dX17_compare_9 : decode cX17_compare 9 = .ok (.invokevirtual 22, 3) := dk_182 0 22 (dk_at dksX17_compare_0 9 rfl rfl)
theorem dX17_compare_12 : decode cX17_compare 12 = .ok (.ireturn, 1) := dk_172 (dk_at dksX17_compare_0 12 rfl rfl)
abbrev cX17_compare_2 : ByteArray := prog_6_method_2_code
def yX17_compare_2 : MethodName := ⟨RX17, "compare", "(LEdgeSums$Clue;LEdgeSums$Clue;)I"⟩
def dkwX17_compare_2_1 : List UInt8 := [167, 0, 14, 44, 180, 0, 7, 43, 180, 0, 7, 184, 0, 16, 172]
abbrev dktX17_compare_2_1 : List UInt8 := dkwX17_compare_2_1 ++ []
def dkwX17_compare_2_0 : List UInt8 := [43, 180, 0, 7, 44, 180, 0, 7, 160, 0, 17, 43, 180, 0, 13, 44, 180, 0, 13, 184, 0, 16]
abbrev dktX17_compare_2_0 : List UInt8 := dkwX17_compare_2_0 ++ dktX17_compare_2_1
theorem dksX17_compare_2_0 : cX17_compare_2.data.toList.drop 0 = dktX17_compare_2_0 := by decide +kernel
theorem dksX17_compare_2_1 : cX17_compare_2.data.toList.drop 22 = dktX17_compare_2_1 := dk_seg dksX17_compare_2_0 22 rfl rfl
theorem dX17_compare_2_0 : decode cX17_compare_2 0 = .ok (.aload_n 1, 1) := dk_43 (dk_at dksX17_compare_2_0 0 rfl rfl)
theorem dX17_compare_2_1 : decode cX17_compare_2 1 = .ok (.getfield 7, 3) := dk_180 0 7 (dk_at dksX17_compare_2_0 1 rfl rfl)
theorem dX17_compare_2_4 : decode cX17_compare_2 4 = .ok (.aload_n 2, 1) := dk_44 (dk_at dksX17_compare_2_0 4 rfl rfl)
theorem dX17_compare_2_5 : decode cX17_compare_2 5 = .ok (.getfield 7, 3) := dk_180 0 7 (dk_at dksX17_compare_2_0 5 rfl rfl)
theorem dX17_compare_2_8 : decode cX17_compare_2 8 = .ok (.if_icmp .ne 17, 3) := dk_160 0 17 (dk_at dksX17_compare_2_0 8 rfl rfl)
theorem dX17_compare_2_11 : decode cX17_compare_2 11 = .ok (.aload_n 1, 1) := dk_43 (dk_at dksX17_compare_2_0 11 rfl rfl)
theorem dX17_compare_2_12 : decode cX17_compare_2 12 = .ok (.getfield 13, 3) := dk_180 0 13 (dk_at dksX17_compare_2_0 12 rfl rfl)
theorem dX17_compare_2_15 : decode cX17_compare_2 15 = .ok (.aload_n 2, 1) := dk_44 (dk_at dksX17_compare_2_0 15 rfl rfl)
theorem dX17_compare_2_16 : decode cX17_compare_2 16 = .ok (.getfield 13, 3) := dk_180 0 13 (dk_at dksX17_compare_2_0 16 rfl rfl)
theorem dX17_compare_2_19 : decode cX17_compare_2 19 = .ok (.invokestatic 16, 3) := dk_184 0 16 (dk_at dksX17_compare_2_0 19 rfl rfl)
theorem dX17_compare_2_22 : decode cX17_compare_2 22 = .ok (.goto 14, 3) := dk_167 0 14 (dk_at dksX17_compare_2_1 0 rfl rfl)
theorem dX17_compare_2_25 : decode cX17_compare_2 25 = .ok (.aload_n 2, 1) := dk_44 (dk_at dksX17_compare_2_1 3 rfl rfl)
theorem dX17_compare_2_26 : decode cX17_compare_2 26 = .ok (.getfield 7, 3) := dk_180 0 7 (dk_at dksX17_compare_2_1 4 rfl rfl)
theorem dX17_compare_2_29 : decode cX17_compare_2 29 = .ok (.aload_n 1, 1) := dk_43 (dk_at dksX17_compare_2_1 7 rfl rfl)
theorem dX17_compare_2_30 : decode cX17_compare_2 30 = .ok (.getfield 7, 3) := dk_180 0 7 (dk_at dksX17_compare_2_1 8 rfl rfl)
theorem dX17_compare_2_33 : decode cX17_compare_2 33 = .ok (.invokestatic 16, 3) := dk_184 0 16 (dk_at dksX17_compare_2_1 11 rfl rfl)
theorem dX17_compare_2_36 : decode cX17_compare_2 36 = .ok (.ireturn, 1) := dk_172 (dk_at dksX17_compare_2_1 14 rfl rfl)
abbrev cX17_init : ByteArray := prog_6_method_1_code
def yX17_init : MethodName := ⟨RX17, "<init>", "()V"⟩
theorem dX17_init_0 : decode cX17_init 0 = .ok (.aload_n 0, 1) := by decide +kernel
theorem dX17_init_1 : decode cX17_init 1 = .ok (.invokespecial 1, 3) := by decide +kernel
theorem dX17_init_4 : decode cX17_init 4 = .ok (.return_, 1) := by decide +kernel
theorem q166 : (Jvm.Cond.initialized "EdgeSums$ByValue") ∈ lw_all := lw_g (lw_at lw_m1 42 rfl) rfl
theorem q327 : (Jvm.Cond.castable "EdgeSums$ByValue" "java/util/Comparator") ∈ lw_tbl := lw_at lw_m1 203 rfl
theorem q328 : (Jvm.Cond.selects "EdgeSums$ByValue" ({ cls := "java/util/Comparator", name := "compare", desc := "(Ljava/lang/Object;Ljava/lang/Object;)I" } : Jvm.MethodName) ({ cls := "EdgeSums$ByValue", name := "compare", desc := "(Ljava/lang/Object;Ljava/lang/Object;)I" } : Jvm.MethodName)) ∈ lw_all := lw_g (lw_at lw_m1 204 rfl) rfl
theorem q329 : (Jvm.Cond.unhidden "EdgeSums$ByValue" "compare" "(Ljava/lang/Object;Ljava/lang/Object;)I") ∈ lw_tbl := lw_at lw_m1 205 rfl
theorem q330 : (Jvm.Cond.instanceMethod ({ cls := "EdgeSums$ByValue", name := "compare", desc := "(Ljava/lang/Object;Ljava/lang/Object;)I" } : Jvm.MethodName)) ∈ lw_all := lw_g (lw_at lw_m1 206 rfl) rfl
theorem q331 : (Jvm.Cond.publicMethod ({ cls := "EdgeSums$ByValue", name := "compare", desc := "(Ljava/lang/Object;Ljava/lang/Object;)I" } : Jvm.MethodName)) ∈ lw_tbl := lw_at lw_m1 207 rfl
theorem q332 : (Jvm.Cond.code ({ cls := "EdgeSums$ByValue", name := "compare", desc := "(Ljava/lang/Object;Ljava/lang/Object;)I" } : Jvm.MethodName) prog_6_method_3_code (3 : Nat) (Option.some Jvm.ClassFile.FieldType.int)) ∈ lw_all := lw_g (lw_at lw_m1 208 rfl) rfl
theorem q333 : (Jvm.Cond.classLink "EdgeSums$ByValue" (8 : Nat) "EdgeSums$Clue") ∈ lw_all := lw_g (lw_at lw_m1 209 rfl) rfl
theorem q334 : (Jvm.Cond.methodLink "EdgeSums$ByValue" (22 : Nat) ({ cls := "EdgeSums$ByValue", name := "compare", desc := "(LEdgeSums$Clue;LEdgeSums$Clue;)I" } : Jvm.MethodName)) ∈ lw_all := lw_g (lw_at lw_m1 210 rfl) rfl
theorem q335 : (Jvm.Cond.instanceMethod ({ cls := "EdgeSums$ByValue", name := "compare", desc := "(LEdgeSums$Clue;LEdgeSums$Clue;)I" } : Jvm.MethodName)) ∈ lw_all := lw_g (lw_at lw_m1 211 rfl) rfl
theorem q336 : (Jvm.Cond.selects "EdgeSums$ByValue" ({ cls := "EdgeSums$ByValue", name := "compare", desc := "(LEdgeSums$Clue;LEdgeSums$Clue;)I" } : Jvm.MethodName) ({ cls := "EdgeSums$ByValue", name := "compare", desc := "(LEdgeSums$Clue;LEdgeSums$Clue;)I" } : Jvm.MethodName)) ∈ lw_all := lw_g (lw_at lw_m1 212 rfl) rfl
theorem q337 : (Jvm.Cond.code ({ cls := "EdgeSums$ByValue", name := "compare", desc := "(LEdgeSums$Clue;LEdgeSums$Clue;)I" } : Jvm.MethodName) prog_6_method_2_code (3 : Nat) (Option.some Jvm.ClassFile.FieldType.int)) ∈ lw_all := lw_g (lw_at lw_m1 213 rfl) rfl
theorem q338 : (Jvm.Cond.methodLink "EdgeSums$ByValue" (16 : Nat) ({ cls := "java/lang/Integer", name := "compare", desc := "(II)I" } : Jvm.MethodName)) ∈ lw_all := lw_g (lw_at lw_m1 214 rfl) rfl
theorem q1091 : (Jvm.Cond.selects "EdgeSums$ByValue" ({ cls := "java/lang/Object", name := "getClass", desc := "()Ljava/lang/Class;" } : Jvm.MethodName) ({ cls := "java/lang/Object", name := "getClass", desc := "()Ljava/lang/Class;" } : Jvm.MethodName)) ∈ lw_all := lw_g (lw_at lw_m5 7 rfl) rfl
theorem q1443 : (Jvm.Cond.instantiable "EdgeSums$ByValue" (0 : Nat)) ∈ lw_all := lw_g (lw_at lw_m6 119 rfl) rfl
theorem q1445 : (Jvm.Cond.instanceMethod ({ cls := "EdgeSums$ByValue", name := "<init>", desc := "()V" } : Jvm.MethodName)) ∈ lw_all := lw_g (lw_at lw_m6 121 rfl) rfl
theorem q1446 : (Jvm.Cond.code ({ cls := "EdgeSums$ByValue", name := "<init>", desc := "()V" } : Jvm.MethodName) prog_6_method_1_code (1 : Nat) (Option.none : Option Jvm.ClassFile.FieldType)) ∈ lw_all := lw_g (lw_at lw_m6 122 rfl) rfl
theorem q1447 : (Jvm.Cond.methodLink "EdgeSums$ByValue" (1 : Nat) ({ cls := "java/lang/Object", name := "<init>", desc := "()V" } : Jvm.MethodName)) ∈ lw_all := lw_g (lw_at lw_m6 123 rfl) rfl
theorem q1448 : (Jvm.Cond.superclass "EdgeSums$ByValue" "java/lang/Object") ∈ lw_all := lw_g (lw_at lw_m6 124 rfl) rfl
theorem q1489 : (Jvm.Cond.fieldLinkNest "EdgeSums$ByValue" (13 : Nat) "EdgeSums$Clue" "index" "I" "EdgeSums") ∈ lw_tbl := lw_at lw_m6 165 rfl
theorem q1492 : (Jvm.Cond.fieldLinkNest "EdgeSums$ByValue" (7 : Nat) "EdgeSums$Clue" "value" "I" "EdgeSums") ∈ lw_tbl := lw_at lw_m6 168 rfl
theorem q3212 : (Jvm.Cond.castable "EdgeSums$ByValue" "java/lang/Object") ∈ lw_tbl := lw_at lw_m13 208 rfl
/-! EdgeSums$Clue -/
set_option maxRecDepth 100000
def RX18 : String := "EdgeSums$Clue"
def TX18 : u_T := fun k => match k with
  | 0 => ("EdgeSums$Clue", "index", "I", true)
  | _ => ("EdgeSums$Clue", "value", "I", true)
def tyX18 : Nat → FieldType := fun k => match k with
  | 0 => .int
  | _ => .int
abbrev wsX180 : List Cond := u_ws RX18 TX18 2
theorem nmX18 : ∀ a, a < 2 → ∀ b, b < 2 → a ≠ b → (TX18 a).2.1 ≠ (TX18 b).2.1 := by decide +kernel
theorem tyX18_ok : ∀ k, k < 2 → parseFieldDescriptor (TX18 k).2.2.1 = some (tyX18 k) := by decide +kernel
abbrev cX18_init : ByteArray := prog_8_method_1_code
def yX18_init : MethodName := ⟨RX18, "<init>", "(II)V"⟩
def dkwX18_init_0 : List UInt8 := [42, 183, 0, 1, 42, 27, 181, 0, 7, 42, 28, 181, 0, 13, 177]
abbrev dktX18_init_0 : List UInt8 := dkwX18_init_0 ++ []
theorem dksX18_init_0 : cX18_init.data.toList.drop 0 = dktX18_init_0 := by decide +kernel
theorem dX18_init_0 : decode cX18_init 0 = .ok (.aload_n 0, 1) := dk_42 (dk_at dksX18_init_0 0 rfl rfl)
theorem dX18_init_1 : decode cX18_init 1 = .ok (.invokespecial 1, 3) := dk_183 0 1 (dk_at dksX18_init_0 1 rfl rfl)
theorem dX18_init_4 : decode cX18_init 4 = .ok (.aload_n 0, 1) := dk_42 (dk_at dksX18_init_0 4 rfl rfl)
theorem dX18_init_5 : decode cX18_init 5 = .ok (.iload_n 1, 1) := dk_27 (dk_at dksX18_init_0 5 rfl rfl)
theorem dX18_init_6 : decode cX18_init 6 = .ok (.putfield 7, 3) := dk_181 0 7 (dk_at dksX18_init_0 6 rfl rfl)
theorem dX18_init_9 : decode cX18_init 9 = .ok (.aload_n 0, 1) := dk_42 (dk_at dksX18_init_0 9 rfl rfl)
theorem dX18_init_10 : decode cX18_init 10 = .ok (.iload_n 2, 1) := dk_28 (dk_at dksX18_init_0 10 rfl rfl)
theorem dX18_init_11 : decode cX18_init 11 = .ok (.putfield 13, 3) := dk_181 0 13 (dk_at dksX18_init_0 11 rfl rfl)
theorem dX18_init_14 : decode cX18_init 14 = .ok (.return_, 1) := dk_177 (dk_at dksX18_init_0 14 rfl rfl)
theorem q167 : (Jvm.Cond.initialized "EdgeSums$Clue") ∈ lw_all := lw_g (lw_at lw_m1 43 rfl) rfl
theorem q1093 : (Jvm.Cond.selects "EdgeSums$Clue" ({ cls := "java/lang/Object", name := "getClass", desc := "()Ljava/lang/Class;" } : Jvm.MethodName) ({ cls := "java/lang/Object", name := "getClass", desc := "()Ljava/lang/Class;" } : Jvm.MethodName)) ∈ lw_all := lw_g (lw_at lw_m5 9 rfl) rfl
theorem q1476 : (Jvm.Cond.instantiable "EdgeSums$Clue" (2 : Nat)) ∈ lw_all := lw_g (lw_at lw_m6 152 rfl) rfl
theorem q1483 : (Jvm.Cond.instanceMethod ({ cls := "EdgeSums$Clue", name := "<init>", desc := "(II)V" } : Jvm.MethodName)) ∈ lw_all := lw_g (lw_at lw_m6 159 rfl) rfl
theorem q1484 : (Jvm.Cond.code ({ cls := "EdgeSums$Clue", name := "<init>", desc := "(II)V" } : Jvm.MethodName) prog_8_method_1_code (3 : Nat) (Option.none : Option Jvm.ClassFile.FieldType)) ∈ lw_all := lw_g (lw_at lw_m6 160 rfl) rfl
theorem q1485 : (Jvm.Cond.methodLink "EdgeSums$Clue" (1 : Nat) ({ cls := "java/lang/Object", name := "<init>", desc := "()V" } : Jvm.MethodName)) ∈ lw_all := lw_g (lw_at lw_m6 161 rfl) rfl
theorem q1486 : (Jvm.Cond.fieldLink "EdgeSums$Clue" (7 : Nat) "EdgeSums$Clue" "index" "I") ∈ lw_all := lw_g (lw_at lw_m6 162 rfl) rfl
theorem q1491 : (Jvm.Cond.fieldLink "EdgeSums$Clue" (13 : Nat) "EdgeSums$Clue" "value" "I") ∈ lw_all := lw_g (lw_at lw_m6 167 rfl) rfl
theorem q1493 : (Jvm.Cond.laysFinal "EdgeSums$Clue" "EdgeSums$Clue" "index" "I") ∈ lw_all := lw_g (lw_at lw_m6 169 rfl) rfl
theorem q1494 : (Jvm.Cond.soleField "EdgeSums$Clue" "index") ∈ lw_all := lw_g (lw_at lw_m6 170 rfl) rfl
theorem q1495 : (Jvm.Cond.laysFinal "EdgeSums$Clue" "EdgeSums$Clue" "value" "I") ∈ lw_all := lw_g (lw_at lw_m6 171 rfl) rfl
theorem q1496 : (Jvm.Cond.soleField "EdgeSums$Clue" "value") ∈ lw_all := lw_g (lw_at lw_m6 172 rfl) rfl
theorem q1497 : (Jvm.Cond.superclass "EdgeSums$Clue" "java/lang/Object") ∈ lw_all := lw_g (lw_at lw_m6 173 rfl) rfl
theorem q3213 : (Jvm.Cond.castable "EdgeSums$Clue" "java/lang/Object") ∈ lw_tbl := lw_at lw_m13 209 rfl
theorem in_X18 : ∀ w ∈ wsX180, w ∈ lw_all := lw_in wsX180 [1493, 1495] (by decide +kernel) (by decide +kernel)
/-! EdgeSums$Parser -/
set_option maxRecDepth 100000
def RX19 : String := "EdgeSums$Parser"
def TX19 : u_T := fun k => match k with
  | 0 => ("EdgeSums$Parser", "into", "LEdgeSums$State;", true)
  | 1 => ("EdgeSums$Parser", "position", "I", false)
  | 2 => ("EdgeSums$Parser", "token", "LEdgeSums$Slice;", false)
  | _ => ("EdgeSums$Parser", "this$0", "LEdgeSums;", true)
def tyX19 : Nat → FieldType := fun k => match k with
  | 0 => .object "EdgeSums$State"
  | 1 => .int
  | 2 => .object "EdgeSums$Slice"
  | _ => .object "EdgeSums"
abbrev wsX190 : List Cond := u_ws RX19 TX19 4
theorem nmX19 : ∀ a, a < 4 → ∀ b, b < 4 → a ≠ b → (TX19 a).2.1 ≠ (TX19 b).2.1 := by decide +kernel
theorem tyX19_ok : ∀ k, k < 4 → parseFieldDescriptor (TX19 k).2.2.1 = some (tyX19 k) := by decide +kernel
abbrev cX19_init : ByteArray := prog_16_method_1_code
def yX19_init : MethodName := ⟨RX19, "<init>", "(LEdgeSums;)V"⟩
def dkwX19_init_0 : List UInt8 := [42, 43, 181, 0, 3, 42, 183, 0, 9, 42, 42, 180, 0, 3, 180, 0, 15, 182, 0, 19, 181, 0, 25, 177]
abbrev dktX19_init_0 : List UInt8 := dkwX19_init_0 ++ []
theorem dksX19_init_0 : cX19_init.data.toList.drop 0 = dktX19_init_0 := by decide +kernel
theorem dX19_init_0 : decode cX19_init 0 = .ok (.aload_n 0, 1) := dk_42 (dk_at dksX19_init_0 0 rfl rfl)
theorem dX19_init_1 : decode cX19_init 1 = .ok (.aload_n 1, 1) := dk_43 (dk_at dksX19_init_0 1 rfl rfl)
theorem dX19_init_2 : decode cX19_init 2 = .ok (.putfield 3, 3) := dk_181 0 3 (dk_at dksX19_init_0 2 rfl rfl)
theorem dX19_init_5 : decode cX19_init 5 = .ok (.aload_n 0, 1) := dk_42 (dk_at dksX19_init_0 5 rfl rfl)
theorem dX19_init_6 : decode cX19_init 6 = .ok (.invokespecial 9, 3) := dk_183 0 9 (dk_at dksX19_init_0 6 rfl rfl)
theorem dX19_init_9 : decode cX19_init 9 = .ok (.aload_n 0, 1) := dk_42 (dk_at dksX19_init_0 9 rfl rfl)
theorem dX19_init_10 : decode cX19_init 10 = .ok (.aload_n 0, 1) := dk_42 (dk_at dksX19_init_0 10 rfl rfl)
theorem dX19_init_11 : decode cX19_init 11 = .ok (.getfield 3, 3) := dk_180 0 3 (dk_at dksX19_init_0 11 rfl rfl)
theorem dX19_init_14 : decode cX19_init 14 = .ok (.getfield 15, 3) := dk_180 0 15 (dk_at dksX19_init_0 14 rfl rfl)
theorem dX19_init_17 : decode cX19_init 17 = .ok (.invokevirtual 19, 3) := dk_182 0 19 (dk_at dksX19_init_0 17 rfl rfl)
theorem dX19_init_20 : decode cX19_init 20 = .ok (.putfield 25, 3) := dk_181 0 25 (dk_at dksX19_init_0 20 rfl rfl)
theorem dX19_init_23 : decode cX19_init 23 = .ok (.return_, 1) := dk_177 (dk_at dksX19_init_0 23 rfl rfl)
abbrev cX19_items : ByteArray := prog_16_method_16_code
def yX19_items : MethodName := ⟨RX19, "items", "()I"⟩
def dkwX19_items_1 : List UInt8 := [182, 0, 250, 132, 1, 1, 167, 255, 232, 42, 180, 0, 25, 180, 0, 151, 182, 0, 253, 27, 172]
abbrev dktX19_items_1 : List UInt8 := dkwX19_items_1 ++ []
def dkwX19_items_0 : List UInt8 := [3, 60, 42, 182, 0, 88, 42, 180, 0, 69, 182, 0, 95, 158, 0, 20, 42, 42, 180, 0, 69, 184, 0, 246]
abbrev dktX19_items_0 : List UInt8 := dkwX19_items_0 ++ dktX19_items_1
theorem dksX19_items_0 : cX19_items.data.toList.drop 0 = dktX19_items_0 := by decide +kernel
theorem dksX19_items_1 : cX19_items.data.toList.drop 24 = dktX19_items_1 := dk_seg dksX19_items_0 24 rfl rfl
theorem dX19_items_0 : decode cX19_items 0 = .ok (.iconst 0, 1) := dk_3 (dk_at dksX19_items_0 0 rfl rfl)
theorem dX19_items_1 : decode cX19_items 1 = .ok (.istore_n 1, 1) := dk_60 (dk_at dksX19_items_0 1 rfl rfl)
theorem dX19_items_2 : decode cX19_items 2 = .ok (.aload_n 0, 1) := dk_42 (dk_at dksX19_items_0 2 rfl rfl)
theorem dX19_items_3 : decode cX19_items 3 = .ok (.invokevirtual 88, 3) := dk_182 0 88 (dk_at dksX19_items_0 3 rfl rfl)
theorem dX19_items_6 : decode cX19_items 6 = .ok (.aload_n 0, 1) := dk_42 (dk_at dksX19_items_0 6 rfl rfl)
theorem dX19_items_7 : decode cX19_items 7 = .ok (.getfield 69, 3) := dk_180 0 69 (dk_at dksX19_items_0 7 rfl rfl)
theorem dX19_items_10 : decode cX19_items 10 = .ok (.invokevirtual 95, 3) := dk_182 0 95 (dk_at dksX19_items_0 10 rfl rfl)
theorem dX19_items_13 : decode cX19_items 13 = .ok (.ifCond .le 20, 3) := dk_158 0 20 (dk_at dksX19_items_0 13 rfl rfl)
theorem dX19_items_16 : decode cX19_items 16 = .ok (.aload_n 0, 1) := dk_42 (dk_at dksX19_items_0 16 rfl rfl)
theorem dX19_items_17 : decode cX19_items 17 = .ok (.aload_n 0, 1) := dk_42 (dk_at dksX19_items_0 17 rfl rfl)
theorem dX19_items_18 : decode cX19_items 18 = .ok (.getfield 69, 3) := dk_180 0 69 (dk_at dksX19_items_0 18 rfl rfl)
theorem dX19_items_21 : decode cX19_items 21 = .ok (.invokestatic 246, 3) := dk_184 0 246 (dk_at dksX19_items_0 21 rfl rfl)
theorem dX19_items_24 : decode cX19_items 24 = .ok (.invokevirtual 250, 3) := dk_182 0 250 (dk_at dksX19_items_1 0 rfl rfl)
theorem dX19_items_27 : decode cX19_items 27 = .ok (.iinc 1 1, 3) := dk_132 1 1 (dk_at dksX19_items_1 3 rfl rfl)
theorem dX19_items_30 : decode cX19_items 30 = .ok (.goto (-24), 3) := dk_167 255 232 (dk_at dksX19_items_1 6 rfl rfl)
theorem dX19_items_33 : decode cX19_items 33 = .ok (.aload_n 0, 1) := dk_42 (dk_at dksX19_items_1 9 rfl rfl)
theorem dX19_items_34 : decode cX19_items 34 = .ok (.getfield 25, 3) := dk_180 0 25 (dk_at dksX19_items_1 10 rfl rfl)
theorem dX19_items_37 : decode cX19_items 37 = .ok (.getfield 151, 3) := dk_180 0 151 (dk_at dksX19_items_1 13 rfl rfl)
theorem dX19_items_40 : decode cX19_items 40 = .ok (.invokevirtual 253, 3) := dk_182 0 253 (dk_at dksX19_items_1 16 rfl rfl)
theorem dX19_items_43 : decode cX19_items 43 = .ok (.iload_n 1, 1) := dk_27 (dk_at dksX19_items_1 19 rfl rfl)
theorem dX19_items_44 : decode cX19_items 44 = .ok (.ireturn, 1) := dk_172 (dk_at dksX19_items_1 20 rfl rfl)
abbrev cX19_advance : ByteArray := prog_16_method_4_code
def yX19_advance : MethodName := ⟨RX19, "advance", "()V"⟩
def dkwX19_advance_4 : List UInt8 := [180, 0, 28, 183, 0, 66, 181, 0, 69, 177]
abbrev dktX19_advance_4 : List UInt8 := dkwX19_advance_4 ++ []
def dkwX19_advance_3 : List UInt8 := [182, 0, 36, 184, 0, 58, 181, 0, 28, 42, 187, 0, 64, 89, 42, 180, 0, 3, 180, 0, 32, 27, 42]
abbrev dktX19_advance_3 : List UInt8 := dkwX19_advance_3 ++ dktX19_advance_4
def dkwX19_advance_2 : List UInt8 := [16, 48, 16, 57, 182, 0, 54, 167, 0, 26, 42, 42, 180, 0, 28, 4, 96, 42, 180, 0, 3, 180, 0, 32]
abbrev dktX19_advance_2 : List UInt8 := dkwX19_advance_2 ++ dktX19_advance_3
def dkwX19_advance_1 : List UInt8 := [42, 16, 97, 16, 122, 182, 0, 54, 167, 0, 48, 42, 16, 48, 16, 57, 182, 0, 50, 153, 0, 14, 42]
abbrev dktX19_advance_1 : List UInt8 := dkwX19_advance_1 ++ dktX19_advance_2
def dkwX19_advance_0 : List UInt8 := [42, 16, 32, 16, 32, 182, 0, 54, 42, 180, 0, 28, 60, 42, 16, 97, 16, 122, 182, 0, 50, 153, 0, 14]
abbrev dktX19_advance_0 : List UInt8 := dkwX19_advance_0 ++ dktX19_advance_1
theorem dksX19_advance_0 : cX19_advance.data.toList.drop 0 = dktX19_advance_0 := by decide +kernel
theorem dksX19_advance_1 : cX19_advance.data.toList.drop 24 = dktX19_advance_1 := dk_seg dksX19_advance_0 24 rfl rfl
theorem dksX19_advance_2 : cX19_advance.data.toList.drop 47 = dktX19_advance_2 := dk_seg dksX19_advance_1 23 rfl rfl
theorem dksX19_advance_3 : cX19_advance.data.toList.drop 71 = dktX19_advance_3 := dk_seg dksX19_advance_2 24 rfl rfl
theorem dksX19_advance_4 : cX19_advance.data.toList.drop 94 = dktX19_advance_4 := dk_seg dksX19_advance_3 23 rfl rfl
theorem dX19_advance_0 : decode cX19_advance 0 = .ok (.aload_n 0, 1) := dk_42 (dk_at dksX19_advance_0 0 rfl rfl)
theorem dX19_advance_1 : decode cX19_advance 1 = .ok (.bipush 32, 2) := dk_16 32 (dk_at dksX19_advance_0 1 rfl rfl)
theorem dX19_advance_3 : decode cX19_advance 3 = .ok (.bipush 32, 2) := dk_16 32 (dk_at dksX19_advance_0 3 rfl rfl)
theorem dX19_advance_5 : decode cX19_advance 5 = .ok (.invokevirtual 54, 3) := dk_182 0 54 (dk_at dksX19_advance_0 5 rfl rfl)
theorem dX19_advance_8 : decode cX19_advance 8 = .ok (.aload_n 0, 1) := dk_42 (dk_at dksX19_advance_0 8 rfl rfl)
theorem dX19_advance_9 : decode cX19_advance 9 = .ok (.getfield 28, 3) := dk_180 0 28 (dk_at dksX19_advance_0 9 rfl rfl)
theorem dX19_advance_12 : decode cX19_advance 12 = .ok (.istore_n 1, 1) := dk_60 (dk_at dksX19_advance_0 12 rfl rfl)
theorem dX19_advance_13 : decode cX19_advance 13 = .ok (.aload_n 0, 1) := dk_42 (dk_at dksX19_advance_0 13 rfl rfl)
theorem dX19_advance_14 : decode cX19_advance 14 = .ok (.bipush 97, 2) := dk_16 97 (dk_at dksX19_advance_0 14 rfl rfl)
theorem dX19_advance_16 : decode cX19_advance 16 = .ok (.bipush 122, 2) := dk_16 122 (dk_at dksX19_advance_0 16 rfl rfl)
theorem dX19_advance_18 : decode cX19_advance 18 = .ok (.invokevirtual 50, 3) := dk_182 0 50 (dk_at dksX19_advance_0 18 rfl rfl)
theorem dX19_advance_21 : decode cX19_advance 21 = .ok (.ifCond .eq 14, 3) := dk_153 0 14 (dk_at dksX19_advance_0 21 rfl rfl)
theorem dX19_advance_24 : decode cX19_advance 24 = .ok (.aload_n 0, 1) := dk_42 (dk_at dksX19_advance_1 0 rfl rfl)
theorem dX19_advance_25 : decode cX19_advance 25 = .ok (.bipush 97, 2) := dk_16 97 (dk_at dksX19_advance_1 1 rfl rfl)
theorem dX19_advance_27 : decode cX19_advance 27 = .ok (.bipush 122, 2) := dk_16 122 (dk_at dksX19_advance_1 3 rfl rfl)
theorem dX19_advance_29 : decode cX19_advance 29 = .ok (.invokevirtual 54, 3) := dk_182 0 54 (dk_at dksX19_advance_1 5 rfl rfl)
theorem dX19_advance_32 : decode cX19_advance 32 = .ok (.goto 48, 3) := dk_167 0 48 (dk_at dksX19_advance_1 8 rfl rfl)
theorem dX19_advance_35 : decode cX19_advance 35 = .ok (.aload_n 0, 1) := dk_42 (dk_at dksX19_advance_1 11 rfl rfl)
theorem dX19_advance_36 : decode cX19_advance 36 = .ok (.bipush 48, 2) := dk_16 48 (dk_at dksX19_advance_1 12 rfl rfl)
theorem dX19_advance_38 : decode cX19_advance 38 = .ok (.bipush 57, 2) := dk_16 57 (dk_at dksX19_advance_1 14 rfl rfl)
theorem dX19_advance_40 : decode cX19_advance 40 = .ok (.invokevirtual 50, 3) := dk_182 0 50 (dk_at dksX19_advance_1 16 rfl rfl)
theorem dX19_advance_43 : decode cX19_advance 43 = .ok (.ifCond .eq 14, 3) := dk_153 0 14 (dk_at dksX19_advance_1 19 rfl rfl)
theorem dX19_advance_46 : decode cX19_advance 46 = .ok (.aload_n 0, 1) := dk_42 (dk_at dksX19_advance_1 22 rfl rfl)
theorem dX19_advance_47 : decode cX19_advance 47 = .ok (.bipush 48, 2) := dk_16 48 (dk_at dksX19_advance_2 0 rfl rfl)
theorem dX19_advance_49 : decode cX19_advance 49 = .ok (.bipush 57, 2) := dk_16 57 (dk_at dksX19_advance_2 2 rfl rfl)
theorem dX19_advance_51 : decode cX19_advance 51 = .ok (.invokevirtual 54, 3) := dk_182 0 54 (dk_at dksX19_advance_2 4 rfl rfl)
theorem dX19_advance_54 : decode cX19_advance 54 = .ok (.goto 26, 3) := dk_167 0 26 (dk_at dksX19_advance_2 7 rfl rfl)
theorem dX19_advance_57 : decode cX19_advance 57 = .ok (.aload_n 0, 1) := dk_42 (dk_at dksX19_advance_2 10 rfl rfl)
theorem dX19_advance_58 : decode cX19_advance 58 = .ok (.aload_n 0, 1) := dk_42 (dk_at dksX19_advance_2 11 rfl rfl)
theorem dX19_advance_59 : decode cX19_advance 59 = .ok (.getfield 28, 3) := dk_180 0 28 (dk_at dksX19_advance_2 12 rfl rfl)
theorem dX19_advance_62 : decode cX19_advance 62 = .ok (.iconst 1, 1) := dk_4 (dk_at dksX19_advance_2 15 rfl rfl)
theorem dX19_advance_63 : decode cX19_advance 63 = .ok (.iadd, 1) := dk_96 (dk_at dksX19_advance_2 16 rfl rfl)
theorem dX19_advance_64 : decode cX19_advance 64 = .ok (.aload_n 0, 1) := dk_42 (dk_at dksX19_advance_2 17 rfl rfl)
theorem dX19_advance_65 : decode cX19_advance 65 = .ok (.getfield 3, 3) := dk_180 0 3 (dk_at dksX19_advance_2 18 rfl rfl)
theorem dX19_advance_68 : decode cX19_advance 68 = .ok (.getfield 32, 3) := dk_180 0 32 (dk_at dksX19_advance_2 21 rfl rfl)
theorem dX19_advance_71 : decode cX19_advance 71 = .ok (.invokevirtual 36, 3) := dk_182 0 36 (dk_at dksX19_advance_3 0 rfl rfl)
theorem dX19_advance_74 : decode cX19_advance 74 = .ok (.invokestatic 58, 3) := dk_184 0 58 (dk_at dksX19_advance_3 3 rfl rfl)
theorem dX19_advance_77 : decode cX19_advance 77 = .ok (.putfield 28, 3) := dk_181 0 28 (dk_at dksX19_advance_3 6 rfl rfl)
theorem dX19_advance_80 : decode cX19_advance 80 = .ok (.aload_n 0, 1) := dk_42 (dk_at dksX19_advance_3 9 rfl rfl)
theorem dX19_advance_81 : decode cX19_advance 81 = .ok (.new 64, 3) := dk_187 0 64 (dk_at dksX19_advance_3 10 rfl rfl)
theorem dX19_advance_84 : decode cX19_advance 84 = .ok (.dup, 1) := dk_89 (dk_at dksX19_advance_3 13 rfl rfl)
theorem dX19_advance_85 : decode cX19_advance 85 = .ok (.aload_n 0, 1) := dk_42 (dk_at dksX19_advance_3 14 rfl rfl)
theorem dX19_advance_86 : decode cX19_advance 86 = .ok (.getfield 3, 3) := dk_180 0 3 (dk_at dksX19_advance_3 15 rfl rfl)
theorem dX19_advance_89 : decode cX19_advance 89 = .ok (.getfield 32, 3) := dk_180 0 32 (dk_at dksX19_advance_3 18 rfl rfl)
theorem dX19_advance_92 : decode cX19_advance 92 = .ok (.iload_n 1, 1) := dk_27 (dk_at dksX19_advance_3 21 rfl rfl)
theorem dX19_advance_93 : decode cX19_advance 93 = .ok (.aload_n 0, 1) := dk_42 (dk_at dksX19_advance_3 22 rfl rfl)
theorem dX19_advance_94 : decode cX19_advance 94 = .ok (.getfield 28, 3) := dk_180 0 28 (dk_at dksX19_advance_4 0 rfl rfl)
theorem dX19_advance_97 : decode cX19_advance 97 = .ok (.invokespecial 66, 3) := dk_183 0 66 (dk_at dksX19_advance_4 3 rfl rfl)
theorem dX19_advance_100 : decode cX19_advance 100 = .ok (.putfield 69, 3) := dk_181 0 69 (dk_at dksX19_advance_4 6 rfl rfl)
theorem dX19_advance_103 : decode cX19_advance 103 = .ok (.return_, 1) := dk_177 (dk_at dksX19_advance_4 9 rfl rfl)
abbrev cX19_run : ByteArray := prog_16_method_3_code
def yX19_run : MethodName := ⟨RX19, "run", "(CC)V"⟩
def dkwX19_run_0 : List UInt8 := [42, 27, 28, 182, 0, 50, 153, 0, 16, 42, 89, 180, 0, 28, 4, 96, 181, 0, 28, 167, 255, 237, 177]
abbrev dktX19_run_0 : List UInt8 := dkwX19_run_0 ++ []
theorem dksX19_run_0 : cX19_run.data.toList.drop 0 = dktX19_run_0 := by decide +kernel
theorem dX19_run_0 : decode cX19_run 0 = .ok (.aload_n 0, 1) := dk_42 (dk_at dksX19_run_0 0 rfl rfl)
theorem dX19_run_1 : decode cX19_run 1 = .ok (.iload_n 1, 1) := dk_27 (dk_at dksX19_run_0 1 rfl rfl)
theorem dX19_run_2 : decode cX19_run 2 = .ok (.iload_n 2, 1) := dk_28 (dk_at dksX19_run_0 2 rfl rfl)
theorem dX19_run_3 : decode cX19_run 3 = .ok (.invokevirtual 50, 3) := dk_182 0 50 (dk_at dksX19_run_0 3 rfl rfl)
theorem dX19_run_6 : decode cX19_run 6 = .ok (.ifCond .eq 16, 3) := dk_153 0 16 (dk_at dksX19_run_0 6 rfl rfl)
theorem dX19_run_9 : decode cX19_run 9 = .ok (.aload_n 0, 1) := dk_42 (dk_at dksX19_run_0 9 rfl rfl)
theorem dX19_run_10 : decode cX19_run 10 = .ok (.dup, 1) := dk_89 (dk_at dksX19_run_0 10 rfl rfl)
theorem dX19_run_11 : decode cX19_run 11 = .ok (.getfield 28, 3) := dk_180 0 28 (dk_at dksX19_run_0 11 rfl rfl)
theorem dX19_run_14 : decode cX19_run 14 = .ok (.iconst 1, 1) := dk_4 (dk_at dksX19_run_0 14 rfl rfl)
theorem dX19_run_15 : decode cX19_run 15 = .ok (.iadd, 1) := dk_96 (dk_at dksX19_run_0 15 rfl rfl)
theorem dX19_run_16 : decode cX19_run 16 = .ok (.putfield 28, 3) := dk_181 0 28 (dk_at dksX19_run_0 16 rfl rfl)
theorem dX19_run_19 : decode cX19_run 19 = .ok (.goto (-19), 3) := dk_167 255 237 (dk_at dksX19_run_0 19 rfl rfl)
theorem dX19_run_22 : decode cX19_run 22 = .ok (.return_, 1) := dk_177 (dk_at dksX19_run_0 22 rfl rfl)
abbrev cX19_isAt : ByteArray := prog_16_method_2_code
def yX19_isAt : MethodName := ⟨RX19, "isAt", "(CC)Z"⟩
def dkwX19_isAt_1 : List UInt8 := [42, 180, 0, 28, 182, 0, 42, 27, 28, 184, 0, 46, 153, 0, 7, 4, 167, 0, 4, 3, 172]
abbrev dktX19_isAt_1 : List UInt8 := dkwX19_isAt_1 ++ []
def dkwX19_isAt_0 : List UInt8 := [42, 180, 0, 28, 42, 180, 0, 3, 180, 0, 32, 182, 0, 36, 162, 0, 29, 42, 180, 0, 3, 180, 0, 32]
abbrev dktX19_isAt_0 : List UInt8 := dkwX19_isAt_0 ++ dktX19_isAt_1
theorem dksX19_isAt_0 : cX19_isAt.data.toList.drop 0 = dktX19_isAt_0 := by decide +kernel
theorem dksX19_isAt_1 : cX19_isAt.data.toList.drop 24 = dktX19_isAt_1 := dk_seg dksX19_isAt_0 24 rfl rfl
theorem dX19_isAt_0 : decode cX19_isAt 0 = .ok (.aload_n 0, 1) := dk_42 (dk_at dksX19_isAt_0 0 rfl rfl)
theorem dX19_isAt_1 : decode cX19_isAt 1 = .ok (.getfield 28, 3) := dk_180 0 28 (dk_at dksX19_isAt_0 1 rfl rfl)
theorem dX19_isAt_4 : decode cX19_isAt 4 = .ok (.aload_n 0, 1) := dk_42 (dk_at dksX19_isAt_0 4 rfl rfl)
theorem dX19_isAt_5 : decode cX19_isAt 5 = .ok (.getfield 3, 3) := dk_180 0 3 (dk_at dksX19_isAt_0 5 rfl rfl)
theorem dX19_isAt_8 : decode cX19_isAt 8 = .ok (.getfield 32, 3) := dk_180 0 32 (dk_at dksX19_isAt_0 8 rfl rfl)
theorem dX19_isAt_11 : decode cX19_isAt 11 = .ok (.invokevirtual 36, 3) := dk_182 0 36 (dk_at dksX19_isAt_0 11 rfl rfl)
theorem dX19_isAt_14 : decode cX19_isAt 14 = .ok (.if_icmp .ge 29, 3) := dk_162 0 29 (dk_at dksX19_isAt_0 14 rfl rfl)
theorem dX19_isAt_17 : decode cX19_isAt 17 = .ok (.aload_n 0, 1) := dk_42 (dk_at dksX19_isAt_0 17 rfl rfl)
theorem dX19_isAt_18 : decode cX19_isAt 18 = .ok (.getfield 3, 3) := dk_180 0 3 (dk_at dksX19_isAt_0 18 rfl rfl)
theorem dX19_isAt_21 : decode cX19_isAt 21 = .ok (.getfield 32, 3) := dk_180 0 32 (dk_at dksX19_isAt_0 21 rfl rfl)
theorem dX19_isAt_24 : decode cX19_isAt 24 = .ok (.aload_n 0, 1) := dk_42 (dk_at dksX19_isAt_1 0 rfl rfl)
theorem dX19_isAt_25 : decode cX19_isAt 25 = .ok (.getfield 28, 3) := dk_180 0 28 (dk_at dksX19_isAt_1 1 rfl rfl)
theorem dX19_isAt_28 : decode cX19_isAt 28 = .ok (.invokevirtual 42, 3) := dk_182 0 42 (dk_at dksX19_isAt_1 4 rfl rfl)
theorem dX19_isAt_31 : decode cX19_isAt 31 = .ok (.iload_n 1, 1) := dk_27 (dk_at dksX19_isAt_1 7 rfl rfl)
theorem dX19_isAt_32 : decode cX19_isAt 32 = .ok (.iload_n 2, 1) := dk_28 (dk_at dksX19_isAt_1 8 rfl rfl)
theorem dX19_isAt_33 : decode cX19_isAt 33 = .ok (.invokestatic 46, 3) := dk_184 0 46 (dk_at dksX19_isAt_1 9 rfl rfl)
theorem dX19_isAt_36 : decode cX19_isAt 36 = .ok (.ifCond .eq 7, 3) := dk_153 0 7 (dk_at dksX19_isAt_1 12 rfl rfl)
theorem dX19_isAt_39 : decode cX19_isAt 39 = .ok (.iconst 1, 1) := dk_4 (dk_at dksX19_isAt_1 15 rfl rfl)
theorem dX19_isAt_40 : decode cX19_isAt 40 = .ok (.goto 4, 3) := dk_167 0 4 (dk_at dksX19_isAt_1 16 rfl rfl)
theorem dX19_isAt_43 : decode cX19_isAt 43 = .ok (.iconst 0, 1) := dk_3 (dk_at dksX19_isAt_1 19 rfl rfl)
theorem dX19_isAt_44 : decode cX19_isAt 44 = .ok (.ireturn, 1) := dk_172 (dk_at dksX19_isAt_1 20 rfl rfl)
abbrev cX19_kind : ByteArray := prog_16_method_15_code
def yX19_kind : MethodName := ⟨RX19, "kind", "(Ljava/lang/CharSequence;)I"⟩
def dkwX19_kind_8 : List UInt8 := [16, 157, 172]
abbrev dktX19_kind_8 : List UInt8 := dkwX19_kind_8 ++ []
def dkwX19_kind_7 : List UInt8 := [3, 167, 0, 25, 4, 167, 0, 21, 5, 167, 0, 17, 6, 167, 0, 13, 7, 167, 0, 9, 8, 167, 0, 5]
abbrev dktX19_kind_7 : List UInt8 := dkwX19_kind_7 ++ dktX19_kind_8
def dkwX19_kind_6 : List UInt8 := [170, 0, 0, 0, 0, 62, 0, 0, 0, 0, 0, 0, 0, 5, 0, 0, 0, 38, 0, 0, 0, 42, 0, 0, 0, 46, 0, 0, 0, 50, 0, 0, 0, 54, 0, 0, 0, 58]
abbrev dktX19_kind_6 : List UInt8 := dkwX19_kind_6 ++ dktX19_kind_7
def dkwX19_kind_5 : List UInt8 := [18, 245, 182, 0, 191, 153, 0, 5, 8, 61, 28]
abbrev dktX19_kind_5 : List UInt8 := dkwX19_kind_5 ++ dktX19_kind_6
def dkwX19_kind_4 : List UInt8 := [153, 0, 33, 6, 61, 167, 0, 28, 43, 18, 243, 182, 0, 191, 153, 0, 19, 7, 61, 167, 0, 14, 43]
abbrev dktX19_kind_4 : List UInt8 := dkwX19_kind_4 ++ dktX19_kind_5
def dkwX19_kind_3 : List UInt8 := [61, 167, 0, 56, 43, 18, 239, 182, 0, 191, 153, 0, 47, 5, 61, 167, 0, 42, 43, 18, 241, 182, 0, 191]
abbrev dktX19_kind_3 : List UInt8 := dkwX19_kind_3 ++ dktX19_kind_4
def dkwX19_kind_2 : List UInt8 := [43, 18, 237, 182, 0, 191, 153, 0, 75, 3, 61, 167, 0, 70, 43, 18, 238, 182, 0, 191, 153, 0, 61, 4]
abbrev dktX19_kind_2 : List UInt8 := dkwX19_kind_2 ++ dktX19_kind_3
def dkwX19_kind_1 : List UInt8 := [171, 0, 0, 0, 0, 0, 140, 0, 0, 0, 6, 171, 202, 63, 190, 0, 0, 0, 73, 0, 48, 107, 17, 0, 0, 0, 87, 0, 52, 98, 143, 0, 0, 0, 59, 0, 54, 11, 136, 0, 0, 0, 101, 5, 167, 74, 70, 0, 0, 0, 129, 6, 125, 72, 247, 0, 0, 0, 115]
abbrev dktX19_kind_1 : List UInt8 := dkwX19_kind_1 ++ dktX19_kind_2
def dkwX19_kind_0 : List UInt8 := [42, 185, 0, 234, 1, 0, 76, 2, 61, 43, 182, 0, 184]
abbrev dktX19_kind_0 : List UInt8 := dkwX19_kind_0 ++ dktX19_kind_1
theorem dksX19_kind_0 : cX19_kind.data.toList.drop 0 = dktX19_kind_0 := by decide +kernel
theorem dksX19_kind_1 : cX19_kind.data.toList.drop 13 = dktX19_kind_1 := dk_seg dksX19_kind_0 13 rfl rfl
theorem dksX19_kind_2 : cX19_kind.data.toList.drop 72 = dktX19_kind_2 := dk_seg dksX19_kind_1 59 rfl rfl
theorem dksX19_kind_3 : cX19_kind.data.toList.drop 96 = dktX19_kind_3 := dk_seg dksX19_kind_2 24 rfl rfl
theorem dksX19_kind_4 : cX19_kind.data.toList.drop 120 = dktX19_kind_4 := dk_seg dksX19_kind_3 24 rfl rfl
theorem dksX19_kind_5 : cX19_kind.data.toList.drop 143 = dktX19_kind_5 := dk_seg dksX19_kind_4 23 rfl rfl
theorem dksX19_kind_6 : cX19_kind.data.toList.drop 154 = dktX19_kind_6 := dk_seg dksX19_kind_5 11 rfl rfl
theorem dksX19_kind_7 : cX19_kind.data.toList.drop 192 = dktX19_kind_7 := dk_seg dksX19_kind_6 38 rfl rfl
theorem dksX19_kind_8 : cX19_kind.data.toList.drop 216 = dktX19_kind_8 := dk_seg dksX19_kind_7 24 rfl rfl
theorem dX19_kind_0 : decode cX19_kind 0 = .ok (.aload_n 0, 1) := dk_42 (dk_at dksX19_kind_0 0 rfl rfl)
theorem dX19_kind_1 : decode cX19_kind 1 = .ok (.invokeinterface 234 1, 5) := by decide +kernel
theorem dX19_kind_6 : decode cX19_kind 6 = .ok (.astore_n 1, 1) := dk_76 (dk_at dksX19_kind_0 6 rfl rfl)
theorem dX19_kind_7 : decode cX19_kind 7 = .ok (.iconst (-1), 1) := dk_2 (dk_at dksX19_kind_0 7 rfl rfl)
theorem dX19_kind_8 : decode cX19_kind 8 = .ok (.istore_n 2, 1) := dk_61 (dk_at dksX19_kind_0 8 rfl rfl)
theorem dX19_kind_9 : decode cX19_kind 9 = .ok (.aload_n 1, 1) := dk_43 (dk_at dksX19_kind_0 9 rfl rfl)
theorem dX19_kind_10 : decode cX19_kind 10 = .ok (.invokevirtual 184, 3) := dk_182 0 184 (dk_at dksX19_kind_0 10 rfl rfl)
theorem dX19_kind_13 : decode cX19_kind 13 = .ok (.lookupswitch 140 #[(-1412808770, 73), (3173137, 87), (3433103, 59), (3541896, 101), (94849606, 129), (108873975, 115)], 59) := by decide +kernel
theorem dX19_kind_72 : decode cX19_kind 72 = .ok (.aload_n 1, 1) := dk_43 (dk_at dksX19_kind_2 0 rfl rfl)
theorem dX19_kind_73 : decode cX19_kind 73 = .ok (.ldc 237, 2) := dk_18 237 (dk_at dksX19_kind_2 1 rfl rfl)
theorem dX19_kind_75 : decode cX19_kind 75 = .ok (.invokevirtual 191, 3) := dk_182 0 191 (dk_at dksX19_kind_2 3 rfl rfl)
theorem dX19_kind_78 : decode cX19_kind 78 = .ok (.ifCond .eq 75, 3) := dk_153 0 75 (dk_at dksX19_kind_2 6 rfl rfl)
theorem dX19_kind_81 : decode cX19_kind 81 = .ok (.iconst 0, 1) := dk_3 (dk_at dksX19_kind_2 9 rfl rfl)
theorem dX19_kind_82 : decode cX19_kind 82 = .ok (.istore_n 2, 1) := dk_61 (dk_at dksX19_kind_2 10 rfl rfl)
theorem dX19_kind_83 : decode cX19_kind 83 = .ok (.goto 70, 3) := dk_167 0 70 (dk_at dksX19_kind_2 11 rfl rfl)
theorem dX19_kind_86 : decode cX19_kind 86 = .ok (.aload_n 1, 1) := dk_43 (dk_at dksX19_kind_2 14 rfl rfl)
theorem dX19_kind_87 : decode cX19_kind 87 = .ok (.ldc 238, 2) := dk_18 238 (dk_at dksX19_kind_2 15 rfl rfl)
theorem dX19_kind_89 : decode cX19_kind 89 = .ok (.invokevirtual 191, 3) := dk_182 0 191 (dk_at dksX19_kind_2 17 rfl rfl)
theorem dX19_kind_92 : decode cX19_kind 92 = .ok (.ifCond .eq 61, 3) := dk_153 0 61 (dk_at dksX19_kind_2 20 rfl rfl)
theorem dX19_kind_95 : decode cX19_kind 95 = .ok (.iconst 1, 1) := dk_4 (dk_at dksX19_kind_2 23 rfl rfl)
theorem dX19_kind_96 : decode cX19_kind 96 = .ok (.istore_n 2, 1) := dk_61 (dk_at dksX19_kind_3 0 rfl rfl)
theorem dX19_kind_97 : decode cX19_kind 97 = .ok (.goto 56, 3) := dk_167 0 56 (dk_at dksX19_kind_3 1 rfl rfl)
theorem dX19_kind_100 : decode cX19_kind 100 = .ok (.aload_n 1, 1) := dk_43 (dk_at dksX19_kind_3 4 rfl rfl)
theorem dX19_kind_101 : decode cX19_kind 101 = .ok (.ldc 239, 2) := dk_18 239 (dk_at dksX19_kind_3 5 rfl rfl)
theorem dX19_kind_103 : decode cX19_kind 103 = .ok (.invokevirtual 191, 3) := dk_182 0 191 (dk_at dksX19_kind_3 7 rfl rfl)
theorem dX19_kind_106 : decode cX19_kind 106 = .ok (.ifCond .eq 47, 3) := dk_153 0 47 (dk_at dksX19_kind_3 10 rfl rfl)
theorem dX19_kind_109 : decode cX19_kind 109 = .ok (.iconst 2, 1) := dk_5 (dk_at dksX19_kind_3 13 rfl rfl)
theorem dX19_kind_110 : decode cX19_kind 110 = .ok (.istore_n 2, 1) := dk_61 (dk_at dksX19_kind_3 14 rfl rfl)
theorem dX19_kind_111 : decode cX19_kind 111 = .ok (.goto 42, 3) := dk_167 0 42 (dk_at dksX19_kind_3 15 rfl rfl)
theorem dX19_kind_114 : decode cX19_kind 114 = .ok (.aload_n 1, 1) := dk_43 (dk_at dksX19_kind_3 18 rfl rfl)
theorem dX19_kind_115 : decode cX19_kind 115 = .ok (.ldc 241, 2) := dk_18 241 (dk_at dksX19_kind_3 19 rfl rfl)
theorem dX19_kind_117 : decode cX19_kind 117 = .ok (.invokevirtual 191, 3) := dk_182 0 191 (dk_at dksX19_kind_3 21 rfl rfl)
theorem dX19_kind_120 : decode cX19_kind 120 = .ok (.ifCond .eq 33, 3) := dk_153 0 33 (dk_at dksX19_kind_4 0 rfl rfl)
theorem dX19_kind_123 : decode cX19_kind 123 = .ok (.iconst 3, 1) := dk_6 (dk_at dksX19_kind_4 3 rfl rfl)
theorem dX19_kind_124 : decode cX19_kind 124 = .ok (.istore_n 2, 1) := dk_61 (dk_at dksX19_kind_4 4 rfl rfl)
theorem dX19_kind_125 : decode cX19_kind 125 = .ok (.goto 28, 3) := dk_167 0 28 (dk_at dksX19_kind_4 5 rfl rfl)
theorem dX19_kind_128 : decode cX19_kind 128 = .ok (.aload_n 1, 1) := dk_43 (dk_at dksX19_kind_4 8 rfl rfl)
theorem dX19_kind_129 : decode cX19_kind 129 = .ok (.ldc 243, 2) := dk_18 243 (dk_at dksX19_kind_4 9 rfl rfl)
theorem dX19_kind_131 : decode cX19_kind 131 = .ok (.invokevirtual 191, 3) := dk_182 0 191 (dk_at dksX19_kind_4 11 rfl rfl)
theorem dX19_kind_134 : decode cX19_kind 134 = .ok (.ifCond .eq 19, 3) := dk_153 0 19 (dk_at dksX19_kind_4 14 rfl rfl)
theorem dX19_kind_137 : decode cX19_kind 137 = .ok (.iconst 4, 1) := dk_7 (dk_at dksX19_kind_4 17 rfl rfl)
theorem dX19_kind_138 : decode cX19_kind 138 = .ok (.istore_n 2, 1) := dk_61 (dk_at dksX19_kind_4 18 rfl rfl)
theorem dX19_kind_139 : decode cX19_kind 139 = .ok (.goto 14, 3) := dk_167 0 14 (dk_at dksX19_kind_4 19 rfl rfl)
theorem dX19_kind_142 : decode cX19_kind 142 = .ok (.aload_n 1, 1) := dk_43 (dk_at dksX19_kind_4 22 rfl rfl)
theorem dX19_kind_143 : decode cX19_kind 143 = .ok (.ldc 245, 2) := dk_18 245 (dk_at dksX19_kind_5 0 rfl rfl)
theorem dX19_kind_145 : decode cX19_kind 145 = .ok (.invokevirtual 191, 3) := dk_182 0 191 (dk_at dksX19_kind_5 2 rfl rfl)
theorem dX19_kind_148 : decode cX19_kind 148 = .ok (.ifCond .eq 5, 3) := dk_153 0 5 (dk_at dksX19_kind_5 5 rfl rfl)
theorem dX19_kind_151 : decode cX19_kind 151 = .ok (.iconst 5, 1) := dk_8 (dk_at dksX19_kind_5 8 rfl rfl)
theorem dX19_kind_152 : decode cX19_kind 152 = .ok (.istore_n 2, 1) := dk_61 (dk_at dksX19_kind_5 9 rfl rfl)
theorem dX19_kind_153 : decode cX19_kind 153 = .ok (.iload_n 2, 1) := dk_28 (dk_at dksX19_kind_5 10 rfl rfl)
theorem dX19_kind_154 : decode cX19_kind 154 = .ok (.tableswitch 62 0 5 #[38, 42, 46, 50, 54, 58], 38) := by decide +kernel
theorem dX19_kind_192 : decode cX19_kind 192 = .ok (.iconst 0, 1) := dk_3 (dk_at dksX19_kind_7 0 rfl rfl)
theorem dX19_kind_193 : decode cX19_kind 193 = .ok (.goto 25, 3) := dk_167 0 25 (dk_at dksX19_kind_7 1 rfl rfl)
theorem dX19_kind_196 : decode cX19_kind 196 = .ok (.iconst 1, 1) := dk_4 (dk_at dksX19_kind_7 4 rfl rfl)
theorem dX19_kind_197 : decode cX19_kind 197 = .ok (.goto 21, 3) := dk_167 0 21 (dk_at dksX19_kind_7 5 rfl rfl)
theorem dX19_kind_200 : decode cX19_kind 200 = .ok (.iconst 2, 1) := dk_5 (dk_at dksX19_kind_7 8 rfl rfl)
theorem dX19_kind_201 : decode cX19_kind 201 = .ok (.goto 17, 3) := dk_167 0 17 (dk_at dksX19_kind_7 9 rfl rfl)
theorem dX19_kind_204 : decode cX19_kind 204 = .ok (.iconst 3, 1) := dk_6 (dk_at dksX19_kind_7 12 rfl rfl)
theorem dX19_kind_205 : decode cX19_kind 205 = .ok (.goto 13, 3) := dk_167 0 13 (dk_at dksX19_kind_7 13 rfl rfl)
theorem dX19_kind_208 : decode cX19_kind 208 = .ok (.iconst 4, 1) := dk_7 (dk_at dksX19_kind_7 16 rfl rfl)
theorem dX19_kind_209 : decode cX19_kind 209 = .ok (.goto 9, 3) := dk_167 0 9 (dk_at dksX19_kind_7 17 rfl rfl)
theorem dX19_kind_212 : decode cX19_kind 212 = .ok (.iconst 5, 1) := dk_8 (dk_at dksX19_kind_7 20 rfl rfl)
theorem dX19_kind_213 : decode cX19_kind 213 = .ok (.goto 5, 3) := dk_167 0 5 (dk_at dksX19_kind_7 21 rfl rfl)
theorem dX19_kind_216 : decode cX19_kind 216 = .ok (.bipush (-99), 2) := dk_16 157 (dk_at dksX19_kind_8 0 rfl rfl)
theorem dX19_kind_218 : decode cX19_kind 218 = .ok (.ireturn, 1) := dk_172 (dk_at dksX19_kind_8 2 rfl rfl)
abbrev cX19_item : ByteArray := prog_16_method_14_code
def yX19_item : MethodName := ⟨RX19, "item", "(I)V"⟩
def dkwX19_item_4 : List UInt8 := [42, 42, 182, 0, 123, 182, 0, 218, 177]
abbrev dktX19_item_4 : List UInt8 := dkwX19_item_4 ++ []
def dkwX19_item_3 : List UInt8 := [42, 180, 0, 25, 180, 0, 151, 42, 8, 16, 31, 182, 0, 208, 181, 0, 229, 167, 0, 7, 42, 182, 0, 232]
abbrev dktX19_item_3 : List UInt8 := dkwX19_item_3 ++ dktX19_item_4
def dkwX19_item_2 : List UInt8 := [42, 182, 0, 221, 167, 0, 44, 42, 182, 0, 223, 167, 0, 37, 42, 27, 5, 100, 182, 0, 226, 167, 0, 27]
abbrev dktX19_item_2 : List UInt8 := dkwX19_item_2 ++ dktX19_item_3
def dkwX19_item_1 : List UInt8 := [170, 0, 0, 0, 0, 0, 0, 80, 0, 0, 0, 0, 0, 0, 0, 4, 0, 0, 0, 36, 0, 0, 0, 43, 0, 0, 0, 50, 0, 0, 0, 50, 0, 0, 0, 60]
abbrev dktX19_item_1 : List UInt8 := dkwX19_item_1 ++ dktX19_item_2
def dkwX19_item_0 : List UInt8 := [42, 27, 16, 157, 159, 0, 7, 4, 167, 0, 4, 3, 182, 0, 218, 27]
abbrev dktX19_item_0 : List UInt8 := dkwX19_item_0 ++ dktX19_item_1
theorem dksX19_item_0 : cX19_item.data.toList.drop 0 = dktX19_item_0 := by decide +kernel
theorem dksX19_item_1 : cX19_item.data.toList.drop 16 = dktX19_item_1 := dk_seg dksX19_item_0 16 rfl rfl
theorem dksX19_item_2 : cX19_item.data.toList.drop 52 = dktX19_item_2 := dk_seg dksX19_item_1 36 rfl rfl
theorem dksX19_item_3 : cX19_item.data.toList.drop 76 = dktX19_item_3 := dk_seg dksX19_item_2 24 rfl rfl
theorem dksX19_item_4 : cX19_item.data.toList.drop 100 = dktX19_item_4 := dk_seg dksX19_item_3 24 rfl rfl
theorem dX19_item_0 : decode cX19_item 0 = .ok (.aload_n 0, 1) := dk_42 (dk_at dksX19_item_0 0 rfl rfl)
theorem dX19_item_1 : decode cX19_item 1 = .ok (.iload_n 1, 1) := dk_27 (dk_at dksX19_item_0 1 rfl rfl)
theorem dX19_item_2 : decode cX19_item 2 = .ok (.bipush (-99), 2) := dk_16 157 (dk_at dksX19_item_0 2 rfl rfl)
theorem dX19_item_4 : decode cX19_item 4 = .ok (.if_icmp .eq 7, 3) := dk_159 0 7 (dk_at dksX19_item_0 4 rfl rfl)
theorem dX19_item_7 : decode cX19_item 7 = .ok (.iconst 1, 1) := dk_4 (dk_at dksX19_item_0 7 rfl rfl)
theorem dX19_item_8 : decode cX19_item 8 = .ok (.goto 4, 3) := dk_167 0 4 (dk_at dksX19_item_0 8 rfl rfl)
theorem dX19_item_11 : decode cX19_item 11 = .ok (.iconst 0, 1) := dk_3 (dk_at dksX19_item_0 11 rfl rfl)
theorem dX19_item_12 : decode cX19_item 12 = .ok (.invokevirtual 218, 3) := dk_182 0 218 (dk_at dksX19_item_0 12 rfl rfl)
theorem dX19_item_15 : decode cX19_item 15 = .ok (.iload_n 1, 1) := dk_27 (dk_at dksX19_item_0 15 rfl rfl)
theorem dX19_item_16 : decode cX19_item 16 = .ok (.tableswitch 80 0 4 #[36, 43, 50, 50, 60], 36) := by decide +kernel
theorem dX19_item_52 : decode cX19_item 52 = .ok (.aload_n 0, 1) := dk_42 (dk_at dksX19_item_2 0 rfl rfl)
theorem dX19_item_53 : decode cX19_item 53 = .ok (.invokevirtual 221, 3) := dk_182 0 221 (dk_at dksX19_item_2 1 rfl rfl)
theorem dX19_item_56 : decode cX19_item 56 = .ok (.goto 44, 3) := dk_167 0 44 (dk_at dksX19_item_2 4 rfl rfl)
theorem dX19_item_59 : decode cX19_item 59 = .ok (.aload_n 0, 1) := dk_42 (dk_at dksX19_item_2 7 rfl rfl)
theorem dX19_item_60 : decode cX19_item 60 = .ok (.invokevirtual 223, 3) := dk_182 0 223 (dk_at dksX19_item_2 8 rfl rfl)
theorem dX19_item_63 : decode cX19_item 63 = .ok (.goto 37, 3) := dk_167 0 37 (dk_at dksX19_item_2 11 rfl rfl)
theorem dX19_item_66 : decode cX19_item 66 = .ok (.aload_n 0, 1) := dk_42 (dk_at dksX19_item_2 14 rfl rfl)
theorem dX19_item_67 : decode cX19_item 67 = .ok (.iload_n 1, 1) := dk_27 (dk_at dksX19_item_2 15 rfl rfl)
theorem dX19_item_68 : decode cX19_item 68 = .ok (.iconst 2, 1) := dk_5 (dk_at dksX19_item_2 16 rfl rfl)
theorem dX19_item_69 : decode cX19_item 69 = .ok (.isub, 1) := dk_100 (dk_at dksX19_item_2 17 rfl rfl)
theorem dX19_item_70 : decode cX19_item 70 = .ok (.invokevirtual 226, 3) := dk_182 0 226 (dk_at dksX19_item_2 18 rfl rfl)
theorem dX19_item_73 : decode cX19_item 73 = .ok (.goto 27, 3) := dk_167 0 27 (dk_at dksX19_item_2 21 rfl rfl)
theorem dX19_item_76 : decode cX19_item 76 = .ok (.aload_n 0, 1) := dk_42 (dk_at dksX19_item_3 0 rfl rfl)
theorem dX19_item_77 : decode cX19_item 77 = .ok (.getfield 25, 3) := dk_180 0 25 (dk_at dksX19_item_3 1 rfl rfl)
theorem dX19_item_80 : decode cX19_item 80 = .ok (.getfield 151, 3) := dk_180 0 151 (dk_at dksX19_item_3 4 rfl rfl)
theorem dX19_item_83 : decode cX19_item 83 = .ok (.aload_n 0, 1) := dk_42 (dk_at dksX19_item_3 7 rfl rfl)
theorem dX19_item_84 : decode cX19_item 84 = .ok (.iconst 5, 1) := dk_8 (dk_at dksX19_item_3 8 rfl rfl)
theorem dX19_item_85 : decode cX19_item 85 = .ok (.bipush 31, 2) := dk_16 31 (dk_at dksX19_item_3 9 rfl rfl)
theorem dX19_item_87 : decode cX19_item 87 = .ok (.invokevirtual 208, 3) := dk_182 0 208 (dk_at dksX19_item_3 11 rfl rfl)
theorem dX19_item_90 : decode cX19_item 90 = .ok (.putfield 229, 3) := dk_181 0 229 (dk_at dksX19_item_3 14 rfl rfl)
theorem dX19_item_93 : decode cX19_item 93 = .ok (.goto 7, 3) := dk_167 0 7 (dk_at dksX19_item_3 17 rfl rfl)
theorem dX19_item_96 : decode cX19_item 96 = .ok (.aload_n 0, 1) := dk_42 (dk_at dksX19_item_3 20 rfl rfl)
theorem dX19_item_97 : decode cX19_item 97 = .ok (.invokevirtual 232, 3) := dk_182 0 232 (dk_at dksX19_item_3 21 rfl rfl)
theorem dX19_item_100 : decode cX19_item 100 = .ok (.aload_n 0, 1) := dk_42 (dk_at dksX19_item_4 0 rfl rfl)
theorem dX19_item_101 : decode cX19_item 101 = .ok (.aload_n 0, 1) := dk_42 (dk_at dksX19_item_4 1 rfl rfl)
theorem dX19_item_102 : decode cX19_item 102 = .ok (.invokevirtual 123, 3) := dk_182 0 123 (dk_at dksX19_item_4 2 rfl rfl)
theorem dX19_item_105 : decode cX19_item 105 = .ok (.invokevirtual 218, 3) := dk_182 0 218 (dk_at dksX19_item_4 5 rfl rfl)
theorem dX19_item_108 : decode cX19_item 108 = .ok (.return_, 1) := dk_177 (dk_at dksX19_item_4 8 rfl rfl)
abbrev cX19_take : ByteArray := prog_16_method_7_code
def yX19_take : MethodName := ⟨RX19, "take", "(Z)V"⟩
def dkwX19_take_0 : List UInt8 := [42, 27, 182, 0, 84, 42, 182, 0, 88, 177]
abbrev dktX19_take_0 : List UInt8 := dkwX19_take_0 ++ []
theorem dksX19_take_0 : cX19_take.data.toList.drop 0 = dktX19_take_0 := by decide +kernel
theorem dX19_take_0 : decode cX19_take 0 = .ok (.aload_n 0, 1) := dk_42 (dk_at dksX19_take_0 0 rfl rfl)
theorem dX19_take_1 : decode cX19_take 1 = .ok (.iload_n 1, 1) := dk_27 (dk_at dksX19_take_0 1 rfl rfl)
theorem dX19_take_2 : decode cX19_take 2 = .ok (.invokevirtual 84, 3) := dk_182 0 84 (dk_at dksX19_take_0 2 rfl rfl)
theorem dX19_take_5 : decode cX19_take 5 = .ok (.aload_n 0, 1) := dk_42 (dk_at dksX19_take_0 5 rfl rfl)
theorem dX19_take_6 : decode cX19_take 6 = .ok (.invokevirtual 88, 3) := dk_182 0 88 (dk_at dksX19_take_0 6 rfl rfl)
theorem dX19_take_9 : decode cX19_take 9 = .ok (.return_, 1) := dk_177 (dk_at dksX19_take_0 9 rfl rfl)
abbrev cX19_need : ByteArray := prog_16_method_6_code
def yX19_need : MethodName := ⟨RX19, "need", "(Z)V"⟩
def dkwX19_need_0 : List UInt8 := [27, 154, 0, 18, 187, 0, 76, 89, 42, 180, 0, 69, 180, 0, 78, 183, 0, 81, 191, 177]
abbrev dktX19_need_0 : List UInt8 := dkwX19_need_0 ++ []
theorem dksX19_need_0 : cX19_need.data.toList.drop 0 = dktX19_need_0 := by decide +kernel
theorem dX19_need_0 : decode cX19_need 0 = .ok (.iload_n 1, 1) := dk_27 (dk_at dksX19_need_0 0 rfl rfl)
theorem dX19_need_1 : decode cX19_need 1 = .ok (.ifCond .ne 18, 3) := dk_154 0 18 (dk_at dksX19_need_0 1 rfl rfl)
theorem dX19_need_4 : decode cX19_need 4 = .ok (.new 76, 3) := dk_187 0 76 (dk_at dksX19_need_0 4 rfl rfl)
theorem dX19_need_7 : decode cX19_need 7 = .ok (.dup, 1) := dk_89 (dk_at dksX19_need_0 7 rfl rfl)
theorem dX19_need_8 : decode cX19_need 8 = .ok (.aload_n 0, 1) := dk_42 (dk_at dksX19_need_0 8 rfl rfl)
theorem dX19_need_9 : decode cX19_need 9 = .ok (.getfield 69, 3) := dk_180 0 69 (dk_at dksX19_need_0 9 rfl rfl)
theorem dX19_need_12 : decode cX19_need 12 = .ok (.getfield 78, 3) := dk_180 0 78 (dk_at dksX19_need_0 12 rfl rfl)
theorem dX19_need_15 : decode cX19_need 15 = .ok (.invokespecial 81, 3) := dk_183 0 81 (dk_at dksX19_need_0 15 rfl rfl)
theorem dX19_need_18 : decode cX19_need 18 = .ok (.athrow, 1) := dk_191 (dk_at dksX19_need_0 18 rfl rfl)
theorem dX19_need_19 : decode cX19_need 19 = .ok (.return_, 1) := dk_177 (dk_at dksX19_need_0 19 rfl rfl)
abbrev cX19_page : ByteArray := prog_16_method_9_code
def yX19_page : MethodName := ⟨RX19, "page", "()V"⟩
def dkwX19_page_9 : List UInt8 := [182, 0, 84, 42, 180, 0, 25, 180, 0, 151, 44, 181, 0, 155, 177]
abbrev dktX19_page_9 : List UInt8 := dkwX19_page_9 ++ []
def dkwX19_page_8 : List UInt8 := [182, 0, 142, 182, 0, 96, 79, 132, 3, 1, 167, 255, 217, 44, 182, 0, 145, 42, 44, 182, 0, 148]
abbrev dktX19_page_8 : List UInt8 := dkwX19_page_8 ++ dktX19_page_9
def dkwX19_page_7 : List UInt8 := [162, 0, 37, 44, 180, 0, 134, 29, 43, 44, 29, 182, 0, 138, 185, 0, 115, 2, 0, 192, 0, 64, 44, 29]
abbrev dktX19_page_7 : List UInt8 := dkwX19_page_7 ++ dktX19_page_8
def dkwX19_page_6 : List UInt8 := [185, 0, 115, 2, 0, 192, 0, 64, 182, 0, 95, 183, 0, 128, 77, 3, 62, 29, 44, 182, 0, 131]
abbrev dktX19_page_6 : List UInt8 := dkwX19_page_6 ++ dktX19_page_7
def dkwX19_page_5 : List UInt8 := [4, 167, 0, 4, 3, 182, 0, 84, 187, 0, 126, 89, 43, 185, 0, 103, 1, 0, 43, 3]
abbrev dktX19_page_5 : List UInt8 := dkwX19_page_5 ++ dktX19_page_6
def dkwX19_page_4 : List UInt8 := [182, 0, 88, 167, 255, 167, 42, 42, 182, 0, 123, 153, 0, 17, 43, 185, 0, 103, 1, 0, 5, 161, 0, 7]
abbrev dktX19_page_4 : List UInt8 := dkwX19_page_4 ++ dktX19_page_5
def dkwX19_page_3 : List UInt8 := [160, 0, 7, 4, 167, 0, 4, 3, 182, 0, 84, 43, 42, 180, 0, 69, 185, 0, 119, 2, 0, 87, 42]
abbrev dktX19_page_3 : List UInt8 := dkwX19_page_3 ++ dktX19_page_4
def dkwX19_page_2 : List UInt8 := [154, 0, 26, 43, 3, 185, 0, 115, 2, 0, 192, 0, 64, 182, 0, 95, 42, 180, 0, 69, 182, 0, 95]
abbrev dktX19_page_2 : List UInt8 := dkwX19_page_2 ++ dktX19_page_3
def dkwX19_page_1 : List UInt8 := [8, 162, 0, 75, 42, 42, 180, 0, 69, 182, 0, 95, 184, 0, 108, 153, 0, 39, 43, 185, 0, 112, 1, 0]
abbrev dktX19_page_1 : List UInt8 := dkwX19_page_1 ++ dktX19_page_2
def dkwX19_page_0 : List UInt8 := [187, 0, 97, 89, 183, 0, 99, 76, 42, 180, 0, 69, 182, 0, 100, 153, 0, 85, 43, 185, 0, 103, 1, 0]
abbrev dktX19_page_0 : List UInt8 := dkwX19_page_0 ++ dktX19_page_1
theorem dksX19_page_0 : cX19_page.data.toList.drop 0 = dktX19_page_0 := by decide +kernel
theorem dksX19_page_1 : cX19_page.data.toList.drop 24 = dktX19_page_1 := dk_seg dksX19_page_0 24 rfl rfl
theorem dksX19_page_2 : cX19_page.data.toList.drop 48 = dktX19_page_2 := dk_seg dksX19_page_1 24 rfl rfl
theorem dksX19_page_3 : cX19_page.data.toList.drop 71 = dktX19_page_3 := dk_seg dksX19_page_2 23 rfl rfl
theorem dksX19_page_4 : cX19_page.data.toList.drop 94 = dktX19_page_4 := dk_seg dksX19_page_3 23 rfl rfl
theorem dksX19_page_5 : cX19_page.data.toList.drop 118 = dktX19_page_5 := dk_seg dksX19_page_4 24 rfl rfl
theorem dksX19_page_6 : cX19_page.data.toList.drop 138 = dktX19_page_6 := dk_seg dksX19_page_5 20 rfl rfl
theorem dksX19_page_7 : cX19_page.data.toList.drop 160 = dktX19_page_7 := dk_seg dksX19_page_6 22 rfl rfl
theorem dksX19_page_8 : cX19_page.data.toList.drop 184 = dktX19_page_8 := dk_seg dksX19_page_7 24 rfl rfl
theorem dksX19_page_9 : cX19_page.data.toList.drop 206 = dktX19_page_9 := dk_seg dksX19_page_8 22 rfl rfl
theorem dX19_page_0 : decode cX19_page 0 = .ok (.new 97, 3) := dk_187 0 97 (dk_at dksX19_page_0 0 rfl rfl)
theorem dX19_page_3 : decode cX19_page 3 = .ok (.dup, 1) := dk_89 (dk_at dksX19_page_0 3 rfl rfl)
theorem dX19_page_4 : decode cX19_page 4 = .ok (.invokespecial 99, 3) := dk_183 0 99 (dk_at dksX19_page_0 4 rfl rfl)
theorem dX19_page_7 : decode cX19_page 7 = .ok (.astore_n 1, 1) := dk_76 (dk_at dksX19_page_0 7 rfl rfl)
theorem dX19_page_8 : decode cX19_page 8 = .ok (.aload_n 0, 1) := dk_42 (dk_at dksX19_page_0 8 rfl rfl)
theorem dX19_page_9 : decode cX19_page 9 = .ok (.getfield 69, 3) := dk_180 0 69 (dk_at dksX19_page_0 9 rfl rfl)
theorem dX19_page_12 : decode cX19_page 12 = .ok (.invokevirtual 100, 3) := dk_182 0 100 (dk_at dksX19_page_0 12 rfl rfl)
theorem dX19_page_15 : decode cX19_page 15 = .ok (.ifCond .eq 85, 3) := dk_153 0 85 (dk_at dksX19_page_0 15 rfl rfl)
theorem dX19_page_18 : decode cX19_page 18 = .ok (.aload_n 1, 1) := dk_43 (dk_at dksX19_page_0 18 rfl rfl)
theorem dX19_page_19 : decode cX19_page 19 = .ok (.invokeinterface 103 1, 5) := by decide +kernel
theorem dX19_page_24 : decode cX19_page 24 = .ok (.iconst 5, 1) := dk_8 (dk_at dksX19_page_1 0 rfl rfl)
theorem dX19_page_25 : decode cX19_page 25 = .ok (.if_icmp .ge 75, 3) := dk_162 0 75 (dk_at dksX19_page_1 1 rfl rfl)
theorem dX19_page_28 : decode cX19_page 28 = .ok (.aload_n 0, 1) := dk_42 (dk_at dksX19_page_1 4 rfl rfl)
theorem dX19_page_29 : decode cX19_page 29 = .ok (.aload_n 0, 1) := dk_42 (dk_at dksX19_page_1 5 rfl rfl)
theorem dX19_page_30 : decode cX19_page 30 = .ok (.getfield 69, 3) := dk_180 0 69 (dk_at dksX19_page_1 6 rfl rfl)
theorem dX19_page_33 : decode cX19_page 33 = .ok (.invokevirtual 95, 3) := dk_182 0 95 (dk_at dksX19_page_1 9 rfl rfl)
theorem dX19_page_36 : decode cX19_page 36 = .ok (.invokestatic 108, 3) := dk_184 0 108 (dk_at dksX19_page_1 12 rfl rfl)
theorem dX19_page_39 : decode cX19_page 39 = .ok (.ifCond .eq 39, 3) := dk_153 0 39 (dk_at dksX19_page_1 15 rfl rfl)
theorem dX19_page_42 : decode cX19_page 42 = .ok (.aload_n 1, 1) := dk_43 (dk_at dksX19_page_1 18 rfl rfl)
theorem dX19_page_43 : decode cX19_page 43 = .ok (.invokeinterface 112 1, 5) := by decide +kernel
theorem dX19_page_48 : decode cX19_page 48 = .ok (.ifCond .ne 26, 3) := dk_154 0 26 (dk_at dksX19_page_2 0 rfl rfl)
theorem dX19_page_51 : decode cX19_page 51 = .ok (.aload_n 1, 1) := dk_43 (dk_at dksX19_page_2 3 rfl rfl)
theorem dX19_page_52 : decode cX19_page 52 = .ok (.iconst 0, 1) := dk_3 (dk_at dksX19_page_2 4 rfl rfl)
theorem dX19_page_53 : decode cX19_page 53 = .ok (.invokeinterface 115 2, 5) := by decide +kernel
theorem dX19_page_58 : decode cX19_page 58 = .ok (.checkcast 64, 3) := dk_192 0 64 (dk_at dksX19_page_2 10 rfl rfl)
theorem dX19_page_61 : decode cX19_page 61 = .ok (.invokevirtual 95, 3) := dk_182 0 95 (dk_at dksX19_page_2 13 rfl rfl)
theorem dX19_page_64 : decode cX19_page 64 = .ok (.aload_n 0, 1) := dk_42 (dk_at dksX19_page_2 16 rfl rfl)
theorem dX19_page_65 : decode cX19_page 65 = .ok (.getfield 69, 3) := dk_180 0 69 (dk_at dksX19_page_2 17 rfl rfl)
theorem dX19_page_68 : decode cX19_page 68 = .ok (.invokevirtual 95, 3) := dk_182 0 95 (dk_at dksX19_page_2 20 rfl rfl)
theorem dX19_page_71 : decode cX19_page 71 = .ok (.if_icmp .ne 7, 3) := dk_160 0 7 (dk_at dksX19_page_3 0 rfl rfl)
theorem dX19_page_74 : decode cX19_page 74 = .ok (.iconst 1, 1) := dk_4 (dk_at dksX19_page_3 3 rfl rfl)
theorem dX19_page_75 : decode cX19_page 75 = .ok (.goto 4, 3) := dk_167 0 4 (dk_at dksX19_page_3 4 rfl rfl)
theorem dX19_page_78 : decode cX19_page 78 = .ok (.iconst 0, 1) := dk_3 (dk_at dksX19_page_3 7 rfl rfl)
theorem dX19_page_79 : decode cX19_page 79 = .ok (.invokevirtual 84, 3) := dk_182 0 84 (dk_at dksX19_page_3 8 rfl rfl)
theorem dX19_page_82 : decode cX19_page 82 = .ok (.aload_n 1, 1) := dk_43 (dk_at dksX19_page_3 11 rfl rfl)
theorem dX19_page_83 : decode cX19_page 83 = .ok (.aload_n 0, 1) := dk_42 (dk_at dksX19_page_3 12 rfl rfl)
theorem dX19_page_84 : decode cX19_page 84 = .ok (.getfield 69, 3) := dk_180 0 69 (dk_at dksX19_page_3 13 rfl rfl)
theorem dX19_page_87 : decode cX19_page 87 = .ok (.invokeinterface 119 2, 5) := by decide +kernel
theorem dX19_page_92 : decode cX19_page 92 = .ok (.pop, 1) := dk_87 (dk_at dksX19_page_3 21 rfl rfl)
theorem dX19_page_93 : decode cX19_page 93 = .ok (.aload_n 0, 1) := dk_42 (dk_at dksX19_page_3 22 rfl rfl)
theorem dX19_page_94 : decode cX19_page 94 = .ok (.invokevirtual 88, 3) := dk_182 0 88 (dk_at dksX19_page_4 0 rfl rfl)
theorem dX19_page_97 : decode cX19_page 97 = .ok (.goto (-89), 3) := dk_167 255 167 (dk_at dksX19_page_4 3 rfl rfl)
theorem dX19_page_100 : decode cX19_page 100 = .ok (.aload_n 0, 1) := dk_42 (dk_at dksX19_page_4 6 rfl rfl)
theorem dX19_page_101 : decode cX19_page 101 = .ok (.aload_n 0, 1) := dk_42 (dk_at dksX19_page_4 7 rfl rfl)
theorem dX19_page_102 : decode cX19_page 102 = .ok (.invokevirtual 123, 3) := dk_182 0 123 (dk_at dksX19_page_4 8 rfl rfl)
theorem dX19_page_105 : decode cX19_page 105 = .ok (.ifCond .eq 17, 3) := dk_153 0 17 (dk_at dksX19_page_4 11 rfl rfl)
theorem dX19_page_108 : decode cX19_page 108 = .ok (.aload_n 1, 1) := dk_43 (dk_at dksX19_page_4 14 rfl rfl)
theorem dX19_page_109 : decode cX19_page 109 = .ok (.invokeinterface 103 1, 5) := by decide +kernel
theorem dX19_page_114 : decode cX19_page 114 = .ok (.iconst 2, 1) := dk_5 (dk_at dksX19_page_4 20 rfl rfl)
theorem dX19_page_115 : decode cX19_page 115 = .ok (.if_icmp .lt 7, 3) := dk_161 0 7 (dk_at dksX19_page_4 21 rfl rfl)
theorem dX19_page_118 : decode cX19_page 118 = .ok (.iconst 1, 1) := dk_4 (dk_at dksX19_page_5 0 rfl rfl)
theorem dX19_page_119 : decode cX19_page 119 = .ok (.goto 4, 3) := dk_167 0 4 (dk_at dksX19_page_5 1 rfl rfl)
theorem dX19_page_122 : decode cX19_page 122 = .ok (.iconst 0, 1) := dk_3 (dk_at dksX19_page_5 4 rfl rfl)
theorem dX19_page_123 : decode cX19_page 123 = .ok (.invokevirtual 84, 3) := dk_182 0 84 (dk_at dksX19_page_5 5 rfl rfl)
theorem dX19_page_126 : decode cX19_page 126 = .ok (.new 126, 3) := dk_187 0 126 (dk_at dksX19_page_5 8 rfl rfl)
theorem dX19_page_129 : decode cX19_page 129 = .ok (.dup, 1) := dk_89 (dk_at dksX19_page_5 11 rfl rfl)
theorem dX19_page_130 : decode cX19_page 130 = .ok (.aload_n 1, 1) := dk_43 (dk_at dksX19_page_5 12 rfl rfl)
theorem dX19_page_131 : decode cX19_page 131 = .ok (.invokeinterface 103 1, 5) := by decide +kernel
theorem dX19_page_136 : decode cX19_page 136 = .ok (.aload_n 1, 1) := dk_43 (dk_at dksX19_page_5 18 rfl rfl)
theorem dX19_page_137 : decode cX19_page 137 = .ok (.iconst 0, 1) := dk_3 (dk_at dksX19_page_5 19 rfl rfl)
theorem dX19_page_138 : decode cX19_page 138 = .ok (.invokeinterface 115 2, 5) := by decide +kernel
theorem dX19_page_143 : decode cX19_page 143 = .ok (.checkcast 64, 3) := dk_192 0 64 (dk_at dksX19_page_6 5 rfl rfl)
theorem dX19_page_146 : decode cX19_page 146 = .ok (.invokevirtual 95, 3) := dk_182 0 95 (dk_at dksX19_page_6 8 rfl rfl)
theorem dX19_page_149 : decode cX19_page 149 = .ok (.invokespecial 128, 3) := dk_183 0 128 (dk_at dksX19_page_6 11 rfl rfl)
theorem dX19_page_152 : decode cX19_page 152 = .ok (.astore_n 2, 1) := dk_77 (dk_at dksX19_page_6 14 rfl rfl)
theorem dX19_page_153 : decode cX19_page 153 = .ok (.iconst 0, 1) := dk_3 (dk_at dksX19_page_6 15 rfl rfl)
theorem dX19_page_154 : decode cX19_page 154 = .ok (.istore_n 3, 1) := dk_62 (dk_at dksX19_page_6 16 rfl rfl)
theorem dX19_page_155 : decode cX19_page 155 = .ok (.iload_n 3, 1) := dk_29 (dk_at dksX19_page_6 17 rfl rfl)
theorem dX19_page_156 : decode cX19_page 156 = .ok (.aload_n 2, 1) := dk_44 (dk_at dksX19_page_6 18 rfl rfl)
theorem dX19_page_157 : decode cX19_page 157 = .ok (.invokevirtual 131, 3) := dk_182 0 131 (dk_at dksX19_page_6 19 rfl rfl)
theorem dX19_page_160 : decode cX19_page 160 = .ok (.if_icmp .ge 37, 3) := dk_162 0 37 (dk_at dksX19_page_7 0 rfl rfl)
theorem dX19_page_163 : decode cX19_page 163 = .ok (.aload_n 2, 1) := dk_44 (dk_at dksX19_page_7 3 rfl rfl)
theorem dX19_page_164 : decode cX19_page 164 = .ok (.getfield 134, 3) := dk_180 0 134 (dk_at dksX19_page_7 4 rfl rfl)
theorem dX19_page_167 : decode cX19_page 167 = .ok (.iload_n 3, 1) := dk_29 (dk_at dksX19_page_7 7 rfl rfl)
theorem dX19_page_168 : decode cX19_page 168 = .ok (.aload_n 1, 1) := dk_43 (dk_at dksX19_page_7 8 rfl rfl)
theorem dX19_page_169 : decode cX19_page 169 = .ok (.aload_n 2, 1) := dk_44 (dk_at dksX19_page_7 9 rfl rfl)
theorem dX19_page_170 : decode cX19_page 170 = .ok (.iload_n 3, 1) := dk_29 (dk_at dksX19_page_7 10 rfl rfl)
theorem dX19_page_171 : decode cX19_page 171 = .ok (.invokevirtual 138, 3) := dk_182 0 138 (dk_at dksX19_page_7 11 rfl rfl)
theorem dX19_page_174 : decode cX19_page 174 = .ok (.invokeinterface 115 2, 5) := by decide +kernel
theorem dX19_page_179 : decode cX19_page 179 = .ok (.checkcast 64, 3) := dk_192 0 64 (dk_at dksX19_page_7 19 rfl rfl)
theorem dX19_page_182 : decode cX19_page 182 = .ok (.aload_n 2, 1) := dk_44 (dk_at dksX19_page_7 22 rfl rfl)
theorem dX19_page_183 : decode cX19_page 183 = .ok (.iload_n 3, 1) := dk_29 (dk_at dksX19_page_7 23 rfl rfl)
theorem dX19_page_184 : decode cX19_page 184 = .ok (.invokevirtual 142, 3) := dk_182 0 142 (dk_at dksX19_page_8 0 rfl rfl)
theorem dX19_page_187 : decode cX19_page 187 = .ok (.invokevirtual 96, 3) := dk_182 0 96 (dk_at dksX19_page_8 3 rfl rfl)
theorem dX19_page_190 : decode cX19_page 190 = .ok (.iastore, 1) := dk_79 (dk_at dksX19_page_8 6 rfl rfl)
theorem dX19_page_191 : decode cX19_page 191 = .ok (.iinc 3 1, 3) := dk_132 3 1 (dk_at dksX19_page_8 7 rfl rfl)
theorem dX19_page_194 : decode cX19_page 194 = .ok (.goto (-39), 3) := dk_167 255 217 (dk_at dksX19_page_8 10 rfl rfl)
theorem dX19_page_197 : decode cX19_page 197 = .ok (.aload_n 2, 1) := dk_44 (dk_at dksX19_page_8 13 rfl rfl)
theorem dX19_page_198 : decode cX19_page 198 = .ok (.invokevirtual 145, 3) := dk_182 0 145 (dk_at dksX19_page_8 14 rfl rfl)
theorem dX19_page_201 : decode cX19_page 201 = .ok (.aload_n 0, 1) := dk_42 (dk_at dksX19_page_8 17 rfl rfl)
theorem dX19_page_202 : decode cX19_page 202 = .ok (.aload_n 2, 1) := dk_44 (dk_at dksX19_page_8 18 rfl rfl)
theorem dX19_page_203 : decode cX19_page 203 = .ok (.invokevirtual 148, 3) := dk_182 0 148 (dk_at dksX19_page_8 19 rfl rfl)
theorem dX19_page_206 : decode cX19_page 206 = .ok (.invokevirtual 84, 3) := dk_182 0 84 (dk_at dksX19_page_9 0 rfl rfl)
theorem dX19_page_209 : decode cX19_page 209 = .ok (.aload_n 0, 1) := dk_42 (dk_at dksX19_page_9 3 rfl rfl)
theorem dX19_page_210 : decode cX19_page 210 = .ok (.getfield 25, 3) := dk_180 0 25 (dk_at dksX19_page_9 4 rfl rfl)
theorem dX19_page_213 : decode cX19_page 213 = .ok (.getfield 151, 3) := dk_180 0 151 (dk_at dksX19_page_9 7 rfl rfl)
theorem dX19_page_216 : decode cX19_page 216 = .ok (.aload_n 2, 1) := dk_44 (dk_at dksX19_page_9 10 rfl rfl)
theorem dX19_page_217 : decode cX19_page 217 = .ok (.putfield 155, 3) := dk_181 0 155 (dk_at dksX19_page_9 11 rfl rfl)
theorem dX19_page_220 : decode cX19_page 220 = .ok (.return_, 1) := dk_177 (dk_at dksX19_page_9 14 rfl rfl)
abbrev cX19_isStop : ByteArray := prog_16_method_5_code
def yX19_isStop : MethodName := ⟨RX19, "isStop", "()Z"⟩
def dkwX19_isStop_0 : List UInt8 := [42, 180, 0, 69, 16, 59, 16, 59, 182, 0, 73, 172]
abbrev dktX19_isStop_0 : List UInt8 := dkwX19_isStop_0 ++ []
theorem dksX19_isStop_0 : cX19_isStop.data.toList.drop 0 = dktX19_isStop_0 := by decide +kernel
theorem dX19_isStop_0 : decode cX19_isStop 0 = .ok (.aload_n 0, 1) := dk_42 (dk_at dksX19_isStop_0 0 rfl rfl)
theorem dX19_isStop_1 : decode cX19_isStop 1 = .ok (.getfield 69, 3) := dk_180 0 69 (dk_at dksX19_isStop_0 1 rfl rfl)
theorem dX19_isStop_4 : decode cX19_isStop 4 = .ok (.bipush 59, 2) := dk_16 59 (dk_at dksX19_isStop_0 4 rfl rfl)
theorem dX19_isStop_6 : decode cX19_isStop 6 = .ok (.bipush 59, 2) := dk_16 59 (dk_at dksX19_isStop_0 6 rfl rfl)
theorem dX19_isStop_8 : decode cX19_isStop 8 = .ok (.invokevirtual 73, 3) := dk_182 0 73 (dk_at dksX19_isStop_0 8 rfl rfl)
theorem dX19_isStop_11 : decode cX19_isStop 11 = .ok (.ireturn, 1) := dk_172 (dk_at dksX19_isStop_0 11 rfl rfl)
abbrev cX19_answer : ByteArray := prog_16_method_10_code
def yX19_answer : MethodName := ⟨RX19, "answer", "()V"⟩
def dkwX19_answer_7 : List UInt8 := [181, 0, 155, 177]
abbrev dktX19_answer_7 : List UInt8 := dkwX19_answer_7 ++ []
def dkwX19_answer_6 : List UInt8 := [132, 3, 1, 167, 255, 178, 42, 182, 0, 88, 132, 2, 1, 167, 255, 125, 42, 180, 0, 25, 180, 0, 151, 43]
abbrev dktX19_answer_6 : List UInt8 := dkwX19_answer_6 ++ dktX19_answer_7
def dkwX19_answer_5 : List UInt8 := [182, 0, 174, 154, 0, 7, 4, 167, 0, 4, 3, 182, 0, 84, 43, 21, 4, 21, 5, 182, 0, 177]
abbrev dktX19_answer_5 : List UInt8 := dkwX19_answer_5 ++ dktX19_answer_6
def dkwX19_answer_4 : List UInt8 := [54, 5, 42, 21, 5, 153, 0, 25, 43, 21, 4, 21, 5, 182, 0, 170, 153, 0, 18, 43, 21, 4, 21, 5]
abbrev dktX19_answer_4 : List UInt8 := dkwX19_answer_4 ++ dktX19_answer_5
def dkwX19_answer_3 : List UInt8 := [162, 0, 76, 43, 180, 0, 167, 28, 104, 29, 96, 54, 4, 42, 180, 0, 69, 29, 182, 0, 96, 16, 48, 100]
abbrev dktX19_answer_3 : List UInt8 := dkwX19_answer_3 ++ dktX19_answer_4
def dkwX19_answer_2 : List UInt8 := [43, 180, 0, 167, 160, 0, 7, 4, 167, 0, 4, 3, 182, 0, 84, 3, 62, 29, 43, 180, 0, 167]
abbrev dktX19_answer_2 : List UInt8 := dkwX19_answer_2 ++ dktX19_answer_3
def dkwX19_answer_1 : List UInt8 := [180, 0, 164, 162, 0, 129, 42, 42, 180, 0, 69, 182, 0, 91, 153, 0, 21, 42, 180, 0, 69, 182, 0, 95]
abbrev dktX19_answer_1 : List UInt8 := dkwX19_answer_1 ++ dktX19_answer_2
def dkwX19_answer_0 : List UInt8 := [187, 0, 126, 89, 42, 180, 0, 25, 180, 0, 151, 180, 0, 155, 183, 0, 161, 76, 3, 61, 28, 43]
abbrev dktX19_answer_0 : List UInt8 := dkwX19_answer_0 ++ dktX19_answer_1
theorem dksX19_answer_0 : cX19_answer.data.toList.drop 0 = dktX19_answer_0 := by decide +kernel
theorem dksX19_answer_1 : cX19_answer.data.toList.drop 22 = dktX19_answer_1 := dk_seg dksX19_answer_0 22 rfl rfl
theorem dksX19_answer_2 : cX19_answer.data.toList.drop 46 = dktX19_answer_2 := dk_seg dksX19_answer_1 24 rfl rfl
theorem dksX19_answer_3 : cX19_answer.data.toList.drop 68 = dktX19_answer_3 := dk_seg dksX19_answer_2 22 rfl rfl
theorem dksX19_answer_4 : cX19_answer.data.toList.drop 92 = dktX19_answer_4 := dk_seg dksX19_answer_3 24 rfl rfl
theorem dksX19_answer_5 : cX19_answer.data.toList.drop 116 = dktX19_answer_5 := dk_seg dksX19_answer_4 24 rfl rfl
theorem dksX19_answer_6 : cX19_answer.data.toList.drop 138 = dktX19_answer_6 := dk_seg dksX19_answer_5 22 rfl rfl
theorem dksX19_answer_7 : cX19_answer.data.toList.drop 162 = dktX19_answer_7 := dk_seg dksX19_answer_6 24 rfl rfl
theorem dX19_answer_0 : decode cX19_answer 0 = .ok (.new 126, 3) := dk_187 0 126 (dk_at dksX19_answer_0 0 rfl rfl)
theorem dX19_answer_3 : decode cX19_answer 3 = .ok (.dup, 1) := dk_89 (dk_at dksX19_answer_0 3 rfl rfl)
theorem dX19_answer_4 : decode cX19_answer 4 = .ok (.aload_n 0, 1) := dk_42 (dk_at dksX19_answer_0 4 rfl rfl)
theorem dX19_answer_5 : decode cX19_answer 5 = .ok (.getfield 25, 3) := dk_180 0 25 (dk_at dksX19_answer_0 5 rfl rfl)
theorem dX19_answer_8 : decode cX19_answer 8 = .ok (.getfield 151, 3) := dk_180 0 151 (dk_at dksX19_answer_0 8 rfl rfl)
theorem dX19_answer_11 : decode cX19_answer 11 = .ok (.getfield 155, 3) := dk_180 0 155 (dk_at dksX19_answer_0 11 rfl rfl)
theorem dX19_answer_14 : decode cX19_answer 14 = .ok (.invokespecial 161, 3) := dk_183 0 161 (dk_at dksX19_answer_0 14 rfl rfl)
theorem dX19_answer_17 : decode cX19_answer 17 = .ok (.astore_n 1, 1) := dk_76 (dk_at dksX19_answer_0 17 rfl rfl)
theorem dX19_answer_18 : decode cX19_answer 18 = .ok (.iconst 0, 1) := dk_3 (dk_at dksX19_answer_0 18 rfl rfl)
theorem dX19_answer_19 : decode cX19_answer 19 = .ok (.istore_n 2, 1) := dk_61 (dk_at dksX19_answer_0 19 rfl rfl)
theorem dX19_answer_20 : decode cX19_answer 20 = .ok (.iload_n 2, 1) := dk_28 (dk_at dksX19_answer_0 20 rfl rfl)
theorem dX19_answer_21 : decode cX19_answer 21 = .ok (.aload_n 1, 1) := dk_43 (dk_at dksX19_answer_0 21 rfl rfl)
theorem dX19_answer_22 : decode cX19_answer 22 = .ok (.getfield 164, 3) := dk_180 0 164 (dk_at dksX19_answer_1 0 rfl rfl)
theorem dX19_answer_25 : decode cX19_answer 25 = .ok (.if_icmp .ge 129, 3) := dk_162 0 129 (dk_at dksX19_answer_1 3 rfl rfl)
theorem dX19_answer_28 : decode cX19_answer 28 = .ok (.aload_n 0, 1) := dk_42 (dk_at dksX19_answer_1 6 rfl rfl)
theorem dX19_answer_29 : decode cX19_answer 29 = .ok (.aload_n 0, 1) := dk_42 (dk_at dksX19_answer_1 7 rfl rfl)
theorem dX19_answer_30 : decode cX19_answer 30 = .ok (.getfield 69, 3) := dk_180 0 69 (dk_at dksX19_answer_1 8 rfl rfl)
theorem dX19_answer_33 : decode cX19_answer 33 = .ok (.invokevirtual 91, 3) := dk_182 0 91 (dk_at dksX19_answer_1 11 rfl rfl)
theorem dX19_answer_36 : decode cX19_answer 36 = .ok (.ifCond .eq 21, 3) := dk_153 0 21 (dk_at dksX19_answer_1 14 rfl rfl)
theorem dX19_answer_39 : decode cX19_answer 39 = .ok (.aload_n 0, 1) := dk_42 (dk_at dksX19_answer_1 17 rfl rfl)
theorem dX19_answer_40 : decode cX19_answer 40 = .ok (.getfield 69, 3) := dk_180 0 69 (dk_at dksX19_answer_1 18 rfl rfl)
theorem dX19_answer_43 : decode cX19_answer 43 = .ok (.invokevirtual 95, 3) := dk_182 0 95 (dk_at dksX19_answer_1 21 rfl rfl)
theorem dX19_answer_46 : decode cX19_answer 46 = .ok (.aload_n 1, 1) := dk_43 (dk_at dksX19_answer_2 0 rfl rfl)
theorem dX19_answer_47 : decode cX19_answer 47 = .ok (.getfield 167, 3) := dk_180 0 167 (dk_at dksX19_answer_2 1 rfl rfl)
theorem dX19_answer_50 : decode cX19_answer 50 = .ok (.if_icmp .ne 7, 3) := dk_160 0 7 (dk_at dksX19_answer_2 4 rfl rfl)
theorem dX19_answer_53 : decode cX19_answer 53 = .ok (.iconst 1, 1) := dk_4 (dk_at dksX19_answer_2 7 rfl rfl)
theorem dX19_answer_54 : decode cX19_answer 54 = .ok (.goto 4, 3) := dk_167 0 4 (dk_at dksX19_answer_2 8 rfl rfl)
theorem dX19_answer_57 : decode cX19_answer 57 = .ok (.iconst 0, 1) := dk_3 (dk_at dksX19_answer_2 11 rfl rfl)
theorem dX19_answer_58 : decode cX19_answer 58 = .ok (.invokevirtual 84, 3) := dk_182 0 84 (dk_at dksX19_answer_2 12 rfl rfl)
theorem dX19_answer_61 : decode cX19_answer 61 = .ok (.iconst 0, 1) := dk_3 (dk_at dksX19_answer_2 15 rfl rfl)
theorem dX19_answer_62 : decode cX19_answer 62 = .ok (.istore_n 3, 1) := dk_62 (dk_at dksX19_answer_2 16 rfl rfl)
theorem dX19_answer_63 : decode cX19_answer 63 = .ok (.iload_n 3, 1) := dk_29 (dk_at dksX19_answer_2 17 rfl rfl)
theorem dX19_answer_64 : decode cX19_answer 64 = .ok (.aload_n 1, 1) := dk_43 (dk_at dksX19_answer_2 18 rfl rfl)
theorem dX19_answer_65 : decode cX19_answer 65 = .ok (.getfield 167, 3) := dk_180 0 167 (dk_at dksX19_answer_2 19 rfl rfl)
theorem dX19_answer_68 : decode cX19_answer 68 = .ok (.if_icmp .ge 76, 3) := dk_162 0 76 (dk_at dksX19_answer_3 0 rfl rfl)
theorem dX19_answer_71 : decode cX19_answer 71 = .ok (.aload_n 1, 1) := dk_43 (dk_at dksX19_answer_3 3 rfl rfl)
theorem dX19_answer_72 : decode cX19_answer 72 = .ok (.getfield 167, 3) := dk_180 0 167 (dk_at dksX19_answer_3 4 rfl rfl)
theorem dX19_answer_75 : decode cX19_answer 75 = .ok (.iload_n 2, 1) := dk_28 (dk_at dksX19_answer_3 7 rfl rfl)
theorem dX19_answer_76 : decode cX19_answer 76 = .ok (.imul, 1) := dk_104 (dk_at dksX19_answer_3 8 rfl rfl)
theorem dX19_answer_77 : decode cX19_answer 77 = .ok (.iload_n 3, 1) := dk_29 (dk_at dksX19_answer_3 9 rfl rfl)
theorem dX19_answer_78 : decode cX19_answer 78 = .ok (.iadd, 1) := dk_96 (dk_at dksX19_answer_3 10 rfl rfl)
theorem dX19_answer_79 : decode cX19_answer 79 = .ok (.istore 4, 2) := dk_54 4 (dk_at dksX19_answer_3 11 rfl rfl)
theorem dX19_answer_81 : decode cX19_answer 81 = .ok (.aload_n 0, 1) := dk_42 (dk_at dksX19_answer_3 13 rfl rfl)
theorem dX19_answer_82 : decode cX19_answer 82 = .ok (.getfield 69, 3) := dk_180 0 69 (dk_at dksX19_answer_3 14 rfl rfl)
theorem dX19_answer_85 : decode cX19_answer 85 = .ok (.iload_n 3, 1) := dk_29 (dk_at dksX19_answer_3 17 rfl rfl)
theorem dX19_answer_86 : decode cX19_answer 86 = .ok (.invokevirtual 96, 3) := dk_182 0 96 (dk_at dksX19_answer_3 18 rfl rfl)
theorem dX19_answer_89 : decode cX19_answer 89 = .ok (.bipush 48, 2) := dk_16 48 (dk_at dksX19_answer_3 21 rfl rfl)
theorem dX19_answer_91 : decode cX19_answer 91 = .ok (.isub, 1) := dk_100 (dk_at dksX19_answer_3 23 rfl rfl)
theorem dX19_answer_92 : decode cX19_answer 92 = .ok (.istore 5, 2) := dk_54 5 (dk_at dksX19_answer_4 0 rfl rfl)
theorem dX19_answer_94 : decode cX19_answer 94 = .ok (.aload_n 0, 1) := dk_42 (dk_at dksX19_answer_4 2 rfl rfl)
theorem dX19_answer_95 : decode cX19_answer 95 = .ok (.iload 5, 2) := dk_21 5 (dk_at dksX19_answer_4 3 rfl rfl)
theorem dX19_answer_97 : decode cX19_answer 97 = .ok (.ifCond .eq 25, 3) := dk_153 0 25 (dk_at dksX19_answer_4 5 rfl rfl)
theorem dX19_answer_100 : decode cX19_answer 100 = .ok (.aload_n 1, 1) := dk_43 (dk_at dksX19_answer_4 8 rfl rfl)
theorem dX19_answer_101 : decode cX19_answer 101 = .ok (.iload 4, 2) := dk_21 4 (dk_at dksX19_answer_4 9 rfl rfl)
theorem dX19_answer_103 : decode cX19_answer 103 = .ok (.iload 5, 2) := dk_21 5 (dk_at dksX19_answer_4 11 rfl rfl)
theorem dX19_answer_105 : decode cX19_answer 105 = .ok (.invokevirtual 170, 3) := dk_182 0 170 (dk_at dksX19_answer_4 13 rfl rfl)
theorem dX19_answer_108 : decode cX19_answer 108 = .ok (.ifCond .eq 18, 3) := dk_153 0 18 (dk_at dksX19_answer_4 16 rfl rfl)
theorem dX19_answer_111 : decode cX19_answer 111 = .ok (.aload_n 1, 1) := dk_43 (dk_at dksX19_answer_4 19 rfl rfl)
theorem dX19_answer_112 : decode cX19_answer 112 = .ok (.iload 4, 2) := dk_21 4 (dk_at dksX19_answer_4 20 rfl rfl)
theorem dX19_answer_114 : decode cX19_answer 114 = .ok (.iload 5, 2) := dk_21 5 (dk_at dksX19_answer_4 22 rfl rfl)
theorem dX19_answer_116 : decode cX19_answer 116 = .ok (.invokevirtual 174, 3) := dk_182 0 174 (dk_at dksX19_answer_5 0 rfl rfl)
theorem dX19_answer_119 : decode cX19_answer 119 = .ok (.ifCond .ne 7, 3) := dk_154 0 7 (dk_at dksX19_answer_5 3 rfl rfl)
theorem dX19_answer_122 : decode cX19_answer 122 = .ok (.iconst 1, 1) := dk_4 (dk_at dksX19_answer_5 6 rfl rfl)
theorem dX19_answer_123 : decode cX19_answer 123 = .ok (.goto 4, 3) := dk_167 0 4 (dk_at dksX19_answer_5 7 rfl rfl)
theorem dX19_answer_126 : decode cX19_answer 126 = .ok (.iconst 0, 1) := dk_3 (dk_at dksX19_answer_5 10 rfl rfl)
theorem dX19_answer_127 : decode cX19_answer 127 = .ok (.invokevirtual 84, 3) := dk_182 0 84 (dk_at dksX19_answer_5 11 rfl rfl)
theorem dX19_answer_130 : decode cX19_answer 130 = .ok (.aload_n 1, 1) := dk_43 (dk_at dksX19_answer_5 14 rfl rfl)
theorem dX19_answer_131 : decode cX19_answer 131 = .ok (.iload 4, 2) := dk_21 4 (dk_at dksX19_answer_5 15 rfl rfl)
theorem dX19_answer_133 : decode cX19_answer 133 = .ok (.iload 5, 2) := dk_21 5 (dk_at dksX19_answer_5 17 rfl rfl)
theorem dX19_answer_135 : decode cX19_answer 135 = .ok (.invokevirtual 177, 3) := dk_182 0 177 (dk_at dksX19_answer_5 19 rfl rfl)
theorem dX19_answer_138 : decode cX19_answer 138 = .ok (.iinc 3 1, 3) := dk_132 3 1 (dk_at dksX19_answer_6 0 rfl rfl)
theorem dX19_answer_141 : decode cX19_answer 141 = .ok (.goto (-78), 3) := dk_167 255 178 (dk_at dksX19_answer_6 3 rfl rfl)
theorem dX19_answer_144 : decode cX19_answer 144 = .ok (.aload_n 0, 1) := dk_42 (dk_at dksX19_answer_6 6 rfl rfl)
theorem dX19_answer_145 : decode cX19_answer 145 = .ok (.invokevirtual 88, 3) := dk_182 0 88 (dk_at dksX19_answer_6 7 rfl rfl)
theorem dX19_answer_148 : decode cX19_answer 148 = .ok (.iinc 2 1, 3) := dk_132 2 1 (dk_at dksX19_answer_6 10 rfl rfl)
theorem dX19_answer_151 : decode cX19_answer 151 = .ok (.goto (-131), 3) := dk_167 255 125 (dk_at dksX19_answer_6 13 rfl rfl)
theorem dX19_answer_154 : decode cX19_answer 154 = .ok (.aload_n 0, 1) := dk_42 (dk_at dksX19_answer_6 16 rfl rfl)
theorem dX19_answer_155 : decode cX19_answer 155 = .ok (.getfield 25, 3) := dk_180 0 25 (dk_at dksX19_answer_6 17 rfl rfl)
theorem dX19_answer_158 : decode cX19_answer 158 = .ok (.getfield 151, 3) := dk_180 0 151 (dk_at dksX19_answer_6 20 rfl rfl)
theorem dX19_answer_161 : decode cX19_answer 161 = .ok (.aload_n 1, 1) := dk_43 (dk_at dksX19_answer_6 23 rfl rfl)
theorem dX19_answer_162 : decode cX19_answer 162 = .ok (.putfield 155, 3) := dk_181 0 155 (dk_at dksX19_answer_7 0 rfl rfl)
theorem dX19_answer_165 : decode cX19_answer 165 = .ok (.return_, 1) := dk_177 (dk_at dksX19_answer_7 3 rfl rfl)
abbrev cX19_clues : ByteArray := prog_16_method_12_code
def yX19_clues : MethodName := ⟨RX19, "clues", "(I)V"⟩
def dkwX19_clues_4 : List UInt8 := [167, 255, 229, 177]
abbrev dktX19_clues_4 : List UInt8 := dkwX19_clues_4 ++ []
def dkwX19_clues_3 : List UInt8 := [27, 182, 0, 202, 162, 0, 23, 44, 27, 21, 5, 21, 4, 21, 5, 184, 0, 199, 182, 0, 211, 132, 5, 1]
abbrev dktX19_clues_3 : List UInt8 := dkwX19_clues_3 ++ dktX19_clues_4
def dkwX19_clues_2 : List UInt8 := [132, 4, 1, 167, 255, 222, 42, 44, 27, 182, 0, 202, 29, 182, 0, 208, 54, 4, 3, 54, 5, 21, 5, 44]
abbrev dktX19_clues_2 : List UInt8 := dkwX19_clues_2 ++ dktX19_clues_3
def dkwX19_clues_1 : List UInt8 := [162, 0, 30, 29, 44, 27, 21, 4, 182, 0, 205, 153, 0, 10, 4, 21, 4, 120, 167, 0, 4, 3, 128, 62]
abbrev dktX19_clues_1 : List UInt8 := dkwX19_clues_1 ++ dktX19_clues_2
def dkwX19_clues_0 : List UInt8 := [42, 180, 0, 25, 180, 0, 151, 180, 0, 155, 77, 3, 62, 3, 54, 4, 21, 4, 44, 27, 182, 0, 202]
abbrev dktX19_clues_0 : List UInt8 := dkwX19_clues_0 ++ dktX19_clues_1
theorem dksX19_clues_0 : cX19_clues.data.toList.drop 0 = dktX19_clues_0 := by decide +kernel
theorem dksX19_clues_1 : cX19_clues.data.toList.drop 23 = dktX19_clues_1 := dk_seg dksX19_clues_0 23 rfl rfl
theorem dksX19_clues_2 : cX19_clues.data.toList.drop 47 = dktX19_clues_2 := dk_seg dksX19_clues_1 24 rfl rfl
theorem dksX19_clues_3 : cX19_clues.data.toList.drop 71 = dktX19_clues_3 := dk_seg dksX19_clues_2 24 rfl rfl
theorem dksX19_clues_4 : cX19_clues.data.toList.drop 95 = dktX19_clues_4 := dk_seg dksX19_clues_3 24 rfl rfl
theorem dX19_clues_0 : decode cX19_clues 0 = .ok (.aload_n 0, 1) := dk_42 (dk_at dksX19_clues_0 0 rfl rfl)
theorem dX19_clues_1 : decode cX19_clues 1 = .ok (.getfield 25, 3) := dk_180 0 25 (dk_at dksX19_clues_0 1 rfl rfl)
theorem dX19_clues_4 : decode cX19_clues 4 = .ok (.getfield 151, 3) := dk_180 0 151 (dk_at dksX19_clues_0 4 rfl rfl)
theorem dX19_clues_7 : decode cX19_clues 7 = .ok (.getfield 155, 3) := dk_180 0 155 (dk_at dksX19_clues_0 7 rfl rfl)
theorem dX19_clues_10 : decode cX19_clues 10 = .ok (.astore_n 2, 1) := dk_77 (dk_at dksX19_clues_0 10 rfl rfl)
theorem dX19_clues_11 : decode cX19_clues 11 = .ok (.iconst 0, 1) := dk_3 (dk_at dksX19_clues_0 11 rfl rfl)
theorem dX19_clues_12 : decode cX19_clues 12 = .ok (.istore_n 3, 1) := dk_62 (dk_at dksX19_clues_0 12 rfl rfl)
theorem dX19_clues_13 : decode cX19_clues 13 = .ok (.iconst 0, 1) := dk_3 (dk_at dksX19_clues_0 13 rfl rfl)
theorem dX19_clues_14 : decode cX19_clues 14 = .ok (.istore 4, 2) := dk_54 4 (dk_at dksX19_clues_0 14 rfl rfl)
theorem dX19_clues_16 : decode cX19_clues 16 = .ok (.iload 4, 2) := dk_21 4 (dk_at dksX19_clues_0 16 rfl rfl)
theorem dX19_clues_18 : decode cX19_clues 18 = .ok (.aload_n 2, 1) := dk_44 (dk_at dksX19_clues_0 18 rfl rfl)
theorem dX19_clues_19 : decode cX19_clues 19 = .ok (.iload_n 1, 1) := dk_27 (dk_at dksX19_clues_0 19 rfl rfl)
theorem dX19_clues_20 : decode cX19_clues 20 = .ok (.invokevirtual 202, 3) := dk_182 0 202 (dk_at dksX19_clues_0 20 rfl rfl)
theorem dX19_clues_23 : decode cX19_clues 23 = .ok (.if_icmp .ge 30, 3) := dk_162 0 30 (dk_at dksX19_clues_1 0 rfl rfl)
theorem dX19_clues_26 : decode cX19_clues 26 = .ok (.iload_n 3, 1) := dk_29 (dk_at dksX19_clues_1 3 rfl rfl)
theorem dX19_clues_27 : decode cX19_clues 27 = .ok (.aload_n 2, 1) := dk_44 (dk_at dksX19_clues_1 4 rfl rfl)
theorem dX19_clues_28 : decode cX19_clues 28 = .ok (.iload_n 1, 1) := dk_27 (dk_at dksX19_clues_1 5 rfl rfl)
theorem dX19_clues_29 : decode cX19_clues 29 = .ok (.iload 4, 2) := dk_21 4 (dk_at dksX19_clues_1 6 rfl rfl)
theorem dX19_clues_31 : decode cX19_clues 31 = .ok (.invokevirtual 205, 3) := dk_182 0 205 (dk_at dksX19_clues_1 8 rfl rfl)
theorem dX19_clues_34 : decode cX19_clues 34 = .ok (.ifCond .eq 10, 3) := dk_153 0 10 (dk_at dksX19_clues_1 11 rfl rfl)
theorem dX19_clues_37 : decode cX19_clues 37 = .ok (.iconst 1, 1) := dk_4 (dk_at dksX19_clues_1 14 rfl rfl)
theorem dX19_clues_38 : decode cX19_clues 38 = .ok (.iload 4, 2) := dk_21 4 (dk_at dksX19_clues_1 15 rfl rfl)
theorem dX19_clues_40 : decode cX19_clues 40 = .ok (.ishl, 1) := dk_120 (dk_at dksX19_clues_1 17 rfl rfl)
theorem dX19_clues_41 : decode cX19_clues 41 = .ok (.goto 4, 3) := dk_167 0 4 (dk_at dksX19_clues_1 18 rfl rfl)
theorem dX19_clues_44 : decode cX19_clues 44 = .ok (.iconst 0, 1) := dk_3 (dk_at dksX19_clues_1 21 rfl rfl)
theorem dX19_clues_45 : decode cX19_clues 45 = .ok (.ior, 1) := dk_128 (dk_at dksX19_clues_1 22 rfl rfl)
theorem dX19_clues_46 : decode cX19_clues 46 = .ok (.istore_n 3, 1) := dk_62 (dk_at dksX19_clues_1 23 rfl rfl)
theorem dX19_clues_47 : decode cX19_clues 47 = .ok (.iinc 4 1, 3) := dk_132 4 1 (dk_at dksX19_clues_2 0 rfl rfl)
theorem dX19_clues_50 : decode cX19_clues 50 = .ok (.goto (-34), 3) := dk_167 255 222 (dk_at dksX19_clues_2 3 rfl rfl)
theorem dX19_clues_53 : decode cX19_clues 53 = .ok (.aload_n 0, 1) := dk_42 (dk_at dksX19_clues_2 6 rfl rfl)
theorem dX19_clues_54 : decode cX19_clues 54 = .ok (.aload_n 2, 1) := dk_44 (dk_at dksX19_clues_2 7 rfl rfl)
theorem dX19_clues_55 : decode cX19_clues 55 = .ok (.iload_n 1, 1) := dk_27 (dk_at dksX19_clues_2 8 rfl rfl)
theorem dX19_clues_56 : decode cX19_clues 56 = .ok (.invokevirtual 202, 3) := dk_182 0 202 (dk_at dksX19_clues_2 9 rfl rfl)
theorem dX19_clues_59 : decode cX19_clues 59 = .ok (.iload_n 3, 1) := dk_29 (dk_at dksX19_clues_2 12 rfl rfl)
theorem dX19_clues_60 : decode cX19_clues 60 = .ok (.invokevirtual 208, 3) := dk_182 0 208 (dk_at dksX19_clues_2 13 rfl rfl)
theorem dX19_clues_63 : decode cX19_clues 63 = .ok (.istore 4, 2) := dk_54 4 (dk_at dksX19_clues_2 16 rfl rfl)
theorem dX19_clues_65 : decode cX19_clues 65 = .ok (.iconst 0, 1) := dk_3 (dk_at dksX19_clues_2 18 rfl rfl)
theorem dX19_clues_66 : decode cX19_clues 66 = .ok (.istore 5, 2) := dk_54 5 (dk_at dksX19_clues_2 19 rfl rfl)
theorem dX19_clues_68 : decode cX19_clues 68 = .ok (.iload 5, 2) := dk_21 5 (dk_at dksX19_clues_2 21 rfl rfl)
theorem dX19_clues_70 : decode cX19_clues 70 = .ok (.aload_n 2, 1) := dk_44 (dk_at dksX19_clues_2 23 rfl rfl)
theorem dX19_clues_71 : decode cX19_clues 71 = .ok (.iload_n 1, 1) := dk_27 (dk_at dksX19_clues_3 0 rfl rfl)
theorem dX19_clues_72 : decode cX19_clues 72 = .ok (.invokevirtual 202, 3) := dk_182 0 202 (dk_at dksX19_clues_3 1 rfl rfl)
theorem dX19_clues_75 : decode cX19_clues 75 = .ok (.if_icmp .ge 23, 3) := dk_162 0 23 (dk_at dksX19_clues_3 4 rfl rfl)
theorem dX19_clues_78 : decode cX19_clues 78 = .ok (.aload_n 2, 1) := dk_44 (dk_at dksX19_clues_3 7 rfl rfl)
theorem dX19_clues_79 : decode cX19_clues 79 = .ok (.iload_n 1, 1) := dk_27 (dk_at dksX19_clues_3 8 rfl rfl)
theorem dX19_clues_80 : decode cX19_clues 80 = .ok (.iload 5, 2) := dk_21 5 (dk_at dksX19_clues_3 9 rfl rfl)
theorem dX19_clues_82 : decode cX19_clues 82 = .ok (.iload 4, 2) := dk_21 4 (dk_at dksX19_clues_3 11 rfl rfl)
theorem dX19_clues_84 : decode cX19_clues 84 = .ok (.iload 5, 2) := dk_21 5 (dk_at dksX19_clues_3 13 rfl rfl)
theorem dX19_clues_86 : decode cX19_clues 86 = .ok (.invokestatic 199, 3) := dk_184 0 199 (dk_at dksX19_clues_3 15 rfl rfl)
theorem dX19_clues_89 : decode cX19_clues 89 = .ok (.invokevirtual 211, 3) := dk_182 0 211 (dk_at dksX19_clues_3 18 rfl rfl)
theorem dX19_clues_92 : decode cX19_clues 92 = .ok (.iinc 5 1, 3) := dk_132 5 1 (dk_at dksX19_clues_3 21 rfl rfl)
theorem dX19_clues_95 : decode cX19_clues 95 = .ok (.goto (-27), 3) := dk_167 255 229 (dk_at dksX19_clues_4 0 rfl rfl)
theorem dX19_clues_98 : decode cX19_clues 98 = .ok (.return_, 1) := dk_177 (dk_at dksX19_clues_4 3 rfl rfl)
abbrev cX19_which : ByteArray := prog_16_method_11_code
def yX19_which : MethodName := ⟨RX19, "which", "(II)I"⟩
def dkwX19_which_8 : List UInt8 := [154, 255, 200, 21, 5, 172]
abbrev dktX19_which_8 : List UInt8 := dkwX19_which_8 ++ []
def dkwX19_which_7 : List UInt8 := [182, 0, 84, 21, 5, 4, 21, 6, 120, 128, 54, 5, 42, 182, 0, 88, 42, 180, 0, 69, 182, 0, 91]
abbrev dktX19_which_7 : List UInt8 := dkwX19_which_7 ++ dktX19_which_8
def dkwX19_which_6 : List UInt8 := [3, 27, 4, 100, 184, 0, 46, 153, 0, 16, 28, 21, 6, 184, 0, 199, 153, 0, 7, 4, 167, 0, 4, 3]
abbrev dktX19_which_6 : List UInt8 := dkwX19_which_6 ++ dktX19_which_7
def dkwX19_which_5 : List UInt8 := [42, 182, 0, 88, 3, 172, 42, 182, 0, 88, 28, 172, 3, 54, 5, 42, 182, 0, 196, 54, 6, 42, 21, 6]
abbrev dktX19_which_5 : List UInt8 := dkwX19_which_5 ++ dktX19_which_6
def dkwX19_which_4 : List UInt8 := [171, 0, 0, 0, 0, 0, 39, 0, 0, 0, 2, 0, 0, 0, 0, 0, 0, 0, 27, 0, 0, 0, 1, 0, 0, 0, 33]
abbrev dktX19_which_4 : List UInt8 := dkwX19_which_4 ++ dktX19_which_5
def dkwX19_which_3 : List UInt8 := [4, 54, 4, 21, 4]
abbrev dktX19_which_3 : List UInt8 := dkwX19_which_3 ++ dktX19_which_4
def dkwX19_which_2 : List UInt8 := [45, 18, 189, 182, 0, 191, 153, 0, 21, 3, 54, 4, 167, 0, 15, 45, 18, 194, 182, 0, 191, 153, 0, 6]
abbrev dktX19_which_2 : List UInt8 := dkwX19_which_2 ++ dktX19_which_3
def dkwX19_which_1 : List UInt8 := [171, 0, 0, 0, 52, 0, 0, 0, 2, 0, 1, 121, 161, 0, 0, 0, 40, 0, 51, 175, 56, 0, 0, 0, 25]
abbrev dktX19_which_1 : List UInt8 := dkwX19_which_1 ++ dktX19_which_2
def dkwX19_which_0 : List UInt8 := [42, 180, 0, 69, 182, 0, 180, 78, 2, 54, 4, 45, 182, 0, 184]
abbrev dktX19_which_0 : List UInt8 := dkwX19_which_0 ++ dktX19_which_1
theorem dksX19_which_0 : cX19_which.data.toList.drop 0 = dktX19_which_0 := by decide +kernel
theorem dksX19_which_1 : cX19_which.data.toList.drop 15 = dktX19_which_1 := dk_seg dksX19_which_0 15 rfl rfl
theorem dksX19_which_2 : cX19_which.data.toList.drop 40 = dktX19_which_2 := dk_seg dksX19_which_1 25 rfl rfl
theorem dksX19_which_3 : cX19_which.data.toList.drop 64 = dktX19_which_3 := dk_seg dksX19_which_2 24 rfl rfl
theorem dksX19_which_4 : cX19_which.data.toList.drop 69 = dktX19_which_4 := dk_seg dksX19_which_3 5 rfl rfl
theorem dksX19_which_5 : cX19_which.data.toList.drop 96 = dktX19_which_5 := dk_seg dksX19_which_4 27 rfl rfl
theorem dksX19_which_6 : cX19_which.data.toList.drop 120 = dktX19_which_6 := dk_seg dksX19_which_5 24 rfl rfl
theorem dksX19_which_7 : cX19_which.data.toList.drop 144 = dktX19_which_7 := dk_seg dksX19_which_6 24 rfl rfl
theorem dksX19_which_8 : cX19_which.data.toList.drop 167 = dktX19_which_8 := dk_seg dksX19_which_7 23 rfl rfl
theorem dX19_which_0 : decode cX19_which 0 = .ok (.aload_n 0, 1) := dk_42 (dk_at dksX19_which_0 0 rfl rfl)
theorem dX19_which_1 : decode cX19_which 1 = .ok (.getfield 69, 3) := dk_180 0 69 (dk_at dksX19_which_0 1 rfl rfl)
theorem dX19_which_4 : decode cX19_which 4 = .ok (.invokevirtual 180, 3) := dk_182 0 180 (dk_at dksX19_which_0 4 rfl rfl)
theorem dX19_which_7 : decode cX19_which 7 = .ok (.astore_n 3, 1) := dk_78 (dk_at dksX19_which_0 7 rfl rfl)
theorem dX19_which_8 : decode cX19_which 8 = .ok (.iconst (-1), 1) := dk_2 (dk_at dksX19_which_0 8 rfl rfl)
theorem dX19_which_9 : decode cX19_which 9 = .ok (.istore 4, 2) := dk_54 4 (dk_at dksX19_which_0 9 rfl rfl)
theorem dX19_which_11 : decode cX19_which 11 = .ok (.aload_n 3, 1) := dk_45 (dk_at dksX19_which_0 11 rfl rfl)
theorem dX19_which_12 : decode cX19_which 12 = .ok (.invokevirtual 184, 3) := dk_182 0 184 (dk_at dksX19_which_0 12 rfl rfl)
theorem dX19_which_15 : decode cX19_which 15 = .ok (.lookupswitch 52 #[(96673, 40), (3387192, 25)], 25) := by decide +kernel
theorem dX19_which_40 : decode cX19_which 40 = .ok (.aload_n 3, 1) := dk_45 (dk_at dksX19_which_2 0 rfl rfl)
theorem dX19_which_41 : decode cX19_which 41 = .ok (.ldc 189, 2) := dk_18 189 (dk_at dksX19_which_2 1 rfl rfl)
theorem dX19_which_43 : decode cX19_which 43 = .ok (.invokevirtual 191, 3) := dk_182 0 191 (dk_at dksX19_which_2 3 rfl rfl)
theorem dX19_which_46 : decode cX19_which 46 = .ok (.ifCond .eq 21, 3) := dk_153 0 21 (dk_at dksX19_which_2 6 rfl rfl)
theorem dX19_which_49 : decode cX19_which 49 = .ok (.iconst 0, 1) := dk_3 (dk_at dksX19_which_2 9 rfl rfl)
theorem dX19_which_50 : decode cX19_which 50 = .ok (.istore 4, 2) := dk_54 4 (dk_at dksX19_which_2 10 rfl rfl)
theorem dX19_which_52 : decode cX19_which 52 = .ok (.goto 15, 3) := dk_167 0 15 (dk_at dksX19_which_2 12 rfl rfl)
theorem dX19_which_55 : decode cX19_which 55 = .ok (.aload_n 3, 1) := dk_45 (dk_at dksX19_which_2 15 rfl rfl)
theorem dX19_which_56 : decode cX19_which 56 = .ok (.ldc 194, 2) := dk_18 194 (dk_at dksX19_which_2 16 rfl rfl)
theorem dX19_which_58 : decode cX19_which 58 = .ok (.invokevirtual 191, 3) := dk_182 0 191 (dk_at dksX19_which_2 18 rfl rfl)
theorem dX19_which_61 : decode cX19_which 61 = .ok (.ifCond .eq 6, 3) := dk_153 0 6 (dk_at dksX19_which_2 21 rfl rfl)
theorem dX19_which_64 : decode cX19_which 64 = .ok (.iconst 1, 1) := dk_4 (dk_at dksX19_which_3 0 rfl rfl)
theorem dX19_which_65 : decode cX19_which 65 = .ok (.istore 4, 2) := dk_54 4 (dk_at dksX19_which_3 1 rfl rfl)
theorem dX19_which_67 : decode cX19_which 67 = .ok (.iload 4, 2) := dk_21 4 (dk_at dksX19_which_3 3 rfl rfl)
theorem dX19_which_69 : decode cX19_which 69 = .ok (.lookupswitch 39 #[(0, 27), (1, 33)], 27) := by decide +kernel
theorem dX19_which_96 : decode cX19_which 96 = .ok (.aload_n 0, 1) := dk_42 (dk_at dksX19_which_5 0 rfl rfl)
theorem dX19_which_97 : decode cX19_which 97 = .ok (.invokevirtual 88, 3) := dk_182 0 88 (dk_at dksX19_which_5 1 rfl rfl)
theorem dX19_which_100 : decode cX19_which 100 = .ok (.iconst 0, 1) := dk_3 (dk_at dksX19_which_5 4 rfl rfl)
theorem dX19_which_101 : decode cX19_which 101 = .ok (.ireturn, 1) := dk_172 (dk_at dksX19_which_5 5 rfl rfl)
theorem dX19_which_102 : decode cX19_which 102 = .ok (.aload_n 0, 1) := dk_42 (dk_at dksX19_which_5 6 rfl rfl)
theorem dX19_which_103 : decode cX19_which 103 = .ok (.invokevirtual 88, 3) := dk_182 0 88 (dk_at dksX19_which_5 7 rfl rfl)
theorem dX19_which_106 : decode cX19_which 106 = .ok (.iload_n 2, 1) := dk_28 (dk_at dksX19_which_5 10 rfl rfl)
theorem dX19_which_107 : decode cX19_which 107 = .ok (.ireturn, 1) := dk_172 (dk_at dksX19_which_5 11 rfl rfl)
theorem dX19_which_108 : decode cX19_which 108 = .ok (.iconst 0, 1) := dk_3 (dk_at dksX19_which_5 12 rfl rfl)
theorem dX19_which_109 : decode cX19_which 109 = .ok (.istore 5, 2) := dk_54 5 (dk_at dksX19_which_5 13 rfl rfl)
theorem dX19_which_111 : decode cX19_which 111 = .ok (.aload_n 0, 1) := dk_42 (dk_at dksX19_which_5 15 rfl rfl)
theorem dX19_which_112 : decode cX19_which 112 = .ok (.invokevirtual 196, 3) := dk_182 0 196 (dk_at dksX19_which_5 16 rfl rfl)
theorem dX19_which_115 : decode cX19_which 115 = .ok (.istore 6, 2) := dk_54 6 (dk_at dksX19_which_5 19 rfl rfl)
theorem dX19_which_117 : decode cX19_which 117 = .ok (.aload_n 0, 1) := dk_42 (dk_at dksX19_which_5 21 rfl rfl)
theorem dX19_which_118 : decode cX19_which 118 = .ok (.iload 6, 2) := dk_21 6 (dk_at dksX19_which_5 22 rfl rfl)
theorem dX19_which_120 : decode cX19_which 120 = .ok (.iconst 0, 1) := dk_3 (dk_at dksX19_which_6 0 rfl rfl)
theorem dX19_which_121 : decode cX19_which 121 = .ok (.iload_n 1, 1) := dk_27 (dk_at dksX19_which_6 1 rfl rfl)
theorem dX19_which_122 : decode cX19_which 122 = .ok (.iconst 1, 1) := dk_4 (dk_at dksX19_which_6 2 rfl rfl)
theorem dX19_which_123 : decode cX19_which 123 = .ok (.isub, 1) := dk_100 (dk_at dksX19_which_6 3 rfl rfl)
theorem dX19_which_124 : decode cX19_which 124 = .ok (.invokestatic 46, 3) := dk_184 0 46 (dk_at dksX19_which_6 4 rfl rfl)
theorem dX19_which_127 : decode cX19_which 127 = .ok (.ifCond .eq 16, 3) := dk_153 0 16 (dk_at dksX19_which_6 7 rfl rfl)
theorem dX19_which_130 : decode cX19_which 130 = .ok (.iload_n 2, 1) := dk_28 (dk_at dksX19_which_6 10 rfl rfl)
theorem dX19_which_131 : decode cX19_which 131 = .ok (.iload 6, 2) := dk_21 6 (dk_at dksX19_which_6 11 rfl rfl)
theorem dX19_which_133 : decode cX19_which 133 = .ok (.invokestatic 199, 3) := dk_184 0 199 (dk_at dksX19_which_6 13 rfl rfl)
theorem dX19_which_136 : decode cX19_which 136 = .ok (.ifCond .eq 7, 3) := dk_153 0 7 (dk_at dksX19_which_6 16 rfl rfl)
theorem dX19_which_139 : decode cX19_which 139 = .ok (.iconst 1, 1) := dk_4 (dk_at dksX19_which_6 19 rfl rfl)
theorem dX19_which_140 : decode cX19_which 140 = .ok (.goto 4, 3) := dk_167 0 4 (dk_at dksX19_which_6 20 rfl rfl)
theorem dX19_which_143 : decode cX19_which 143 = .ok (.iconst 0, 1) := dk_3 (dk_at dksX19_which_6 23 rfl rfl)
theorem dX19_which_144 : decode cX19_which 144 = .ok (.invokevirtual 84, 3) := dk_182 0 84 (dk_at dksX19_which_7 0 rfl rfl)
theorem dX19_which_147 : decode cX19_which 147 = .ok (.iload 5, 2) := dk_21 5 (dk_at dksX19_which_7 3 rfl rfl)
theorem dX19_which_149 : decode cX19_which 149 = .ok (.iconst 1, 1) := dk_4 (dk_at dksX19_which_7 5 rfl rfl)
theorem dX19_which_150 : decode cX19_which 150 = .ok (.iload 6, 2) := dk_21 6 (dk_at dksX19_which_7 6 rfl rfl)
theorem dX19_which_152 : decode cX19_which 152 = .ok (.ishl, 1) := dk_120 (dk_at dksX19_which_7 8 rfl rfl)
theorem dX19_which_153 : decode cX19_which 153 = .ok (.ior, 1) := dk_128 (dk_at dksX19_which_7 9 rfl rfl)
theorem dX19_which_154 : decode cX19_which 154 = .ok (.istore 5, 2) := dk_54 5 (dk_at dksX19_which_7 10 rfl rfl)
theorem dX19_which_156 : decode cX19_which 156 = .ok (.aload_n 0, 1) := dk_42 (dk_at dksX19_which_7 12 rfl rfl)
theorem dX19_which_157 : decode cX19_which 157 = .ok (.invokevirtual 88, 3) := dk_182 0 88 (dk_at dksX19_which_7 13 rfl rfl)
theorem dX19_which_160 : decode cX19_which 160 = .ok (.aload_n 0, 1) := dk_42 (dk_at dksX19_which_7 16 rfl rfl)
theorem dX19_which_161 : decode cX19_which 161 = .ok (.getfield 69, 3) := dk_180 0 69 (dk_at dksX19_which_7 17 rfl rfl)
theorem dX19_which_164 : decode cX19_which 164 = .ok (.invokevirtual 91, 3) := dk_182 0 91 (dk_at dksX19_which_7 20 rfl rfl)
theorem dX19_which_167 : decode cX19_which 167 = .ok (.ifCond .ne (-56), 3) := dk_154 255 200 (dk_at dksX19_which_8 0 rfl rfl)
theorem dX19_which_170 : decode cX19_which 170 = .ok (.iload 5, 2) := dk_21 5 (dk_at dksX19_which_8 3 rfl rfl)
theorem dX19_which_172 : decode cX19_which 172 = .ok (.ireturn, 1) := dk_172 (dk_at dksX19_which_8 5 rfl rfl)
abbrev cX19_value : ByteArray := prog_16_method_8_code
def yX19_value : MethodName := ⟨RX19, "value", "()I"⟩
def dkwX19_value_3 : List UInt8 := [180, 0, 69, 28, 182, 0, 96, 96, 16, 48, 100, 60, 132, 2, 1, 167, 255, 225, 27, 172]
abbrev dktX19_value_3 : List UInt8 := dkwX19_value_3 ++ []
def dkwX19_value_2 : List UInt8 := [16, 157, 172, 3, 60, 3, 61, 28, 42, 180, 0, 69, 182, 0, 95, 162, 0, 26, 16, 10, 27, 104, 42]
abbrev dktX19_value_2 : List UInt8 := dkwX19_value_2 ++ dktX19_value_3
def dkwX19_value_1 : List UInt8 := [180, 0, 69, 182, 0, 95, 4, 164, 0, 19, 42, 180, 0, 69, 3, 182, 0, 96, 16, 48, 160, 0, 6]
abbrev dktX19_value_1 : List UInt8 := dkwX19_value_1 ++ dktX19_value_2
def dkwX19_value_0 : List UInt8 := [42, 180, 0, 69, 182, 0, 91, 153, 0, 38, 42, 180, 0, 69, 182, 0, 95, 5, 163, 0, 27, 42]
abbrev dktX19_value_0 : List UInt8 := dkwX19_value_0 ++ dktX19_value_1
theorem dksX19_value_0 : cX19_value.data.toList.drop 0 = dktX19_value_0 := by decide +kernel
theorem dksX19_value_1 : cX19_value.data.toList.drop 22 = dktX19_value_1 := dk_seg dksX19_value_0 22 rfl rfl
theorem dksX19_value_2 : cX19_value.data.toList.drop 45 = dktX19_value_2 := dk_seg dksX19_value_1 23 rfl rfl
theorem dksX19_value_3 : cX19_value.data.toList.drop 68 = dktX19_value_3 := dk_seg dksX19_value_2 23 rfl rfl
theorem dX19_value_0 : decode cX19_value 0 = .ok (.aload_n 0, 1) := dk_42 (dk_at dksX19_value_0 0 rfl rfl)
theorem dX19_value_1 : decode cX19_value 1 = .ok (.getfield 69, 3) := dk_180 0 69 (dk_at dksX19_value_0 1 rfl rfl)
theorem dX19_value_4 : decode cX19_value 4 = .ok (.invokevirtual 91, 3) := dk_182 0 91 (dk_at dksX19_value_0 4 rfl rfl)
theorem dX19_value_7 : decode cX19_value 7 = .ok (.ifCond .eq 38, 3) := dk_153 0 38 (dk_at dksX19_value_0 7 rfl rfl)
theorem dX19_value_10 : decode cX19_value 10 = .ok (.aload_n 0, 1) := dk_42 (dk_at dksX19_value_0 10 rfl rfl)
theorem dX19_value_11 : decode cX19_value 11 = .ok (.getfield 69, 3) := dk_180 0 69 (dk_at dksX19_value_0 11 rfl rfl)
theorem dX19_value_14 : decode cX19_value 14 = .ok (.invokevirtual 95, 3) := dk_182 0 95 (dk_at dksX19_value_0 14 rfl rfl)
theorem dX19_value_17 : decode cX19_value 17 = .ok (.iconst 2, 1) := dk_5 (dk_at dksX19_value_0 17 rfl rfl)
theorem dX19_value_18 : decode cX19_value 18 = .ok (.if_icmp .gt 27, 3) := dk_163 0 27 (dk_at dksX19_value_0 18 rfl rfl)
theorem dX19_value_21 : decode cX19_value 21 = .ok (.aload_n 0, 1) := dk_42 (dk_at dksX19_value_0 21 rfl rfl)
theorem dX19_value_22 : decode cX19_value 22 = .ok (.getfield 69, 3) := dk_180 0 69 (dk_at dksX19_value_1 0 rfl rfl)
theorem dX19_value_25 : decode cX19_value 25 = .ok (.invokevirtual 95, 3) := dk_182 0 95 (dk_at dksX19_value_1 3 rfl rfl)
theorem dX19_value_28 : decode cX19_value 28 = .ok (.iconst 1, 1) := dk_4 (dk_at dksX19_value_1 6 rfl rfl)
theorem dX19_value_29 : decode cX19_value 29 = .ok (.if_icmp .le 19, 3) := dk_164 0 19 (dk_at dksX19_value_1 7 rfl rfl)
theorem dX19_value_32 : decode cX19_value 32 = .ok (.aload_n 0, 1) := dk_42 (dk_at dksX19_value_1 10 rfl rfl)
theorem dX19_value_33 : decode cX19_value 33 = .ok (.getfield 69, 3) := dk_180 0 69 (dk_at dksX19_value_1 11 rfl rfl)
theorem dX19_value_36 : decode cX19_value 36 = .ok (.iconst 0, 1) := dk_3 (dk_at dksX19_value_1 14 rfl rfl)
theorem dX19_value_37 : decode cX19_value 37 = .ok (.invokevirtual 96, 3) := dk_182 0 96 (dk_at dksX19_value_1 15 rfl rfl)
theorem dX19_value_40 : decode cX19_value 40 = .ok (.bipush 48, 2) := dk_16 48 (dk_at dksX19_value_1 18 rfl rfl)
theorem dX19_value_42 : decode cX19_value 42 = .ok (.if_icmp .ne 6, 3) := dk_160 0 6 (dk_at dksX19_value_1 20 rfl rfl)
theorem dX19_value_45 : decode cX19_value 45 = .ok (.bipush (-99), 2) := dk_16 157 (dk_at dksX19_value_2 0 rfl rfl)
theorem dX19_value_47 : decode cX19_value 47 = .ok (.ireturn, 1) := dk_172 (dk_at dksX19_value_2 2 rfl rfl)
theorem dX19_value_48 : decode cX19_value 48 = .ok (.iconst 0, 1) := dk_3 (dk_at dksX19_value_2 3 rfl rfl)
theorem dX19_value_49 : decode cX19_value 49 = .ok (.istore_n 1, 1) := dk_60 (dk_at dksX19_value_2 4 rfl rfl)
theorem dX19_value_50 : decode cX19_value 50 = .ok (.iconst 0, 1) := dk_3 (dk_at dksX19_value_2 5 rfl rfl)
theorem dX19_value_51 : decode cX19_value 51 = .ok (.istore_n 2, 1) := dk_61 (dk_at dksX19_value_2 6 rfl rfl)
theorem dX19_value_52 : decode cX19_value 52 = .ok (.iload_n 2, 1) := dk_28 (dk_at dksX19_value_2 7 rfl rfl)
theorem dX19_value_53 : decode cX19_value 53 = .ok (.aload_n 0, 1) := dk_42 (dk_at dksX19_value_2 8 rfl rfl)
theorem dX19_value_54 : decode cX19_value 54 = .ok (.getfield 69, 3) := dk_180 0 69 (dk_at dksX19_value_2 9 rfl rfl)
theorem dX19_value_57 : decode cX19_value 57 = .ok (.invokevirtual 95, 3) := dk_182 0 95 (dk_at dksX19_value_2 12 rfl rfl)
theorem dX19_value_60 : decode cX19_value 60 = .ok (.if_icmp .ge 26, 3) := dk_162 0 26 (dk_at dksX19_value_2 15 rfl rfl)
theorem dX19_value_63 : decode cX19_value 63 = .ok (.bipush 10, 2) := dk_16 10 (dk_at dksX19_value_2 18 rfl rfl)
theorem dX19_value_65 : decode cX19_value 65 = .ok (.iload_n 1, 1) := dk_27 (dk_at dksX19_value_2 20 rfl rfl)
theorem dX19_value_66 : decode cX19_value 66 = .ok (.imul, 1) := dk_104 (dk_at dksX19_value_2 21 rfl rfl)
theorem dX19_value_67 : decode cX19_value 67 = .ok (.aload_n 0, 1) := dk_42 (dk_at dksX19_value_2 22 rfl rfl)
theorem dX19_value_68 : decode cX19_value 68 = .ok (.getfield 69, 3) := dk_180 0 69 (dk_at dksX19_value_3 0 rfl rfl)
theorem dX19_value_71 : decode cX19_value 71 = .ok (.iload_n 2, 1) := dk_28 (dk_at dksX19_value_3 3 rfl rfl)
theorem dX19_value_72 : decode cX19_value 72 = .ok (.invokevirtual 96, 3) := dk_182 0 96 (dk_at dksX19_value_3 4 rfl rfl)
theorem dX19_value_75 : decode cX19_value 75 = .ok (.iadd, 1) := dk_96 (dk_at dksX19_value_3 7 rfl rfl)
theorem dX19_value_76 : decode cX19_value 76 = .ok (.bipush 48, 2) := dk_16 48 (dk_at dksX19_value_3 8 rfl rfl)
theorem dX19_value_78 : decode cX19_value 78 = .ok (.isub, 1) := dk_100 (dk_at dksX19_value_3 10 rfl rfl)
theorem dX19_value_79 : decode cX19_value 79 = .ok (.istore_n 1, 1) := dk_60 (dk_at dksX19_value_3 11 rfl rfl)
theorem dX19_value_80 : decode cX19_value 80 = .ok (.iinc 2 1, 3) := dk_132 2 1 (dk_at dksX19_value_3 12 rfl rfl)
theorem dX19_value_83 : decode cX19_value 83 = .ok (.goto (-31), 3) := dk_167 255 225 (dk_at dksX19_value_3 15 rfl rfl)
theorem dX19_value_86 : decode cX19_value 86 = .ok (.iload_n 1, 1) := dk_27 (dk_at dksX19_value_3 18 rfl rfl)
theorem dX19_value_87 : decode cX19_value 87 = .ok (.ireturn, 1) := dk_172 (dk_at dksX19_value_3 19 rfl rfl)
abbrev cX19_costs : ByteArray := prog_16_method_13_code
def yX19_costs : MethodName := ⟨RX19, "costs", "()V"⟩
def dkwX19_costs_2 : List UInt8 := [167, 255, 210, 177]
abbrev dktX19_costs_2 : List UInt8 := dkwX19_costs_2 ++ []
def dkwX19_costs_1 : List UInt8 := [42, 180, 0, 25, 180, 0, 151, 180, 0, 215, 27, 46, 4, 16, 9, 184, 0, 46, 182, 0, 218, 132, 1, 1]
abbrev dktX19_costs_1 : List UInt8 := dkwX19_costs_1 ++ dktX19_costs_2
def dkwX19_costs_0 : List UInt8 := [3, 60, 27, 8, 162, 0, 47, 42, 180, 0, 25, 180, 0, 151, 180, 0, 215, 27, 42, 182, 0, 196, 79, 42]
abbrev dktX19_costs_0 : List UInt8 := dkwX19_costs_0 ++ dktX19_costs_1
theorem dksX19_costs_0 : cX19_costs.data.toList.drop 0 = dktX19_costs_0 := by decide +kernel
theorem dksX19_costs_1 : cX19_costs.data.toList.drop 24 = dktX19_costs_1 := dk_seg dksX19_costs_0 24 rfl rfl
theorem dksX19_costs_2 : cX19_costs.data.toList.drop 48 = dktX19_costs_2 := dk_seg dksX19_costs_1 24 rfl rfl
theorem dX19_costs_0 : decode cX19_costs 0 = .ok (.iconst 0, 1) := dk_3 (dk_at dksX19_costs_0 0 rfl rfl)
theorem dX19_costs_1 : decode cX19_costs 1 = .ok (.istore_n 1, 1) := dk_60 (dk_at dksX19_costs_0 1 rfl rfl)
theorem dX19_costs_2 : decode cX19_costs 2 = .ok (.iload_n 1, 1) := dk_27 (dk_at dksX19_costs_0 2 rfl rfl)
theorem dX19_costs_3 : decode cX19_costs 3 = .ok (.iconst 5, 1) := dk_8 (dk_at dksX19_costs_0 3 rfl rfl)
theorem dX19_costs_4 : decode cX19_costs 4 = .ok (.if_icmp .ge 47, 3) := dk_162 0 47 (dk_at dksX19_costs_0 4 rfl rfl)
theorem dX19_costs_7 : decode cX19_costs 7 = .ok (.aload_n 0, 1) := dk_42 (dk_at dksX19_costs_0 7 rfl rfl)
theorem dX19_costs_8 : decode cX19_costs 8 = .ok (.getfield 25, 3) := dk_180 0 25 (dk_at dksX19_costs_0 8 rfl rfl)
theorem dX19_costs_11 : decode cX19_costs 11 = .ok (.getfield 151, 3) := dk_180 0 151 (dk_at dksX19_costs_0 11 rfl rfl)
theorem dX19_costs_14 : decode cX19_costs 14 = .ok (.getfield 215, 3) := dk_180 0 215 (dk_at dksX19_costs_0 14 rfl rfl)
theorem dX19_costs_17 : decode cX19_costs 17 = .ok (.iload_n 1, 1) := dk_27 (dk_at dksX19_costs_0 17 rfl rfl)
theorem dX19_costs_18 : decode cX19_costs 18 = .ok (.aload_n 0, 1) := dk_42 (dk_at dksX19_costs_0 18 rfl rfl)
theorem dX19_costs_19 : decode cX19_costs 19 = .ok (.invokevirtual 196, 3) := dk_182 0 196 (dk_at dksX19_costs_0 19 rfl rfl)
theorem dX19_costs_22 : decode cX19_costs 22 = .ok (.iastore, 1) := dk_79 (dk_at dksX19_costs_0 22 rfl rfl)
theorem dX19_costs_23 : decode cX19_costs 23 = .ok (.aload_n 0, 1) := dk_42 (dk_at dksX19_costs_0 23 rfl rfl)
theorem dX19_costs_24 : decode cX19_costs 24 = .ok (.aload_n 0, 1) := dk_42 (dk_at dksX19_costs_1 0 rfl rfl)
theorem dX19_costs_25 : decode cX19_costs 25 = .ok (.getfield 25, 3) := dk_180 0 25 (dk_at dksX19_costs_1 1 rfl rfl)
theorem dX19_costs_28 : decode cX19_costs 28 = .ok (.getfield 151, 3) := dk_180 0 151 (dk_at dksX19_costs_1 4 rfl rfl)
theorem dX19_costs_31 : decode cX19_costs 31 = .ok (.getfield 215, 3) := dk_180 0 215 (dk_at dksX19_costs_1 7 rfl rfl)
theorem dX19_costs_34 : decode cX19_costs 34 = .ok (.iload_n 1, 1) := dk_27 (dk_at dksX19_costs_1 10 rfl rfl)
theorem dX19_costs_35 : decode cX19_costs 35 = .ok (.iaload, 1) := dk_46 (dk_at dksX19_costs_1 11 rfl rfl)
theorem dX19_costs_36 : decode cX19_costs 36 = .ok (.iconst 1, 1) := dk_4 (dk_at dksX19_costs_1 12 rfl rfl)
theorem dX19_costs_37 : decode cX19_costs 37 = .ok (.bipush 9, 2) := dk_16 9 (dk_at dksX19_costs_1 13 rfl rfl)
theorem dX19_costs_39 : decode cX19_costs 39 = .ok (.invokestatic 46, 3) := dk_184 0 46 (dk_at dksX19_costs_1 15 rfl rfl)
theorem dX19_costs_42 : decode cX19_costs 42 = .ok (.invokevirtual 218, 3) := dk_182 0 218 (dk_at dksX19_costs_1 18 rfl rfl)
theorem dX19_costs_45 : decode cX19_costs 45 = .ok (.iinc 1 1, 3) := dk_132 1 1 (dk_at dksX19_costs_1 21 rfl rfl)
theorem dX19_costs_48 : decode cX19_costs 48 = .ok (.goto (-46), 3) := dk_167 255 210 (dk_at dksX19_costs_2 0 rfl rfl)
theorem dX19_costs_51 : decode cX19_costs 51 = .ok (.return_, 1) := dk_177 (dk_at dksX19_costs_2 3 rfl rfl)
theorem q168 : (Jvm.Cond.initialized "EdgeSums$Parser") ∈ lw_all := lw_g (lw_at lw_m1 44 rfl) rfl
theorem q686 : (Jvm.Cond.fieldLinkNest "EdgeSums$Parser" (164 : Nat) "EdgeSums$Page" "rows" "I" "EdgeSums") ∈ lw_tbl := lw_at lw_m3 82 rfl
theorem q689 : (Jvm.Cond.fieldLinkNest "EdgeSums$Parser" (167 : Nat) "EdgeSums$Page" "columns" "I" "EdgeSums") ∈ lw_tbl := lw_at lw_m3 85 rfl
theorem q692 : (Jvm.Cond.fieldLinkNest "EdgeSums$Parser" (134 : Nat) "EdgeSums$Page" "blocks" "[I" "EdgeSums") ∈ lw_tbl := lw_at lw_m3 88 rfl
theorem q760 : (Jvm.Cond.fieldLinkNest "EdgeSums$Parser" (155 : Nat) "EdgeSums$Sheet" "page" "LEdgeSums$Page;" "EdgeSums") ∈ lw_tbl := lw_at lw_m3 156 rfl
theorem q765 : (Jvm.Cond.fieldLinkNest "EdgeSums$Parser" (229 : Nat) "EdgeSums$Sheet" "allowed" "I" "EdgeSums") ∈ lw_tbl := lw_at lw_m3 161 rfl
theorem q769 : (Jvm.Cond.fieldLinkNest "EdgeSums$Parser" (215 : Nat) "EdgeSums$Sheet" "costs" "[I" "EdgeSums") ∈ lw_tbl := lw_at lw_m3 165 rfl
theorem q788 : (Jvm.Cond.fieldLinkNest "EdgeSums$Parser" (151 : Nat) "EdgeSums$State" "sheet" "LEdgeSums$Sheet;" "EdgeSums") ∈ lw_tbl := lw_at lw_m3 184 rfl
theorem q986 : (Jvm.Cond.fieldLinkNest "EdgeSums$Parser" (15 : Nat) "EdgeSums" "state" "LEdgeSums$State;" "EdgeSums") ∈ lw_tbl := lw_at lw_m4 142 rfl
theorem q989 : (Jvm.Cond.fieldLinkNest "EdgeSums$Parser" (32 : Nat) "EdgeSums" "text" "Ljava/lang/StringBuilder;" "EdgeSums") ∈ lw_tbl := lw_at lw_m4 145 rfl
theorem q1099 : (Jvm.Cond.selects "EdgeSums$Parser" ({ cls := "java/lang/Object", name := "getClass", desc := "()Ljava/lang/Class;" } : Jvm.MethodName) ({ cls := "java/lang/Object", name := "getClass", desc := "()Ljava/lang/Class;" } : Jvm.MethodName)) ∈ lw_all := lw_g (lw_at lw_m5 15 rfl) rfl
theorem q1767 : (Jvm.Cond.instantiable "EdgeSums$Parser" (4 : Nat)) ∈ lw_all := lw_g (lw_at lw_m7 203 rfl) rfl
theorem q1769 : (Jvm.Cond.instanceMethod ({ cls := "EdgeSums$Parser", name := "<init>", desc := "(LEdgeSums;)V" } : Jvm.MethodName)) ∈ lw_all := lw_g (lw_at lw_m7 205 rfl) rfl
theorem q1770 : (Jvm.Cond.code ({ cls := "EdgeSums$Parser", name := "<init>", desc := "(LEdgeSums;)V" } : Jvm.MethodName) prog_16_method_1_code (2 : Nat) (Option.none : Option Jvm.ClassFile.FieldType)) ∈ lw_all := lw_g (lw_at lw_m7 206 rfl) rfl
theorem q1771 : (Jvm.Cond.methodLink "EdgeSums$Parser" (9 : Nat) ({ cls := "java/lang/Object", name := "<init>", desc := "()V" } : Jvm.MethodName)) ∈ lw_all := lw_g (lw_at lw_m7 207 rfl) rfl
theorem q1772 : (Jvm.Cond.methodLink "EdgeSums$Parser" (19 : Nat) ({ cls := "EdgeSums$State", name := "copy", desc := "()LEdgeSums$State;" } : Jvm.MethodName)) ∈ lw_all := lw_g (lw_at lw_m7 208 rfl) rfl
theorem q1773 : (Jvm.Cond.fieldLink "EdgeSums$Parser" (25 : Nat) "EdgeSums$Parser" "into" "LEdgeSums$State;") ∈ lw_all := lw_g (lw_at lw_m7 209 rfl) rfl
theorem q1775 : (Jvm.Cond.fieldLink "EdgeSums$Parser" (28 : Nat) "EdgeSums$Parser" "position" "I") ∈ lw_all := lw_g (lw_at lw_m7 211 rfl) rfl
theorem q1776 : (Jvm.Cond.fieldLink "EdgeSums$Parser" (69 : Nat) "EdgeSums$Parser" "token" "LEdgeSums$Slice;") ∈ lw_all := lw_g (lw_at lw_m7 212 rfl) rfl
theorem q1777 : (Jvm.Cond.fieldLink "EdgeSums$Parser" (3 : Nat) "EdgeSums$Parser" "this$0" "LEdgeSums;") ∈ lw_all := lw_g (lw_at lw_m7 213 rfl) rfl
theorem q1778 : (Jvm.Cond.laysFinal "EdgeSums$Parser" "EdgeSums$Parser" "into" "LEdgeSums$State;") ∈ lw_all := lw_g (lw_at lw_m7 214 rfl) rfl
theorem q1779 : (Jvm.Cond.soleField "EdgeSums$Parser" "into") ∈ lw_all := lw_g (lw_at lw_m7 215 rfl) rfl
theorem q1780 : (Jvm.Cond.lays "EdgeSums$Parser" "EdgeSums$Parser" "position" "I") ∈ lw_all := lw_g (lw_at lw_m7 216 rfl) rfl
theorem q1781 : (Jvm.Cond.soleField "EdgeSums$Parser" "position") ∈ lw_all := lw_g (lw_at lw_m7 217 rfl) rfl
theorem q1782 : (Jvm.Cond.lays "EdgeSums$Parser" "EdgeSums$Parser" "token" "LEdgeSums$Slice;") ∈ lw_all := lw_g (lw_at lw_m7 218 rfl) rfl
theorem q1783 : (Jvm.Cond.soleField "EdgeSums$Parser" "token") ∈ lw_all := lw_g (lw_at lw_m7 219 rfl) rfl
theorem q1784 : (Jvm.Cond.laysFinal "EdgeSums$Parser" "EdgeSums$Parser" "this$0" "LEdgeSums;") ∈ lw_all := lw_g (lw_at lw_m7 220 rfl) rfl
theorem q1785 : (Jvm.Cond.soleField "EdgeSums$Parser" "this$0") ∈ lw_all := lw_g (lw_at lw_m7 221 rfl) rfl
theorem q1786 : (Jvm.Cond.superclass "EdgeSums$Parser" "java/lang/Object") ∈ lw_all := lw_g (lw_at lw_m7 222 rfl) rfl
theorem q1788 : (Jvm.Cond.instanceMethod ({ cls := "EdgeSums$Parser", name := "items", desc := "()I" } : Jvm.MethodName)) ∈ lw_all := lw_g (lw_at lw_m7 224 rfl) rfl
theorem q1789 : (Jvm.Cond.selects "EdgeSums$Parser" ({ cls := "EdgeSums$Parser", name := "items", desc := "()I" } : Jvm.MethodName) ({ cls := "EdgeSums$Parser", name := "items", desc := "()I" } : Jvm.MethodName)) ∈ lw_all := lw_g (lw_at lw_m7 225 rfl) rfl
theorem q1790 : (Jvm.Cond.code ({ cls := "EdgeSums$Parser", name := "items", desc := "()I" } : Jvm.MethodName) prog_16_method_16_code (2 : Nat) (Option.some Jvm.ClassFile.FieldType.int)) ∈ lw_all := lw_g (lw_at lw_m7 226 rfl) rfl
theorem q1791 : (Jvm.Cond.methodLink "EdgeSums$Parser" (88 : Nat) ({ cls := "EdgeSums$Parser", name := "advance", desc := "()V" } : Jvm.MethodName)) ∈ lw_all := lw_g (lw_at lw_m7 227 rfl) rfl
theorem q1792 : (Jvm.Cond.privateMethod ({ cls := "EdgeSums$Parser", name := "advance", desc := "()V" } : Jvm.MethodName)) ∈ lw_tbl := lw_at lw_m7 228 rfl
theorem q1793 : (Jvm.Cond.instanceMethod ({ cls := "EdgeSums$Parser", name := "advance", desc := "()V" } : Jvm.MethodName)) ∈ lw_all := lw_g (lw_at lw_m7 229 rfl) rfl
theorem q1794 : (Jvm.Cond.code ({ cls := "EdgeSums$Parser", name := "advance", desc := "()V" } : Jvm.MethodName) prog_16_method_4_code (2 : Nat) (Option.none : Option Jvm.ClassFile.FieldType)) ∈ lw_all := lw_g (lw_at lw_m7 230 rfl) rfl
theorem q1795 : (Jvm.Cond.methodLink "EdgeSums$Parser" (54 : Nat) ({ cls := "EdgeSums$Parser", name := "run", desc := "(CC)V" } : Jvm.MethodName)) ∈ lw_all := lw_g (lw_at lw_m7 231 rfl) rfl
theorem q1796 : (Jvm.Cond.privateMethod ({ cls := "EdgeSums$Parser", name := "run", desc := "(CC)V" } : Jvm.MethodName)) ∈ lw_tbl := lw_at lw_m7 232 rfl
theorem q1797 : (Jvm.Cond.instanceMethod ({ cls := "EdgeSums$Parser", name := "run", desc := "(CC)V" } : Jvm.MethodName)) ∈ lw_all := lw_g (lw_at lw_m7 233 rfl) rfl
theorem q1798 : (Jvm.Cond.code ({ cls := "EdgeSums$Parser", name := "run", desc := "(CC)V" } : Jvm.MethodName) prog_16_method_3_code (3 : Nat) (Option.none : Option Jvm.ClassFile.FieldType)) ∈ lw_all := lw_g (lw_at lw_m7 234 rfl) rfl
theorem q1799 : (Jvm.Cond.methodLink "EdgeSums$Parser" (50 : Nat) ({ cls := "EdgeSums$Parser", name := "isAt", desc := "(CC)Z" } : Jvm.MethodName)) ∈ lw_all := lw_g (lw_at lw_m7 235 rfl) rfl
theorem q1800 : (Jvm.Cond.privateMethod ({ cls := "EdgeSums$Parser", name := "isAt", desc := "(CC)Z" } : Jvm.MethodName)) ∈ lw_tbl := lw_at lw_m7 236 rfl
theorem q1801 : (Jvm.Cond.instanceMethod ({ cls := "EdgeSums$Parser", name := "isAt", desc := "(CC)Z" } : Jvm.MethodName)) ∈ lw_all := lw_g (lw_at lw_m7 237 rfl) rfl
theorem q1802 : (Jvm.Cond.code ({ cls := "EdgeSums$Parser", name := "isAt", desc := "(CC)Z" } : Jvm.MethodName) prog_16_method_2_code (3 : Nat) (Option.some Jvm.ClassFile.FieldType.boolean)) ∈ lw_all := lw_g (lw_at lw_m7 238 rfl) rfl
theorem q1803 : (Jvm.Cond.methodLink "EdgeSums$Parser" (36 : Nat) ({ cls := "java/lang/StringBuilder", name := "length", desc := "()I" } : Jvm.MethodName)) ∈ lw_all := lw_g (lw_at lw_m7 239 rfl) rfl
theorem q1804 : (Jvm.Cond.methodLink "EdgeSums$Parser" (42 : Nat) ({ cls := "java/lang/StringBuilder", name := "charAt", desc := "(I)C" } : Jvm.MethodName)) ∈ lw_all := lw_g (lw_at lw_m8 0 rfl) rfl
theorem q1814 : (Jvm.Cond.methodLinkNest "EdgeSums$Parser" (46 : Nat) ({ cls := "EdgeSums", name := "isBetween", desc := "(III)Z" } : Jvm.MethodName) "EdgeSums") ∈ lw_tbl := lw_at lw_m8 10 rfl
theorem q1815 : (Jvm.Cond.methodLink "EdgeSums$Parser" (58 : Nat) ({ cls := "java/lang/Math", name := "min", desc := "(II)I" } : Jvm.MethodName)) ∈ lw_all := lw_g (lw_at lw_m8 11 rfl) rfl
theorem q1816 : (Jvm.Cond.classLink "EdgeSums$Parser" (64 : Nat) "EdgeSums$Slice") ∈ lw_all := lw_g (lw_at lw_m8 12 rfl) rfl
theorem q1818 : (Jvm.Cond.methodLink "EdgeSums$Parser" (66 : Nat) ({ cls := "EdgeSums$Slice", name := "<init>", desc := "(Ljava/lang/CharSequence;II)V" } : Jvm.MethodName)) ∈ lw_all := lw_g (lw_at lw_m8 14 rfl) rfl
theorem q1824 : (Jvm.Cond.fieldLinkNest "EdgeSums$Parser" (78 : Nat) "EdgeSums$Slice" "from" "I" "EdgeSums") ∈ lw_tbl := lw_at lw_m8 20 rfl
theorem q1833 : (Jvm.Cond.methodLink "EdgeSums$Parser" (95 : Nat) ({ cls := "EdgeSums$Slice", name := "length", desc := "()I" } : Jvm.MethodName)) ∈ lw_all := lw_g (lw_at lw_m8 29 rfl) rfl
theorem q1837 : (Jvm.Cond.methodLink "EdgeSums$Parser" (246 : Nat) ({ cls := "EdgeSums$Parser", name := "kind", desc := "(Ljava/lang/CharSequence;)I" } : Jvm.MethodName)) ∈ lw_all := lw_g (lw_at lw_m8 33 rfl) rfl
theorem q1838 : (Jvm.Cond.static ({ cls := "EdgeSums$Parser", name := "kind", desc := "(Ljava/lang/CharSequence;)I" } : Jvm.MethodName)) ∈ lw_all := lw_g (lw_at lw_m8 34 rfl) rfl
theorem q1839 : (Jvm.Cond.code ({ cls := "EdgeSums$Parser", name := "kind", desc := "(Ljava/lang/CharSequence;)I" } : Jvm.MethodName) prog_16_method_15_code (3 : Nat) (Option.some Jvm.ClassFile.FieldType.int)) ∈ lw_all := lw_g (lw_at lw_m8 35 rfl) rfl
theorem q1840 : (Jvm.Cond.interfaceEntry "EdgeSums$Parser" (234 : Nat)) ∈ lw_tbl := lw_at lw_m8 36 rfl
theorem q1841 : (Jvm.Cond.methodLink "EdgeSums$Parser" (234 : Nat) ({ cls := "java/lang/CharSequence", name := "toString", desc := "()Ljava/lang/String;" } : Jvm.MethodName)) ∈ lw_all := lw_g (lw_at lw_m8 37 rfl) rfl
theorem q1941 : (Jvm.Cond.methodLink "EdgeSums$Parser" (184 : Nat) ({ cls := "java/lang/String", name := "hashCode", desc := "()I" } : Jvm.MethodName)) ∈ lw_all := lw_g (lw_at lw_m8 137 rfl) rfl
theorem q1942 : (Jvm.Cond.stringRef "EdgeSums$Parser" (237 : Nat) "page") ∈ lw_tbl := lw_at lw_m8 138 rfl
theorem q1943 : (Jvm.Cond.methodLink "EdgeSums$Parser" (191 : Nat) ({ cls := "java/lang/String", name := "equals", desc := "(Ljava/lang/Object;)Z" } : Jvm.MethodName)) ∈ lw_all := lw_g (lw_at lw_m8 139 rfl) rfl
theorem q1944 : (Jvm.Cond.stringRef "EdgeSums$Parser" (238 : Nat) "answer") ∈ lw_tbl := lw_at lw_m8 140 rfl
theorem q1945 : (Jvm.Cond.stringRef "EdgeSums$Parser" (239 : Nat) "give") ∈ lw_tbl := lw_at lw_m8 141 rfl
theorem q1946 : (Jvm.Cond.stringRef "EdgeSums$Parser" (241 : Nat) "sums") ∈ lw_tbl := lw_at lw_m8 142 rfl
theorem q1947 : (Jvm.Cond.stringRef "EdgeSums$Parser" (243 : Nat) "rules") ∈ lw_tbl := lw_at lw_m8 143 rfl
theorem q1948 : (Jvm.Cond.stringRef "EdgeSums$Parser" (245 : Nat) "costs") ∈ lw_tbl := lw_at lw_m8 144 rfl
theorem q1949 : (Jvm.Cond.methodLink "EdgeSums$Parser" (250 : Nat) ({ cls := "EdgeSums$Parser", name := "item", desc := "(I)V" } : Jvm.MethodName)) ∈ lw_all := lw_g (lw_at lw_m8 145 rfl) rfl
theorem q1950 : (Jvm.Cond.privateMethod ({ cls := "EdgeSums$Parser", name := "item", desc := "(I)V" } : Jvm.MethodName)) ∈ lw_tbl := lw_at lw_m8 146 rfl
theorem q1951 : (Jvm.Cond.instanceMethod ({ cls := "EdgeSums$Parser", name := "item", desc := "(I)V" } : Jvm.MethodName)) ∈ lw_all := lw_g (lw_at lw_m8 147 rfl) rfl
theorem q1952 : (Jvm.Cond.code ({ cls := "EdgeSums$Parser", name := "item", desc := "(I)V" } : Jvm.MethodName) prog_16_method_14_code (2 : Nat) (Option.none : Option Jvm.ClassFile.FieldType)) ∈ lw_all := lw_g (lw_at lw_m8 148 rfl) rfl
theorem q1953 : (Jvm.Cond.methodLink "EdgeSums$Parser" (218 : Nat) ({ cls := "EdgeSums$Parser", name := "take", desc := "(Z)V" } : Jvm.MethodName)) ∈ lw_all := lw_g (lw_at lw_m8 149 rfl) rfl
theorem q1954 : (Jvm.Cond.privateMethod ({ cls := "EdgeSums$Parser", name := "take", desc := "(Z)V" } : Jvm.MethodName)) ∈ lw_tbl := lw_at lw_m8 150 rfl
theorem q1955 : (Jvm.Cond.instanceMethod ({ cls := "EdgeSums$Parser", name := "take", desc := "(Z)V" } : Jvm.MethodName)) ∈ lw_all := lw_g (lw_at lw_m8 151 rfl) rfl
theorem q1956 : (Jvm.Cond.code ({ cls := "EdgeSums$Parser", name := "take", desc := "(Z)V" } : Jvm.MethodName) prog_16_method_7_code (2 : Nat) (Option.none : Option Jvm.ClassFile.FieldType)) ∈ lw_all := lw_g (lw_at lw_m8 152 rfl) rfl
theorem q1957 : (Jvm.Cond.methodLink "EdgeSums$Parser" (84 : Nat) ({ cls := "EdgeSums$Parser", name := "need", desc := "(Z)V" } : Jvm.MethodName)) ∈ lw_all := lw_g (lw_at lw_m8 153 rfl) rfl
theorem q1958 : (Jvm.Cond.privateMethod ({ cls := "EdgeSums$Parser", name := "need", desc := "(Z)V" } : Jvm.MethodName)) ∈ lw_tbl := lw_at lw_m8 154 rfl
theorem q1959 : (Jvm.Cond.instanceMethod ({ cls := "EdgeSums$Parser", name := "need", desc := "(Z)V" } : Jvm.MethodName)) ∈ lw_all := lw_g (lw_at lw_m8 155 rfl) rfl
theorem q1960 : (Jvm.Cond.code ({ cls := "EdgeSums$Parser", name := "need", desc := "(Z)V" } : Jvm.MethodName) prog_16_method_6_code (2 : Nat) (Option.none : Option Jvm.ClassFile.FieldType)) ∈ lw_all := lw_g (lw_at lw_m8 156 rfl) rfl
theorem q1961 : (Jvm.Cond.classLink "EdgeSums$Parser" (76 : Nat) "EdgeSums$TokenException") ∈ lw_all := lw_g (lw_at lw_m8 157 rfl) rfl
theorem q1998 : (Jvm.Cond.methodLink "EdgeSums$Parser" (81 : Nat) ({ cls := "EdgeSums$TokenException", name := "<init>", desc := "(I)V" } : Jvm.MethodName)) ∈ lw_all := lw_g (lw_at lw_m8 194 rfl) rfl
theorem q2025 : (Jvm.Cond.methodLink "EdgeSums$Parser" (221 : Nat) ({ cls := "EdgeSums$Parser", name := "page", desc := "()V" } : Jvm.MethodName)) ∈ lw_all := lw_g (lw_at lw_m8 221 rfl) rfl
theorem q2026 : (Jvm.Cond.privateMethod ({ cls := "EdgeSums$Parser", name := "page", desc := "()V" } : Jvm.MethodName)) ∈ lw_tbl := lw_at lw_m8 222 rfl
theorem q2027 : (Jvm.Cond.instanceMethod ({ cls := "EdgeSums$Parser", name := "page", desc := "()V" } : Jvm.MethodName)) ∈ lw_all := lw_g (lw_at lw_m8 223 rfl) rfl
theorem q2028 : (Jvm.Cond.code ({ cls := "EdgeSums$Parser", name := "page", desc := "()V" } : Jvm.MethodName) prog_16_method_9_code (4 : Nat) (Option.none : Option Jvm.ClassFile.FieldType)) ∈ lw_all := lw_g (lw_at lw_m8 224 rfl) rfl
theorem q2029 : (Jvm.Cond.classLink "EdgeSums$Parser" (97 : Nat) "java/util/ArrayList") ∈ lw_all := lw_g (lw_at lw_m8 225 rfl) rfl
theorem q2031 : (Jvm.Cond.methodLink "EdgeSums$Parser" (99 : Nat) ({ cls := "java/util/ArrayList", name := "<init>", desc := "()V" } : Jvm.MethodName)) ∈ lw_all := lw_g (lw_at lw_m8 227 rfl) rfl
theorem q2055 : (Jvm.Cond.methodLink "EdgeSums$Parser" (100 : Nat) ({ cls := "EdgeSums$Slice", name := "isLetters", desc := "()Z" } : Jvm.MethodName)) ∈ lw_all := lw_g (lw_at lw_m9 11 rfl) rfl
theorem q2064 : (Jvm.Cond.interfaceEntry "EdgeSums$Parser" (103 : Nat)) ∈ lw_tbl := lw_at lw_m9 20 rfl
theorem q2065 : (Jvm.Cond.methodLink "EdgeSums$Parser" (103 : Nat) ({ cls := "java/util/List", name := "size", desc := "()I" } : Jvm.MethodName)) ∈ lw_all := lw_g (lw_at lw_m9 21 rfl) rfl
theorem q2072 : (Jvm.Cond.methodLinkNest "EdgeSums$Parser" (108 : Nat) ({ cls := "EdgeSums", name := "isSide", desc := "(I)Z" } : Jvm.MethodName) "EdgeSums") ∈ lw_tbl := lw_at lw_m9 28 rfl
theorem q2073 : (Jvm.Cond.interfaceEntry "EdgeSums$Parser" (112 : Nat)) ∈ lw_tbl := lw_at lw_m9 29 rfl
theorem q2074 : (Jvm.Cond.methodLink "EdgeSums$Parser" (112 : Nat) ({ cls := "java/util/List", name := "isEmpty", desc := "()Z" } : Jvm.MethodName)) ∈ lw_all := lw_g (lw_at lw_m9 30 rfl) rfl
theorem q2082 : (Jvm.Cond.interfaceEntry "EdgeSums$Parser" (115 : Nat)) ∈ lw_tbl := lw_at lw_m9 38 rfl
theorem q2083 : (Jvm.Cond.methodLink "EdgeSums$Parser" (115 : Nat) ({ cls := "java/util/List", name := "get", desc := "(I)Ljava/lang/Object;" } : Jvm.MethodName)) ∈ lw_all := lw_g (lw_at lw_m9 39 rfl) rfl
theorem q2099 : (Jvm.Cond.interfaceEntry "EdgeSums$Parser" (119 : Nat)) ∈ lw_tbl := lw_at lw_m9 55 rfl
theorem q2100 : (Jvm.Cond.methodLink "EdgeSums$Parser" (119 : Nat) ({ cls := "java/util/List", name := "add", desc := "(Ljava/lang/Object;)Z" } : Jvm.MethodName)) ∈ lw_all := lw_g (lw_at lw_m9 56 rfl) rfl
theorem q2124 : (Jvm.Cond.methodLink "EdgeSums$Parser" (123 : Nat) ({ cls := "EdgeSums$Parser", name := "isStop", desc := "()Z" } : Jvm.MethodName)) ∈ lw_all := lw_g (lw_at lw_m9 80 rfl) rfl
theorem q2125 : (Jvm.Cond.privateMethod ({ cls := "EdgeSums$Parser", name := "isStop", desc := "()Z" } : Jvm.MethodName)) ∈ lw_tbl := lw_at lw_m9 81 rfl
theorem q2126 : (Jvm.Cond.instanceMethod ({ cls := "EdgeSums$Parser", name := "isStop", desc := "()Z" } : Jvm.MethodName)) ∈ lw_all := lw_g (lw_at lw_m9 82 rfl) rfl
theorem q2127 : (Jvm.Cond.code ({ cls := "EdgeSums$Parser", name := "isStop", desc := "()Z" } : Jvm.MethodName) prog_16_method_5_code (1 : Nat) (Option.some Jvm.ClassFile.FieldType.boolean)) ∈ lw_all := lw_g (lw_at lw_m9 83 rfl) rfl
theorem q2128 : (Jvm.Cond.methodLink "EdgeSums$Parser" (73 : Nat) ({ cls := "EdgeSums$Slice", name := "begins", desc := "(CC)Z" } : Jvm.MethodName)) ∈ lw_all := lw_g (lw_at lw_m9 84 rfl) rfl
theorem q2129 : (Jvm.Cond.classLink "EdgeSums$Parser" (126 : Nat) "EdgeSums$Page") ∈ lw_all := lw_g (lw_at lw_m9 85 rfl) rfl
theorem q2130 : (Jvm.Cond.methodLink "EdgeSums$Parser" (128 : Nat) ({ cls := "EdgeSums$Page", name := "<init>", desc := "(II)V" } : Jvm.MethodName)) ∈ lw_all := lw_g (lw_at lw_m9 86 rfl) rfl
theorem q2131 : (Jvm.Cond.methodLink "EdgeSums$Parser" (131 : Nat) ({ cls := "EdgeSums$Page", name := "cells", desc := "()I" } : Jvm.MethodName)) ∈ lw_all := lw_g (lw_at lw_m9 87 rfl) rfl
theorem q2132 : (Jvm.Cond.methodLink "EdgeSums$Parser" (138 : Nat) ({ cls := "EdgeSums$Page", name := "rowOf", desc := "(I)I" } : Jvm.MethodName)) ∈ lw_all := lw_g (lw_at lw_m9 88 rfl) rfl
theorem q2133 : (Jvm.Cond.methodLink "EdgeSums$Parser" (142 : Nat) ({ cls := "EdgeSums$Page", name := "columnOf", desc := "(I)I" } : Jvm.MethodName)) ∈ lw_all := lw_g (lw_at lw_m9 89 rfl) rfl
theorem q2134 : (Jvm.Cond.methodLink "EdgeSums$Parser" (96 : Nat) ({ cls := "EdgeSums$Slice", name := "charAt", desc := "(I)C" } : Jvm.MethodName)) ∈ lw_all := lw_g (lw_at lw_m9 90 rfl) rfl
theorem q2135 : (Jvm.Cond.methodLink "EdgeSums$Parser" (145 : Nat) ({ cls := "EdgeSums$Page", name := "renumber", desc := "()V" } : Jvm.MethodName)) ∈ lw_all := lw_g (lw_at lw_m9 91 rfl) rfl
theorem q2136 : (Jvm.Cond.methodLink "EdgeSums$Parser" (148 : Nat) ({ cls := "EdgeSums$Page", name := "isProper", desc := "()Z" } : Jvm.MethodName)) ∈ lw_all := lw_g (lw_at lw_m9 92 rfl) rfl
theorem q2142 : (Jvm.Cond.methodLink "EdgeSums$Parser" (223 : Nat) ({ cls := "EdgeSums$Parser", name := "answer", desc := "()V" } : Jvm.MethodName)) ∈ lw_all := lw_g (lw_at lw_m9 98 rfl) rfl
theorem q2143 : (Jvm.Cond.privateMethod ({ cls := "EdgeSums$Parser", name := "answer", desc := "()V" } : Jvm.MethodName)) ∈ lw_tbl := lw_at lw_m9 99 rfl
theorem q2144 : (Jvm.Cond.instanceMethod ({ cls := "EdgeSums$Parser", name := "answer", desc := "()V" } : Jvm.MethodName)) ∈ lw_all := lw_g (lw_at lw_m9 100 rfl) rfl
theorem q2145 : (Jvm.Cond.code ({ cls := "EdgeSums$Parser", name := "answer", desc := "()V" } : Jvm.MethodName) prog_16_method_10_code (6 : Nat) (Option.none : Option Jvm.ClassFile.FieldType)) ∈ lw_all := lw_g (lw_at lw_m9 101 rfl) rfl
theorem q2146 : (Jvm.Cond.methodLinkNest "EdgeSums$Parser" (161 : Nat) ({ cls := "EdgeSums$Page", name := "<init>", desc := "(LEdgeSums$Page;)V" } : Jvm.MethodName) "EdgeSums") ∈ lw_tbl := lw_at lw_m9 102 rfl
theorem q2147 : (Jvm.Cond.methodLink "EdgeSums$Parser" (91 : Nat) ({ cls := "EdgeSums$Slice", name := "isDigits", desc := "()Z" } : Jvm.MethodName)) ∈ lw_all := lw_g (lw_at lw_m9 103 rfl) rfl
theorem q2151 : (Jvm.Cond.methodLink "EdgeSums$Parser" (170 : Nat) ({ cls := "EdgeSums$Page", name := "isNumber", desc := "(II)Z" } : Jvm.MethodName)) ∈ lw_all := lw_g (lw_at lw_m9 107 rfl) rfl
theorem q2152 : (Jvm.Cond.methodLink "EdgeSums$Parser" (174 : Nat) ({ cls := "EdgeSums$Page", name := "hasElsewhere", desc := "(II)Z" } : Jvm.MethodName)) ∈ lw_all := lw_g (lw_at lw_m9 108 rfl) rfl
theorem q2153 : (Jvm.Cond.methodLink "EdgeSums$Parser" (177 : Nat) ({ cls := "EdgeSums$Page", name := "write", desc := "(II)V" } : Jvm.MethodName)) ∈ lw_all := lw_g (lw_at lw_m9 109 rfl) rfl
theorem q2154 : (Jvm.Cond.methodLink "EdgeSums$Parser" (226 : Nat) ({ cls := "EdgeSums$Parser", name := "clues", desc := "(I)V" } : Jvm.MethodName)) ∈ lw_all := lw_g (lw_at lw_m9 110 rfl) rfl
theorem q2155 : (Jvm.Cond.privateMethod ({ cls := "EdgeSums$Parser", name := "clues", desc := "(I)V" } : Jvm.MethodName)) ∈ lw_tbl := lw_at lw_m9 111 rfl
theorem q2156 : (Jvm.Cond.instanceMethod ({ cls := "EdgeSums$Parser", name := "clues", desc := "(I)V" } : Jvm.MethodName)) ∈ lw_all := lw_g (lw_at lw_m9 112 rfl) rfl
theorem q2157 : (Jvm.Cond.code ({ cls := "EdgeSums$Parser", name := "clues", desc := "(I)V" } : Jvm.MethodName) prog_16_method_12_code (6 : Nat) (Option.none : Option Jvm.ClassFile.FieldType)) ∈ lw_all := lw_g (lw_at lw_m9 113 rfl) rfl
theorem q2158 : (Jvm.Cond.methodLink "EdgeSums$Parser" (202 : Nat) ({ cls := "EdgeSums$Page", name := "places", desc := "(I)I" } : Jvm.MethodName)) ∈ lw_all := lw_g (lw_at lw_m9 114 rfl) rfl
theorem q2159 : (Jvm.Cond.methodLink "EdgeSums$Parser" (205 : Nat) ({ cls := "EdgeSums$Page", name := "canBeClue", desc := "(II)Z" } : Jvm.MethodName)) ∈ lw_all := lw_g (lw_at lw_m9 115 rfl) rfl
theorem q2160 : (Jvm.Cond.methodLink "EdgeSums$Parser" (208 : Nat) ({ cls := "EdgeSums$Parser", name := "which", desc := "(II)I" } : Jvm.MethodName)) ∈ lw_all := lw_g (lw_at lw_m9 116 rfl) rfl
theorem q2161 : (Jvm.Cond.privateMethod ({ cls := "EdgeSums$Parser", name := "which", desc := "(II)I" } : Jvm.MethodName)) ∈ lw_tbl := lw_at lw_m9 117 rfl
theorem q2162 : (Jvm.Cond.instanceMethod ({ cls := "EdgeSums$Parser", name := "which", desc := "(II)I" } : Jvm.MethodName)) ∈ lw_all := lw_g (lw_at lw_m9 118 rfl) rfl
theorem q2163 : (Jvm.Cond.code ({ cls := "EdgeSums$Parser", name := "which", desc := "(II)I" } : Jvm.MethodName) prog_16_method_11_code (7 : Nat) (Option.some Jvm.ClassFile.FieldType.int)) ∈ lw_all := lw_g (lw_at lw_m9 119 rfl) rfl
theorem q2164 : (Jvm.Cond.methodLink "EdgeSums$Parser" (180 : Nat) ({ cls := "EdgeSums$Slice", name := "toString", desc := "()Ljava/lang/String;" } : Jvm.MethodName)) ∈ lw_all := lw_g (lw_at lw_m9 120 rfl) rfl
theorem q2165 : (Jvm.Cond.stringRef "EdgeSums$Parser" (189 : Nat) "none") ∈ lw_tbl := lw_at lw_m9 121 rfl
theorem q2166 : (Jvm.Cond.stringRef "EdgeSums$Parser" (194 : Nat) "all") ∈ lw_tbl := lw_at lw_m9 122 rfl
theorem q2167 : (Jvm.Cond.methodLink "EdgeSums$Parser" (196 : Nat) ({ cls := "EdgeSums$Parser", name := "value", desc := "()I" } : Jvm.MethodName)) ∈ lw_all := lw_g (lw_at lw_m9 123 rfl) rfl
theorem q2168 : (Jvm.Cond.privateMethod ({ cls := "EdgeSums$Parser", name := "value", desc := "()I" } : Jvm.MethodName)) ∈ lw_tbl := lw_at lw_m9 124 rfl
theorem q2169 : (Jvm.Cond.instanceMethod ({ cls := "EdgeSums$Parser", name := "value", desc := "()I" } : Jvm.MethodName)) ∈ lw_all := lw_g (lw_at lw_m9 125 rfl) rfl
theorem q2170 : (Jvm.Cond.code ({ cls := "EdgeSums$Parser", name := "value", desc := "()I" } : Jvm.MethodName) prog_16_method_8_code (3 : Nat) (Option.some Jvm.ClassFile.FieldType.int)) ∈ lw_all := lw_g (lw_at lw_m9 126 rfl) rfl
theorem q2171 : (Jvm.Cond.methodLinkNest "EdgeSums$Parser" (199 : Nat) ({ cls := "EdgeSums", name := "has", desc := "(II)Z" } : Jvm.MethodName) "EdgeSums") ∈ lw_tbl := lw_at lw_m9 127 rfl
theorem q2172 : (Jvm.Cond.methodLink "EdgeSums$Parser" (211 : Nat) ({ cls := "EdgeSums$Page", name := "setClue", desc := "(IIZ)V" } : Jvm.MethodName)) ∈ lw_all := lw_g (lw_at lw_m9 128 rfl) rfl
theorem q2173 : (Jvm.Cond.methodLink "EdgeSums$Parser" (232 : Nat) ({ cls := "EdgeSums$Parser", name := "costs", desc := "()V" } : Jvm.MethodName)) ∈ lw_all := lw_g (lw_at lw_m9 129 rfl) rfl
theorem q2174 : (Jvm.Cond.privateMethod ({ cls := "EdgeSums$Parser", name := "costs", desc := "()V" } : Jvm.MethodName)) ∈ lw_tbl := lw_at lw_m9 130 rfl
theorem q2175 : (Jvm.Cond.instanceMethod ({ cls := "EdgeSums$Parser", name := "costs", desc := "()V" } : Jvm.MethodName)) ∈ lw_all := lw_g (lw_at lw_m9 131 rfl) rfl
theorem q2176 : (Jvm.Cond.code ({ cls := "EdgeSums$Parser", name := "costs", desc := "()V" } : Jvm.MethodName) prog_16_method_13_code (2 : Nat) (Option.none : Option Jvm.ClassFile.FieldType)) ∈ lw_all := lw_g (lw_at lw_m9 132 rfl) rfl
theorem q2177 : (Jvm.Cond.methodLink "EdgeSums$Parser" (253 : Nat) ({ cls := "EdgeSums$Sheet", name := "reset", desc := "()V" } : Jvm.MethodName)) ∈ lw_all := lw_g (lw_at lw_m9 133 rfl) rfl
theorem q3214 : (Jvm.Cond.castable "EdgeSums$Parser" "java/lang/Object") ∈ lw_tbl := lw_at lw_m13 210 rfl
theorem in_X19 : ∀ w ∈ wsX190, w ∈ lw_all := lw_in wsX190 [1778, 1780, 1782, 1784] (by decide +kernel) (by decide +kernel)
/-! EdgeSums$Slice -/
set_option maxRecDepth 100000
def RX20 : String := "EdgeSums$Slice"
def TX20 : u_T := fun k => match k with
  | 0 => ("EdgeSums$Slice", "whole", "Ljava/lang/CharSequence;", true)
  | 1 => ("EdgeSums$Slice", "from", "I", true)
  | _ => ("EdgeSums$Slice", "size", "I", true)
def tyX20 : Nat → FieldType := fun k => match k with
  | 0 => .object "java/lang/CharSequence"
  | 1 => .int
  | _ => .int
abbrev wsX200 : List Cond := u_ws RX20 TX20 3
theorem nmX20 : ∀ a, a < 3 → ∀ b, b < 3 → a ≠ b → (TX20 a).2.1 ≠ (TX20 b).2.1 := by decide +kernel
theorem tyX20_ok : ∀ k, k < 3 → parseFieldDescriptor (TX20 k).2.2.1 = some (tyX20 k) := by decide +kernel
abbrev cX20_init : ByteArray := prog_21_method_1_code
def yX20_init : MethodName := ⟨RX20, "<init>", "(Ljava/lang/CharSequence;II)V"⟩
def dkwX20_init_0 : List UInt8 := [42, 183, 0, 1, 42, 43, 181, 0, 7, 42, 28, 181, 0, 13, 42, 29, 28, 100, 181, 0, 17, 177]
abbrev dktX20_init_0 : List UInt8 := dkwX20_init_0 ++ []
theorem dksX20_init_0 : cX20_init.data.toList.drop 0 = dktX20_init_0 := by decide +kernel
theorem dX20_init_0 : decode cX20_init 0 = .ok (.aload_n 0, 1) := dk_42 (dk_at dksX20_init_0 0 rfl rfl)
theorem dX20_init_1 : decode cX20_init 1 = .ok (.invokespecial 1, 3) := dk_183 0 1 (dk_at dksX20_init_0 1 rfl rfl)
theorem dX20_init_4 : decode cX20_init 4 = .ok (.aload_n 0, 1) := dk_42 (dk_at dksX20_init_0 4 rfl rfl)
theorem dX20_init_5 : decode cX20_init 5 = .ok (.aload_n 1, 1) := dk_43 (dk_at dksX20_init_0 5 rfl rfl)
theorem dX20_init_6 : decode cX20_init 6 = .ok (.putfield 7, 3) := dk_181 0 7 (dk_at dksX20_init_0 6 rfl rfl)
theorem dX20_init_9 : decode cX20_init 9 = .ok (.aload_n 0, 1) := dk_42 (dk_at dksX20_init_0 9 rfl rfl)
theorem dX20_init_10 : decode cX20_init 10 = .ok (.iload_n 2, 1) := dk_28 (dk_at dksX20_init_0 10 rfl rfl)
theorem dX20_init_11 : decode cX20_init 11 = .ok (.putfield 13, 3) := dk_181 0 13 (dk_at dksX20_init_0 11 rfl rfl)
theorem dX20_init_14 : decode cX20_init 14 = .ok (.aload_n 0, 1) := dk_42 (dk_at dksX20_init_0 14 rfl rfl)
theorem dX20_init_15 : decode cX20_init 15 = .ok (.iload_n 3, 1) := dk_29 (dk_at dksX20_init_0 15 rfl rfl)
theorem dX20_init_16 : decode cX20_init 16 = .ok (.iload_n 2, 1) := dk_28 (dk_at dksX20_init_0 16 rfl rfl)
theorem dX20_init_17 : decode cX20_init 17 = .ok (.isub, 1) := dk_100 (dk_at dksX20_init_0 17 rfl rfl)
theorem dX20_init_18 : decode cX20_init 18 = .ok (.putfield 17, 3) := dk_181 0 17 (dk_at dksX20_init_0 18 rfl rfl)
theorem dX20_init_21 : decode cX20_init 21 = .ok (.return_, 1) := dk_177 (dk_at dksX20_init_0 21 rfl rfl)
abbrev cX20_length : ByteArray := prog_21_method_2_code
def yX20_length : MethodName := ⟨RX20, "length", "()I"⟩
theorem dX20_length_0 : decode cX20_length 0 = .ok (.aload_n 0, 1) := by decide +kernel
theorem dX20_length_1 : decode cX20_length 1 = .ok (.getfield 17, 3) := by decide +kernel
theorem dX20_length_4 : decode cX20_length 4 = .ok (.ireturn, 1) := by decide +kernel
abbrev cX20_toString : ByteArray := prog_21_method_5_code
def yX20_toString : MethodName := ⟨RX20, "toString", "()Ljava/lang/String;"⟩
def dkwX20_toString_1 : List UInt8 := [182, 0, 33, 87, 132, 2, 1, 167, 255, 235, 43, 182, 0, 37, 176]
abbrev dktX20_toString_1 : List UInt8 := dkwX20_toString_1 ++ []
def dkwX20_toString_0 : List UInt8 := [187, 0, 29, 89, 183, 0, 31, 76, 3, 61, 28, 42, 180, 0, 17, 162, 0, 19, 43, 42, 28, 182, 0, 32]
abbrev dktX20_toString_0 : List UInt8 := dkwX20_toString_0 ++ dktX20_toString_1
theorem dksX20_toString_0 : cX20_toString.data.toList.drop 0 = dktX20_toString_0 := by decide +kernel
theorem dksX20_toString_1 : cX20_toString.data.toList.drop 24 = dktX20_toString_1 := dk_seg dksX20_toString_0 24 rfl rfl
theorem dX20_toString_0 : decode cX20_toString 0 = .ok (.new 29, 3) := dk_187 0 29 (dk_at dksX20_toString_0 0 rfl rfl)
theorem dX20_toString_3 : decode cX20_toString 3 = .ok (.dup, 1) := dk_89 (dk_at dksX20_toString_0 3 rfl rfl)
theorem dX20_toString_4 : decode cX20_toString 4 = .ok (.invokespecial 31, 3) := dk_183 0 31 (dk_at dksX20_toString_0 4 rfl rfl)
theorem dX20_toString_7 : decode cX20_toString 7 = .ok (.astore_n 1, 1) := dk_76 (dk_at dksX20_toString_0 7 rfl rfl)
theorem dX20_toString_8 : decode cX20_toString 8 = .ok (.iconst 0, 1) := dk_3 (dk_at dksX20_toString_0 8 rfl rfl)
theorem dX20_toString_9 : decode cX20_toString 9 = .ok (.istore_n 2, 1) := dk_61 (dk_at dksX20_toString_0 9 rfl rfl)
theorem dX20_toString_10 : decode cX20_toString 10 = .ok (.iload_n 2, 1) := dk_28 (dk_at dksX20_toString_0 10 rfl rfl)
theorem dX20_toString_11 : decode cX20_toString 11 = .ok (.aload_n 0, 1) := dk_42 (dk_at dksX20_toString_0 11 rfl rfl)
theorem dX20_toString_12 : decode cX20_toString 12 = .ok (.getfield 17, 3) := dk_180 0 17 (dk_at dksX20_toString_0 12 rfl rfl)
theorem dX20_toString_15 : decode cX20_toString 15 = .ok (.if_icmp .ge 19, 3) := dk_162 0 19 (dk_at dksX20_toString_0 15 rfl rfl)
theorem dX20_toString_18 : decode cX20_toString 18 = .ok (.aload_n 1, 1) := dk_43 (dk_at dksX20_toString_0 18 rfl rfl)
theorem dX20_toString_19 : decode cX20_toString 19 = .ok (.aload_n 0, 1) := dk_42 (dk_at dksX20_toString_0 19 rfl rfl)
theorem dX20_toString_20 : decode cX20_toString 20 = .ok (.iload_n 2, 1) := dk_28 (dk_at dksX20_toString_0 20 rfl rfl)
theorem dX20_toString_21 : decode cX20_toString 21 = .ok (.invokevirtual 32, 3) := dk_182 0 32 (dk_at dksX20_toString_0 21 rfl rfl)
theorem dX20_toString_24 : decode cX20_toString 24 = .ok (.invokevirtual 33, 3) := dk_182 0 33 (dk_at dksX20_toString_1 0 rfl rfl)
theorem dX20_toString_27 : decode cX20_toString 27 = .ok (.pop, 1) := dk_87 (dk_at dksX20_toString_1 3 rfl rfl)
theorem dX20_toString_28 : decode cX20_toString 28 = .ok (.iinc 2 1, 3) := dk_132 2 1 (dk_at dksX20_toString_1 4 rfl rfl)
theorem dX20_toString_31 : decode cX20_toString 31 = .ok (.goto (-21), 3) := dk_167 255 235 (dk_at dksX20_toString_1 7 rfl rfl)
theorem dX20_toString_34 : decode cX20_toString 34 = .ok (.aload_n 1, 1) := dk_43 (dk_at dksX20_toString_1 10 rfl rfl)
theorem dX20_toString_35 : decode cX20_toString 35 = .ok (.invokevirtual 37, 3) := dk_182 0 37 (dk_at dksX20_toString_1 11 rfl rfl)
theorem dX20_toString_38 : decode cX20_toString 38 = .ok (.areturn, 1) := dk_176 (dk_at dksX20_toString_1 14 rfl rfl)
abbrev cX20_charAt : ByteArray := prog_21_method_3_code
def yX20_charAt : MethodName := ⟨RX20, "charAt", "(I)C"⟩
def dkwX20_charAt_0 : List UInt8 := [42, 180, 0, 7, 42, 180, 0, 13, 27, 96, 185, 0, 20, 2, 0, 172]
abbrev dktX20_charAt_0 : List UInt8 := dkwX20_charAt_0 ++ []
theorem dksX20_charAt_0 : cX20_charAt.data.toList.drop 0 = dktX20_charAt_0 := by decide +kernel
theorem dX20_charAt_0 : decode cX20_charAt 0 = .ok (.aload_n 0, 1) := dk_42 (dk_at dksX20_charAt_0 0 rfl rfl)
theorem dX20_charAt_1 : decode cX20_charAt 1 = .ok (.getfield 7, 3) := dk_180 0 7 (dk_at dksX20_charAt_0 1 rfl rfl)
theorem dX20_charAt_4 : decode cX20_charAt 4 = .ok (.aload_n 0, 1) := dk_42 (dk_at dksX20_charAt_0 4 rfl rfl)
theorem dX20_charAt_5 : decode cX20_charAt 5 = .ok (.getfield 13, 3) := dk_180 0 13 (dk_at dksX20_charAt_0 5 rfl rfl)
theorem dX20_charAt_8 : decode cX20_charAt 8 = .ok (.iload_n 1, 1) := dk_27 (dk_at dksX20_charAt_0 8 rfl rfl)
theorem dX20_charAt_9 : decode cX20_charAt 9 = .ok (.iadd, 1) := dk_96 (dk_at dksX20_charAt_0 9 rfl rfl)
theorem dX20_charAt_10 : decode cX20_charAt 10 = .ok (.invokeinterface 20 2, 5) := by decide +kernel
theorem dX20_charAt_15 : decode cX20_charAt 15 = .ok (.ireturn, 1) := dk_172 (dk_at dksX20_charAt_0 15 rfl rfl)
abbrev cX20_isLetters : ByteArray := prog_21_method_7_code
def yX20_isLetters : MethodName := ⟨RX20, "isLetters", "()Z"⟩
def dkwX20_isLetters_0 : List UInt8 := [42, 16, 97, 16, 122, 182, 0, 47, 172]
abbrev dktX20_isLetters_0 : List UInt8 := dkwX20_isLetters_0 ++ []
theorem dksX20_isLetters_0 : cX20_isLetters.data.toList.drop 0 = dktX20_isLetters_0 := by decide +kernel
theorem dX20_isLetters_0 : decode cX20_isLetters 0 = .ok (.aload_n 0, 1) := dk_42 (dk_at dksX20_isLetters_0 0 rfl rfl)
theorem dX20_isLetters_1 : decode cX20_isLetters 1 = .ok (.bipush 97, 2) := dk_16 97 (dk_at dksX20_isLetters_0 1 rfl rfl)
theorem dX20_isLetters_3 : decode cX20_isLetters 3 = .ok (.bipush 122, 2) := dk_16 122 (dk_at dksX20_isLetters_0 3 rfl rfl)
theorem dX20_isLetters_5 : decode cX20_isLetters 5 = .ok (.invokevirtual 47, 3) := dk_182 0 47 (dk_at dksX20_isLetters_0 5 rfl rfl)
theorem dX20_isLetters_8 : decode cX20_isLetters 8 = .ok (.ireturn, 1) := dk_172 (dk_at dksX20_isLetters_0 8 rfl rfl)
abbrev cX20_begins : ByteArray := prog_21_method_6_code
def yX20_begins : MethodName := ⟨RX20, "begins", "(CC)Z"⟩
def dkwX20_begins_1 : List UInt8 := [3, 172]
abbrev dktX20_begins_1 : List UInt8 := dkwX20_begins_1 ++ []
def dkwX20_begins_0 : List UInt8 := [42, 180, 0, 17, 158, 0, 20, 42, 3, 182, 0, 32, 27, 28, 184, 0, 41, 153, 0, 7, 4, 167, 0, 4]
abbrev dktX20_begins_0 : List UInt8 := dkwX20_begins_0 ++ dktX20_begins_1
theorem dksX20_begins_0 : cX20_begins.data.toList.drop 0 = dktX20_begins_0 := by decide +kernel
theorem dksX20_begins_1 : cX20_begins.data.toList.drop 24 = dktX20_begins_1 := dk_seg dksX20_begins_0 24 rfl rfl
theorem dX20_begins_0 : decode cX20_begins 0 = .ok (.aload_n 0, 1) := dk_42 (dk_at dksX20_begins_0 0 rfl rfl)
theorem dX20_begins_1 : decode cX20_begins 1 = .ok (.getfield 17, 3) := dk_180 0 17 (dk_at dksX20_begins_0 1 rfl rfl)
theorem dX20_begins_4 : decode cX20_begins 4 = .ok (.ifCond .le 20, 3) := dk_158 0 20 (dk_at dksX20_begins_0 4 rfl rfl)
theorem dX20_begins_7 : decode cX20_begins 7 = .ok (.aload_n 0, 1) := dk_42 (dk_at dksX20_begins_0 7 rfl rfl)
theorem dX20_begins_8 : decode cX20_begins 8 = .ok (.iconst 0, 1) := dk_3 (dk_at dksX20_begins_0 8 rfl rfl)
theorem dX20_begins_9 : decode cX20_begins 9 = .ok (.invokevirtual 32, 3) := dk_182 0 32 (dk_at dksX20_begins_0 9 rfl rfl)
theorem dX20_begins_12 : decode cX20_begins 12 = .ok (.iload_n 1, 1) := dk_27 (dk_at dksX20_begins_0 12 rfl rfl)
theorem dX20_begins_13 : decode cX20_begins 13 = .ok (.iload_n 2, 1) := dk_28 (dk_at dksX20_begins_0 13 rfl rfl)
theorem dX20_begins_14 : decode cX20_begins 14 = .ok (.invokestatic 41, 3) := dk_184 0 41 (dk_at dksX20_begins_0 14 rfl rfl)
theorem dX20_begins_17 : decode cX20_begins 17 = .ok (.ifCond .eq 7, 3) := dk_153 0 7 (dk_at dksX20_begins_0 17 rfl rfl)
theorem dX20_begins_20 : decode cX20_begins 20 = .ok (.iconst 1, 1) := dk_4 (dk_at dksX20_begins_0 20 rfl rfl)
theorem dX20_begins_21 : decode cX20_begins 21 = .ok (.goto 4, 3) := dk_167 0 4 (dk_at dksX20_begins_0 21 rfl rfl)
theorem dX20_begins_24 : decode cX20_begins 24 = .ok (.iconst 0, 1) := dk_3 (dk_at dksX20_begins_1 0 rfl rfl)
theorem dX20_begins_25 : decode cX20_begins 25 = .ok (.ireturn, 1) := dk_172 (dk_at dksX20_begins_1 1 rfl rfl)
abbrev cX20_isDigits : ByteArray := prog_21_method_8_code
def yX20_isDigits : MethodName := ⟨RX20, "isDigits", "()Z"⟩
def dkwX20_isDigits_0 : List UInt8 := [42, 16, 48, 16, 57, 182, 0, 47, 172]
abbrev dktX20_isDigits_0 : List UInt8 := dkwX20_isDigits_0 ++ []
theorem dksX20_isDigits_0 : cX20_isDigits.data.toList.drop 0 = dktX20_isDigits_0 := by decide +kernel
theorem dX20_isDigits_0 : decode cX20_isDigits 0 = .ok (.aload_n 0, 1) := dk_42 (dk_at dksX20_isDigits_0 0 rfl rfl)
theorem dX20_isDigits_1 : decode cX20_isDigits 1 = .ok (.bipush 48, 2) := dk_16 48 (dk_at dksX20_isDigits_0 1 rfl rfl)
theorem dX20_isDigits_3 : decode cX20_isDigits 3 = .ok (.bipush 57, 2) := dk_16 57 (dk_at dksX20_isDigits_0 3 rfl rfl)
theorem dX20_isDigits_5 : decode cX20_isDigits 5 = .ok (.invokevirtual 47, 3) := dk_182 0 47 (dk_at dksX20_isDigits_0 5 rfl rfl)
theorem dX20_isDigits_8 : decode cX20_isDigits 8 = .ok (.ireturn, 1) := dk_172 (dk_at dksX20_isDigits_0 8 rfl rfl)
theorem q169 : (Jvm.Cond.initialized "EdgeSums$Slice") ∈ lw_all := lw_g (lw_at lw_m1 45 rfl) rfl
theorem q1103 : (Jvm.Cond.selects "EdgeSums$Slice" ({ cls := "java/lang/Object", name := "getClass", desc := "()Ljava/lang/Class;" } : Jvm.MethodName) ({ cls := "java/lang/Object", name := "getClass", desc := "()Ljava/lang/Class;" } : Jvm.MethodName)) ∈ lw_all := lw_g (lw_at lw_m5 19 rfl) rfl
theorem q1817 : (Jvm.Cond.instantiable "EdgeSums$Slice" (3 : Nat)) ∈ lw_all := lw_g (lw_at lw_m8 13 rfl) rfl
theorem q1819 : (Jvm.Cond.instanceMethod ({ cls := "EdgeSums$Slice", name := "<init>", desc := "(Ljava/lang/CharSequence;II)V" } : Jvm.MethodName)) ∈ lw_all := lw_g (lw_at lw_m8 15 rfl) rfl
theorem q1820 : (Jvm.Cond.code ({ cls := "EdgeSums$Slice", name := "<init>", desc := "(Ljava/lang/CharSequence;II)V" } : Jvm.MethodName) prog_21_method_1_code (4 : Nat) (Option.none : Option Jvm.ClassFile.FieldType)) ∈ lw_all := lw_g (lw_at lw_m8 16 rfl) rfl
theorem q1821 : (Jvm.Cond.methodLink "EdgeSums$Slice" (1 : Nat) ({ cls := "java/lang/Object", name := "<init>", desc := "()V" } : Jvm.MethodName)) ∈ lw_all := lw_g (lw_at lw_m8 17 rfl) rfl
theorem q1822 : (Jvm.Cond.fieldLink "EdgeSums$Slice" (7 : Nat) "EdgeSums$Slice" "whole" "Ljava/lang/CharSequence;") ∈ lw_all := lw_g (lw_at lw_m8 18 rfl) rfl
theorem q1823 : (Jvm.Cond.fieldLink "EdgeSums$Slice" (13 : Nat) "EdgeSums$Slice" "from" "I") ∈ lw_all := lw_g (lw_at lw_m8 19 rfl) rfl
theorem q1825 : (Jvm.Cond.fieldLink "EdgeSums$Slice" (17 : Nat) "EdgeSums$Slice" "size" "I") ∈ lw_all := lw_g (lw_at lw_m8 21 rfl) rfl
theorem q1826 : (Jvm.Cond.laysFinal "EdgeSums$Slice" "EdgeSums$Slice" "whole" "Ljava/lang/CharSequence;") ∈ lw_all := lw_g (lw_at lw_m8 22 rfl) rfl
theorem q1827 : (Jvm.Cond.soleField "EdgeSums$Slice" "whole") ∈ lw_all := lw_g (lw_at lw_m8 23 rfl) rfl
theorem q1828 : (Jvm.Cond.laysFinal "EdgeSums$Slice" "EdgeSums$Slice" "from" "I") ∈ lw_all := lw_g (lw_at lw_m8 24 rfl) rfl
theorem q1829 : (Jvm.Cond.soleField "EdgeSums$Slice" "from") ∈ lw_all := lw_g (lw_at lw_m8 25 rfl) rfl
theorem q1830 : (Jvm.Cond.laysFinal "EdgeSums$Slice" "EdgeSums$Slice" "size" "I") ∈ lw_all := lw_g (lw_at lw_m8 26 rfl) rfl
theorem q1831 : (Jvm.Cond.soleField "EdgeSums$Slice" "size") ∈ lw_all := lw_g (lw_at lw_m8 27 rfl) rfl
theorem q1832 : (Jvm.Cond.superclass "EdgeSums$Slice" "java/lang/Object") ∈ lw_all := lw_g (lw_at lw_m8 28 rfl) rfl
theorem q1834 : (Jvm.Cond.instanceMethod ({ cls := "EdgeSums$Slice", name := "length", desc := "()I" } : Jvm.MethodName)) ∈ lw_all := lw_g (lw_at lw_m8 30 rfl) rfl
theorem q1835 : (Jvm.Cond.selects "EdgeSums$Slice" ({ cls := "EdgeSums$Slice", name := "length", desc := "()I" } : Jvm.MethodName) ({ cls := "EdgeSums$Slice", name := "length", desc := "()I" } : Jvm.MethodName)) ∈ lw_all := lw_g (lw_at lw_m8 31 rfl) rfl
theorem q1836 : (Jvm.Cond.code ({ cls := "EdgeSums$Slice", name := "length", desc := "()I" } : Jvm.MethodName) prog_21_method_2_code (1 : Nat) (Option.some Jvm.ClassFile.FieldType.int)) ∈ lw_all := lw_g (lw_at lw_m8 32 rfl) rfl
theorem q1844 : (Jvm.Cond.castable "EdgeSums$Slice" "java/lang/CharSequence") ∈ lw_tbl := lw_at lw_m8 40 rfl
theorem q1845 : (Jvm.Cond.selects "EdgeSums$Slice" ({ cls := "java/lang/CharSequence", name := "toString", desc := "()Ljava/lang/String;" } : Jvm.MethodName) ({ cls := "EdgeSums$Slice", name := "toString", desc := "()Ljava/lang/String;" } : Jvm.MethodName)) ∈ lw_all := lw_g (lw_at lw_m8 41 rfl) rfl
theorem q1846 : (Jvm.Cond.unhidden "EdgeSums$Slice" "toString" "()Ljava/lang/String;") ∈ lw_tbl := lw_at lw_m8 42 rfl
theorem q1847 : (Jvm.Cond.instanceMethod ({ cls := "EdgeSums$Slice", name := "toString", desc := "()Ljava/lang/String;" } : Jvm.MethodName)) ∈ lw_all := lw_g (lw_at lw_m8 43 rfl) rfl
theorem q1848 : (Jvm.Cond.publicMethod ({ cls := "EdgeSums$Slice", name := "toString", desc := "()Ljava/lang/String;" } : Jvm.MethodName)) ∈ lw_tbl := lw_at lw_m8 44 rfl
theorem q1849 : (Jvm.Cond.code ({ cls := "EdgeSums$Slice", name := "toString", desc := "()Ljava/lang/String;" } : Jvm.MethodName) prog_21_method_5_code (3 : Nat) (Option.some (Jvm.ClassFile.FieldType.object "java/lang/String"))) ∈ lw_all := lw_g (lw_at lw_m8 45 rfl) rfl
theorem q1850 : (Jvm.Cond.classLink "EdgeSums$Slice" (29 : Nat) "java/lang/StringBuilder") ∈ lw_all := lw_g (lw_at lw_m8 46 rfl) rfl
theorem q1851 : (Jvm.Cond.methodLink "EdgeSums$Slice" (31 : Nat) ({ cls := "java/lang/StringBuilder", name := "<init>", desc := "()V" } : Jvm.MethodName)) ∈ lw_all := lw_g (lw_at lw_m8 47 rfl) rfl
theorem q1852 : (Jvm.Cond.methodLink "EdgeSums$Slice" (32 : Nat) ({ cls := "EdgeSums$Slice", name := "charAt", desc := "(I)C" } : Jvm.MethodName)) ∈ lw_all := lw_g (lw_at lw_m8 48 rfl) rfl
theorem q1853 : (Jvm.Cond.instanceMethod ({ cls := "EdgeSums$Slice", name := "charAt", desc := "(I)C" } : Jvm.MethodName)) ∈ lw_all := lw_g (lw_at lw_m8 49 rfl) rfl
theorem q1854 : (Jvm.Cond.selects "EdgeSums$Slice" ({ cls := "EdgeSums$Slice", name := "charAt", desc := "(I)C" } : Jvm.MethodName) ({ cls := "EdgeSums$Slice", name := "charAt", desc := "(I)C" } : Jvm.MethodName)) ∈ lw_all := lw_g (lw_at lw_m8 50 rfl) rfl
theorem q1855 : (Jvm.Cond.code ({ cls := "EdgeSums$Slice", name := "charAt", desc := "(I)C" } : Jvm.MethodName) prog_21_method_3_code (2 : Nat) (Option.some Jvm.ClassFile.FieldType.char)) ∈ lw_all := lw_g (lw_at lw_m8 51 rfl) rfl
theorem q1856 : (Jvm.Cond.interfaceEntry "EdgeSums$Slice" (20 : Nat)) ∈ lw_tbl := lw_at lw_m8 52 rfl
theorem q1857 : (Jvm.Cond.methodLink "EdgeSums$Slice" (20 : Nat) ({ cls := "java/lang/CharSequence", name := "charAt", desc := "(I)C" } : Jvm.MethodName)) ∈ lw_all := lw_g (lw_at lw_m8 53 rfl) rfl
theorem q1860 : (Jvm.Cond.selects "EdgeSums$Slice" ({ cls := "java/lang/CharSequence", name := "charAt", desc := "(I)C" } : Jvm.MethodName) ({ cls := "EdgeSums$Slice", name := "charAt", desc := "(I)C" } : Jvm.MethodName)) ∈ lw_all := lw_g (lw_at lw_m8 56 rfl) rfl
theorem q1861 : (Jvm.Cond.unhidden "EdgeSums$Slice" "charAt" "(I)C") ∈ lw_tbl := lw_at lw_m8 57 rfl
theorem q1862 : (Jvm.Cond.publicMethod ({ cls := "EdgeSums$Slice", name := "charAt", desc := "(I)C" } : Jvm.MethodName)) ∈ lw_tbl := lw_at lw_m8 58 rfl
theorem q1880 : (Jvm.Cond.methodLink "EdgeSums$Slice" (33 : Nat) ({ cls := "java/lang/StringBuilder", name := "append", desc := "(C)Ljava/lang/StringBuilder;" } : Jvm.MethodName)) ∈ lw_all := lw_g (lw_at lw_m8 76 rfl) rfl
theorem q1881 : (Jvm.Cond.methodLink "EdgeSums$Slice" (37 : Nat) ({ cls := "java/lang/StringBuilder", name := "toString", desc := "()Ljava/lang/String;" } : Jvm.MethodName)) ∈ lw_all := lw_g (lw_at lw_m8 77 rfl) rfl
theorem q2056 : (Jvm.Cond.instanceMethod ({ cls := "EdgeSums$Slice", name := "isLetters", desc := "()Z" } : Jvm.MethodName)) ∈ lw_all := lw_g (lw_at lw_m9 12 rfl) rfl
theorem q2057 : (Jvm.Cond.selects "EdgeSums$Slice" ({ cls := "EdgeSums$Slice", name := "isLetters", desc := "()Z" } : Jvm.MethodName) ({ cls := "EdgeSums$Slice", name := "isLetters", desc := "()Z" } : Jvm.MethodName)) ∈ lw_all := lw_g (lw_at lw_m9 13 rfl) rfl
theorem q2058 : (Jvm.Cond.code ({ cls := "EdgeSums$Slice", name := "isLetters", desc := "()Z" } : Jvm.MethodName) prog_21_method_7_code (1 : Nat) (Option.some Jvm.ClassFile.FieldType.boolean)) ∈ lw_all := lw_g (lw_at lw_m9 14 rfl) rfl
theorem q2059 : (Jvm.Cond.methodLink "EdgeSums$Slice" (47 : Nat) ({ cls := "EdgeSums$Slice", name := "begins", desc := "(CC)Z" } : Jvm.MethodName)) ∈ lw_all := lw_g (lw_at lw_m9 15 rfl) rfl
theorem q2060 : (Jvm.Cond.instanceMethod ({ cls := "EdgeSums$Slice", name := "begins", desc := "(CC)Z" } : Jvm.MethodName)) ∈ lw_all := lw_g (lw_at lw_m9 16 rfl) rfl
theorem q2061 : (Jvm.Cond.selects "EdgeSums$Slice" ({ cls := "EdgeSums$Slice", name := "begins", desc := "(CC)Z" } : Jvm.MethodName) ({ cls := "EdgeSums$Slice", name := "begins", desc := "(CC)Z" } : Jvm.MethodName)) ∈ lw_all := lw_g (lw_at lw_m9 17 rfl) rfl
theorem q2062 : (Jvm.Cond.code ({ cls := "EdgeSums$Slice", name := "begins", desc := "(CC)Z" } : Jvm.MethodName) prog_21_method_6_code (3 : Nat) (Option.some Jvm.ClassFile.FieldType.boolean)) ∈ lw_all := lw_g (lw_at lw_m9 18 rfl) rfl
theorem q2063 : (Jvm.Cond.methodLinkNest "EdgeSums$Slice" (41 : Nat) ({ cls := "EdgeSums", name := "isBetween", desc := "(III)Z" } : Jvm.MethodName) "EdgeSums") ∈ lw_tbl := lw_at lw_m9 19 rfl
theorem q2148 : (Jvm.Cond.instanceMethod ({ cls := "EdgeSums$Slice", name := "isDigits", desc := "()Z" } : Jvm.MethodName)) ∈ lw_all := lw_g (lw_at lw_m9 104 rfl) rfl
theorem q2149 : (Jvm.Cond.selects "EdgeSums$Slice" ({ cls := "EdgeSums$Slice", name := "isDigits", desc := "()Z" } : Jvm.MethodName) ({ cls := "EdgeSums$Slice", name := "isDigits", desc := "()Z" } : Jvm.MethodName)) ∈ lw_all := lw_g (lw_at lw_m9 105 rfl) rfl
theorem q2150 : (Jvm.Cond.code ({ cls := "EdgeSums$Slice", name := "isDigits", desc := "()Z" } : Jvm.MethodName) prog_21_method_8_code (1 : Nat) (Option.some Jvm.ClassFile.FieldType.boolean)) ∈ lw_all := lw_g (lw_at lw_m9 106 rfl) rfl
theorem q2598 : (Jvm.Cond.selects "EdgeSums$Slice" ({ cls := "java/lang/CharSequence", name := "length", desc := "()I" } : Jvm.MethodName) ({ cls := "EdgeSums$Slice", name := "length", desc := "()I" } : Jvm.MethodName)) ∈ lw_all := lw_g (lw_at lw_m11 74 rfl) rfl
theorem q2599 : (Jvm.Cond.unhidden "EdgeSums$Slice" "length" "()I") ∈ lw_tbl := lw_at lw_m11 75 rfl
theorem q2600 : (Jvm.Cond.publicMethod ({ cls := "EdgeSums$Slice", name := "length", desc := "()I" } : Jvm.MethodName)) ∈ lw_tbl := lw_at lw_m11 76 rfl
theorem q3182 : (Jvm.Cond.selects "EdgeSums$Slice" ({ cls := "EdgeSums$Slice", name := "toString", desc := "()Ljava/lang/String;" } : Jvm.MethodName) ({ cls := "EdgeSums$Slice", name := "toString", desc := "()Ljava/lang/String;" } : Jvm.MethodName)) ∈ lw_all := lw_g (lw_at lw_m13 178 rfl) rfl
theorem q3215 : (Jvm.Cond.castable "EdgeSums$Slice" "java/lang/Object") ∈ lw_tbl := lw_at lw_m13 211 rfl
theorem in_X20 : ∀ w ∈ wsX200, w ∈ lw_all := lw_in wsX200 [1826, 1828, 1830] (by decide +kernel) (by decide +kernel)
/-! EdgeSums$TokenException -/
set_option maxRecDepth 100000
def RX21 : String := "EdgeSums$TokenException"
def TX21 : u_T := fun k => match k with
  | 0 => ("java/lang/Throwable", "cause", "Ljava/lang/Throwable;", false)
  | 1 => ("java/lang/Throwable", "stackTrace", "[Ljava/lang/StackTraceElement;", false)
  | 2 => ("java/lang/Throwable", "suppressedExceptions", "Ljava/util/List;", false)
  | 3 => ("java/lang/Throwable", "detailMessage", "Ljava/lang/String;", false)
  | 4 => ("java/lang/Throwable", "backtrace", "Ljava/lang/Object;", false)
  | 5 => ("java/lang/Throwable", "depth", "I", false)
  | _ => ("EdgeSums$TokenException", "position", "I", true)
def tyX21 : Nat → FieldType := fun k => match k with
  | 0 => .object "java/lang/Throwable"
  | 1 => .array (.object "java/lang/StackTraceElement")
  | 2 => .object "java/util/List"
  | 3 => .object "java/lang/String"
  | 4 => .object "java/lang/Object"
  | 5 => .int
  | _ => .int
abbrev wsX210 : List Cond := u_ws RX21 TX21 7
theorem nmX21 : ∀ a, a < 7 → ∀ b, b < 7 → a ≠ b → (TX21 a).2.1 ≠ (TX21 b).2.1 := by decide +kernel
theorem tyX21_ok : ∀ k, k < 7 → parseFieldDescriptor (TX21 k).2.2.1 = some (tyX21 k) := by decide +kernel
abbrev cX21_init : ByteArray := prog_25_method_1_code
def yX21_init : MethodName := ⟨RX21, "<init>", "(I)V"⟩
def dkwX21_init_0 : List UInt8 := [42, 18, 1, 183, 0, 3, 42, 27, 181, 0, 9, 177]
abbrev dktX21_init_0 : List UInt8 := dkwX21_init_0 ++ []
theorem dksX21_init_0 : cX21_init.data.toList.drop 0 = dktX21_init_0 := by decide +kernel
theorem dX21_init_0 : decode cX21_init 0 = .ok (.aload_n 0, 1) := dk_42 (dk_at dksX21_init_0 0 rfl rfl)
theorem dX21_init_1 : decode cX21_init 1 = .ok (.ldc 1, 2) := dk_18 1 (dk_at dksX21_init_0 1 rfl rfl)
theorem dX21_init_3 : decode cX21_init 3 = .ok (.invokespecial 3, 3) := dk_183 0 3 (dk_at dksX21_init_0 3 rfl rfl)
theorem dX21_init_6 : decode cX21_init 6 = .ok (.aload_n 0, 1) := dk_42 (dk_at dksX21_init_0 6 rfl rfl)
theorem dX21_init_7 : decode cX21_init 7 = .ok (.iload_n 1, 1) := dk_27 (dk_at dksX21_init_0 7 rfl rfl)
theorem dX21_init_8 : decode cX21_init 8 = .ok (.putfield 9, 3) := dk_181 0 9 (dk_at dksX21_init_0 8 rfl rfl)
theorem dX21_init_11 : decode cX21_init 11 = .ok (.return_, 1) := dk_177 (dk_at dksX21_init_0 11 rfl rfl)
theorem q172 : (Jvm.Cond.initialized "EdgeSums$TokenException") ∈ lw_all := lw_g (lw_at lw_m1 48 rfl) rfl
theorem q1107 : (Jvm.Cond.selects "EdgeSums$TokenException" ({ cls := "java/lang/Object", name := "getClass", desc := "()Ljava/lang/Class;" } : Jvm.MethodName) ({ cls := "java/lang/Object", name := "getClass", desc := "()Ljava/lang/Class;" } : Jvm.MethodName)) ∈ lw_all := lw_g (lw_at lw_m5 23 rfl) rfl
theorem q1962 : (Jvm.Cond.instantiable "EdgeSums$TokenException" (7 : Nat)) ∈ lw_all := lw_g (lw_at lw_m8 158 rfl) rfl
theorem q1963 : (Jvm.Cond.castable "EdgeSums$TokenException" "EdgeSums$TokenException") ∈ lw_tbl := lw_at lw_m8 159 rfl
theorem q1968 : (Jvm.Cond.selects "EdgeSums$TokenException" ({ cls := "java/lang/Throwable", name := "fillInStackTrace", desc := "(I)Ljava/lang/Throwable;" } : Jvm.MethodName) ({ cls := "java/lang/Throwable", name := "fillInStackTrace", desc := "(I)Ljava/lang/Throwable;" } : Jvm.MethodName)) ∈ lw_all := lw_g (lw_at lw_m8 164 rfl) rfl
theorem q1969 : (Jvm.Cond.selects "EdgeSums$TokenException" ({ cls := "java/lang/Throwable", name := "fillInStackTrace", desc := "()Ljava/lang/Throwable;" } : Jvm.MethodName) ({ cls := "java/lang/Throwable", name := "fillInStackTrace", desc := "()Ljava/lang/Throwable;" } : Jvm.MethodName)) ∈ lw_all := lw_g (lw_at lw_m8 165 rfl) rfl
theorem q1970 : (Jvm.Cond.lays "EdgeSums$TokenException" "java/lang/Throwable" "cause" "Ljava/lang/Throwable;") ∈ lw_all := lw_g (lw_at lw_m8 166 rfl) rfl
theorem q1972 : (Jvm.Cond.lays "EdgeSums$TokenException" "java/lang/Throwable" "stackTrace" "[Ljava/lang/StackTraceElement;") ∈ lw_all := lw_g (lw_at lw_m8 168 rfl) rfl
theorem q1974 : (Jvm.Cond.lays "EdgeSums$TokenException" "java/lang/Throwable" "suppressedExceptions" "Ljava/util/List;") ∈ lw_all := lw_g (lw_at lw_m8 170 rfl) rfl
theorem q1976 : (Jvm.Cond.lays "EdgeSums$TokenException" "java/lang/Throwable" "detailMessage" "Ljava/lang/String;") ∈ lw_all := lw_g (lw_at lw_m8 172 rfl) rfl
theorem q1978 : (Jvm.Cond.lays "EdgeSums$TokenException" "java/lang/Throwable" "backtrace" "Ljava/lang/Object;") ∈ lw_all := lw_g (lw_at lw_m8 174 rfl) rfl
theorem q1999 : (Jvm.Cond.instanceMethod ({ cls := "EdgeSums$TokenException", name := "<init>", desc := "(I)V" } : Jvm.MethodName)) ∈ lw_all := lw_g (lw_at lw_m8 195 rfl) rfl
theorem q2000 : (Jvm.Cond.code ({ cls := "EdgeSums$TokenException", name := "<init>", desc := "(I)V" } : Jvm.MethodName) prog_25_method_1_code (2 : Nat) (Option.none : Option Jvm.ClassFile.FieldType)) ∈ lw_all := lw_g (lw_at lw_m8 196 rfl) rfl
theorem q2001 : (Jvm.Cond.stringRef "EdgeSums$TokenException" (1 : Nat) "not allowed") ∈ lw_tbl := lw_at lw_m8 197 rfl
theorem q2002 : (Jvm.Cond.methodLink "EdgeSums$TokenException" (3 : Nat) ({ cls := "java/lang/Exception", name := "<init>", desc := "(Ljava/lang/String;)V" } : Jvm.MethodName)) ∈ lw_all := lw_g (lw_at lw_m8 198 rfl) rfl
theorem q2008 : (Jvm.Cond.fieldLink "EdgeSums$TokenException" (9 : Nat) "EdgeSums$TokenException" "position" "I") ∈ lw_all := lw_g (lw_at lw_m8 204 rfl) rfl
theorem q2015 : (Jvm.Cond.laysFinal "EdgeSums$TokenException" "EdgeSums$TokenException" "position" "I") ∈ lw_all := lw_g (lw_at lw_m8 211 rfl) rfl
theorem q2016 : (Jvm.Cond.soleField "EdgeSums$TokenException" "position") ∈ lw_all := lw_g (lw_at lw_m8 212 rfl) rfl
theorem q2021 : (Jvm.Cond.lays "EdgeSums$TokenException" "java/lang/Throwable" "depth" "I") ∈ lw_all := lw_g (lw_at lw_m8 217 rfl) rfl
theorem q2024 : (Jvm.Cond.superclass "EdgeSums$TokenException" "java/lang/Exception") ∈ lw_all := lw_g (lw_at lw_m8 220 rfl) rfl
theorem q3217 : (Jvm.Cond.castable "EdgeSums$TokenException" "java/lang/Object") ∈ lw_tbl := lw_at lw_m13 213 rfl
theorem in_X21 : ∀ w ∈ wsX210, w ∈ lw_all := lw_in wsX210 [1970, 1972, 1974, 1976, 1978, 2021, 2015] (by decide +kernel) (by decide +kernel)
/-! EdgeSums$Run -/
set_option maxRecDepth 100000
def RX22 : String := "EdgeSums$Run"
def TX22 : u_T := fun k => match k with
  | 0 => ("EdgeSums$Run", "steps", "Ljava/util/List;", true)
  | 1 => ("EdgeSums$Run", "end", "LEdgeSums$Board;", true)
  | 2 => ("EdgeSums$Run", "ranks", "Ljava/util/PriorityQueue;", true)
  | _ => ("EdgeSums$Run", "this$0", "LEdgeSums;", true)
def tyX22 : Nat → FieldType := fun k => match k with
  | 0 => .object "java/util/List"
  | 1 => .object "EdgeSums$Board"
  | 2 => .object "java/util/PriorityQueue"
  | _ => .object "EdgeSums"
abbrev wsX220 : List Cond := u_ws RX22 TX22 4
theorem nmX22 : ∀ a, a < 4 → ∀ b, b < 4 → a ≠ b → (TX22 a).2.1 ≠ (TX22 b).2.1 := by decide +kernel
theorem tyX22_ok : ∀ k, k < 4 → parseFieldDescriptor (TX22 k).2.2.1 = some (tyX22 k) := by decide +kernel
abbrev cX22_init : ByteArray := prog_19_method_1_code
def yX22_init : MethodName := ⟨RX22, "<init>", "(LEdgeSums;)V"⟩
def dkwX22_init_6 : List UInt8 := [180, 0, 57, 180, 0, 77, 182, 0, 53, 167, 255, 186, 177]
abbrev dktX22_init_6 : List UInt8 := dkwX22_init_6 ++ []
def dkwX22_init_5 : List UInt8 := [182, 0, 83, 42, 180, 0, 18, 43, 180, 0, 57, 182, 0, 87, 185, 0, 91, 2, 0, 87, 42, 43]
abbrev dktX22_init_5 : List UInt8 := dkwX22_init_5 ++ dktX22_init_6
def dkwX22_init_4 : List UInt8 := [182, 0, 71, 153, 0, 55, 42, 180, 0, 31, 43, 180, 0, 57, 180, 0, 77, 43, 180, 0, 57, 180, 0, 80]
abbrev dktX22_init_4 : List UInt8 := dkwX22_init_4 ++ dktX22_init_5
def dkwX22_init_3 : List UInt8 := [182, 0, 53, 132, 2, 1, 167, 255, 237, 43, 180, 0, 57, 42, 180, 0, 31, 43, 182, 0, 61, 180, 0, 65]
abbrev dktX22_init_3 : List UInt8 := dkwX22_init_3 ++ dktX22_init_4
def dkwX22_init_2 : List UInt8 := [183, 0, 39, 183, 0, 40, 181, 0, 43, 3, 61, 28, 43, 182, 0, 24, 182, 0, 47, 162, 0, 14, 42, 28]
abbrev dktX22_init_2 : List UInt8 := dkwX22_init_2 ++ dktX22_init_3
def dkwX22_init_1 : List UInt8 := [89, 42, 180, 0, 3, 182, 0, 24, 183, 0, 28, 181, 0, 31, 42, 187, 0, 35, 89, 187, 0, 37, 89]
abbrev dktX22_init_1 : List UInt8 := dkwX22_init_1 ++ dktX22_init_2
def dkwX22_init_0 : List UInt8 := [42, 43, 181, 0, 3, 42, 183, 0, 9, 42, 187, 0, 15, 89, 183, 0, 17, 181, 0, 18, 42, 187, 0, 22]
abbrev dktX22_init_0 : List UInt8 := dkwX22_init_0 ++ dktX22_init_1
theorem dksX22_init_0 : cX22_init.data.toList.drop 0 = dktX22_init_0 := by decide +kernel
theorem dksX22_init_1 : cX22_init.data.toList.drop 24 = dktX22_init_1 := dk_seg dksX22_init_0 24 rfl rfl
theorem dksX22_init_2 : cX22_init.data.toList.drop 47 = dktX22_init_2 := dk_seg dksX22_init_1 23 rfl rfl
theorem dksX22_init_3 : cX22_init.data.toList.drop 71 = dktX22_init_3 := dk_seg dksX22_init_2 24 rfl rfl
theorem dksX22_init_4 : cX22_init.data.toList.drop 95 = dktX22_init_4 := dk_seg dksX22_init_3 24 rfl rfl
theorem dksX22_init_5 : cX22_init.data.toList.drop 119 = dktX22_init_5 := dk_seg dksX22_init_4 24 rfl rfl
theorem dksX22_init_6 : cX22_init.data.toList.drop 141 = dktX22_init_6 := dk_seg dksX22_init_5 22 rfl rfl
theorem dX22_init_0 : decode cX22_init 0 = .ok (.aload_n 0, 1) := dk_42 (dk_at dksX22_init_0 0 rfl rfl)
theorem dX22_init_1 : decode cX22_init 1 = .ok (.aload_n 1, 1) := dk_43 (dk_at dksX22_init_0 1 rfl rfl)
theorem dX22_init_2 : decode cX22_init 2 = .ok (.putfield 3, 3) := dk_181 0 3 (dk_at dksX22_init_0 2 rfl rfl)
theorem dX22_init_5 : decode cX22_init 5 = .ok (.aload_n 0, 1) := dk_42 (dk_at dksX22_init_0 5 rfl rfl)
theorem dX22_init_6 : decode cX22_init 6 = .ok (.invokespecial 9, 3) := dk_183 0 9 (dk_at dksX22_init_0 6 rfl rfl)
theorem dX22_init_9 : decode cX22_init 9 = .ok (.aload_n 0, 1) := dk_42 (dk_at dksX22_init_0 9 rfl rfl)
theorem dX22_init_10 : decode cX22_init 10 = .ok (.new 15, 3) := dk_187 0 15 (dk_at dksX22_init_0 10 rfl rfl)
theorem dX22_init_13 : decode cX22_init 13 = .ok (.dup, 1) := dk_89 (dk_at dksX22_init_0 13 rfl rfl)
theorem dX22_init_14 : decode cX22_init 14 = .ok (.invokespecial 17, 3) := dk_183 0 17 (dk_at dksX22_init_0 14 rfl rfl)
theorem dX22_init_17 : decode cX22_init 17 = .ok (.putfield 18, 3) := dk_181 0 18 (dk_at dksX22_init_0 17 rfl rfl)
theorem dX22_init_20 : decode cX22_init 20 = .ok (.aload_n 0, 1) := dk_42 (dk_at dksX22_init_0 20 rfl rfl)
theorem dX22_init_21 : decode cX22_init 21 = .ok (.new 22, 3) := dk_187 0 22 (dk_at dksX22_init_0 21 rfl rfl)
theorem dX22_init_24 : decode cX22_init 24 = .ok (.dup, 1) := dk_89 (dk_at dksX22_init_1 0 rfl rfl)
theorem dX22_init_25 : decode cX22_init 25 = .ok (.aload_n 0, 1) := dk_42 (dk_at dksX22_init_1 1 rfl rfl)
theorem dX22_init_26 : decode cX22_init 26 = .ok (.getfield 3, 3) := dk_180 0 3 (dk_at dksX22_init_1 2 rfl rfl)
theorem dX22_init_29 : decode cX22_init 29 = .ok (.invokevirtual 24, 3) := dk_182 0 24 (dk_at dksX22_init_1 5 rfl rfl)
theorem dX22_init_32 : decode cX22_init 32 = .ok (.invokespecial 28, 3) := dk_183 0 28 (dk_at dksX22_init_1 8 rfl rfl)
theorem dX22_init_35 : decode cX22_init 35 = .ok (.putfield 31, 3) := dk_181 0 31 (dk_at dksX22_init_1 11 rfl rfl)
theorem dX22_init_38 : decode cX22_init 38 = .ok (.aload_n 0, 1) := dk_42 (dk_at dksX22_init_1 14 rfl rfl)
theorem dX22_init_39 : decode cX22_init 39 = .ok (.new 35, 3) := dk_187 0 35 (dk_at dksX22_init_1 15 rfl rfl)
theorem dX22_init_42 : decode cX22_init 42 = .ok (.dup, 1) := dk_89 (dk_at dksX22_init_1 18 rfl rfl)
theorem dX22_init_43 : decode cX22_init 43 = .ok (.new 37, 3) := dk_187 0 37 (dk_at dksX22_init_1 19 rfl rfl)
theorem dX22_init_46 : decode cX22_init 46 = .ok (.dup, 1) := dk_89 (dk_at dksX22_init_1 22 rfl rfl)
theorem dX22_init_47 : decode cX22_init 47 = .ok (.invokespecial 39, 3) := dk_183 0 39 (dk_at dksX22_init_2 0 rfl rfl)
theorem dX22_init_50 : decode cX22_init 50 = .ok (.invokespecial 40, 3) := dk_183 0 40 (dk_at dksX22_init_2 3 rfl rfl)
theorem dX22_init_53 : decode cX22_init 53 = .ok (.putfield 43, 3) := dk_181 0 43 (dk_at dksX22_init_2 6 rfl rfl)
theorem dX22_init_56 : decode cX22_init 56 = .ok (.iconst 0, 1) := dk_3 (dk_at dksX22_init_2 9 rfl rfl)
theorem dX22_init_57 : decode cX22_init 57 = .ok (.istore_n 2, 1) := dk_61 (dk_at dksX22_init_2 10 rfl rfl)
theorem dX22_init_58 : decode cX22_init 58 = .ok (.iload_n 2, 1) := dk_28 (dk_at dksX22_init_2 11 rfl rfl)
theorem dX22_init_59 : decode cX22_init 59 = .ok (.aload_n 1, 1) := dk_43 (dk_at dksX22_init_2 12 rfl rfl)
theorem dX22_init_60 : decode cX22_init 60 = .ok (.invokevirtual 24, 3) := dk_182 0 24 (dk_at dksX22_init_2 13 rfl rfl)
theorem dX22_init_63 : decode cX22_init 63 = .ok (.invokevirtual 47, 3) := dk_182 0 47 (dk_at dksX22_init_2 16 rfl rfl)
theorem dX22_init_66 : decode cX22_init 66 = .ok (.if_icmp .ge 14, 3) := dk_162 0 14 (dk_at dksX22_init_2 19 rfl rfl)
theorem dX22_init_69 : decode cX22_init 69 = .ok (.aload_n 0, 1) := dk_42 (dk_at dksX22_init_2 22 rfl rfl)
theorem dX22_init_70 : decode cX22_init 70 = .ok (.iload_n 2, 1) := dk_28 (dk_at dksX22_init_2 23 rfl rfl)
theorem dX22_init_71 : decode cX22_init 71 = .ok (.invokevirtual 53, 3) := dk_182 0 53 (dk_at dksX22_init_3 0 rfl rfl)
theorem dX22_init_74 : decode cX22_init 74 = .ok (.iinc 2 1, 3) := dk_132 2 1 (dk_at dksX22_init_3 3 rfl rfl)
theorem dX22_init_77 : decode cX22_init 77 = .ok (.goto (-19), 3) := dk_167 255 237 (dk_at dksX22_init_3 6 rfl rfl)
theorem dX22_init_80 : decode cX22_init 80 = .ok (.aload_n 1, 1) := dk_43 (dk_at dksX22_init_3 9 rfl rfl)
theorem dX22_init_81 : decode cX22_init 81 = .ok (.getfield 57, 3) := dk_180 0 57 (dk_at dksX22_init_3 10 rfl rfl)
theorem dX22_init_84 : decode cX22_init 84 = .ok (.aload_n 0, 1) := dk_42 (dk_at dksX22_init_3 13 rfl rfl)
theorem dX22_init_85 : decode cX22_init 85 = .ok (.getfield 31, 3) := dk_180 0 31 (dk_at dksX22_init_3 14 rfl rfl)
theorem dX22_init_88 : decode cX22_init 88 = .ok (.aload_n 1, 1) := dk_43 (dk_at dksX22_init_3 17 rfl rfl)
theorem dX22_init_89 : decode cX22_init 89 = .ok (.invokevirtual 61, 3) := dk_182 0 61 (dk_at dksX22_init_3 18 rfl rfl)
theorem dX22_init_92 : decode cX22_init 92 = .ok (.getfield 65, 3) := dk_180 0 65 (dk_at dksX22_init_3 21 rfl rfl)
theorem dX22_init_95 : decode cX22_init 95 = .ok (.invokevirtual 71, 3) := dk_182 0 71 (dk_at dksX22_init_4 0 rfl rfl)
theorem dX22_init_98 : decode cX22_init 98 = .ok (.ifCond .eq 55, 3) := dk_153 0 55 (dk_at dksX22_init_4 3 rfl rfl)
theorem dX22_init_101 : decode cX22_init 101 = .ok (.aload_n 0, 1) := dk_42 (dk_at dksX22_init_4 6 rfl rfl)
theorem dX22_init_102 : decode cX22_init 102 = .ok (.getfield 31, 3) := dk_180 0 31 (dk_at dksX22_init_4 7 rfl rfl)
theorem dX22_init_105 : decode cX22_init 105 = .ok (.aload_n 1, 1) := dk_43 (dk_at dksX22_init_4 10 rfl rfl)
theorem dX22_init_106 : decode cX22_init 106 = .ok (.getfield 57, 3) := dk_180 0 57 (dk_at dksX22_init_4 11 rfl rfl)
theorem dX22_init_109 : decode cX22_init 109 = .ok (.getfield 77, 3) := dk_180 0 77 (dk_at dksX22_init_4 14 rfl rfl)
theorem dX22_init_112 : decode cX22_init 112 = .ok (.aload_n 1, 1) := dk_43 (dk_at dksX22_init_4 17 rfl rfl)
theorem dX22_init_113 : decode cX22_init 113 = .ok (.getfield 57, 3) := dk_180 0 57 (dk_at dksX22_init_4 18 rfl rfl)
theorem dX22_init_116 : decode cX22_init 116 = .ok (.getfield 80, 3) := dk_180 0 80 (dk_at dksX22_init_4 21 rfl rfl)
theorem dX22_init_119 : decode cX22_init 119 = .ok (.invokevirtual 83, 3) := dk_182 0 83 (dk_at dksX22_init_5 0 rfl rfl)
theorem dX22_init_122 : decode cX22_init 122 = .ok (.aload_n 0, 1) := dk_42 (dk_at dksX22_init_5 3 rfl rfl)
theorem dX22_init_123 : decode cX22_init 123 = .ok (.getfield 18, 3) := dk_180 0 18 (dk_at dksX22_init_5 4 rfl rfl)
theorem dX22_init_126 : decode cX22_init 126 = .ok (.aload_n 1, 1) := dk_43 (dk_at dksX22_init_5 7 rfl rfl)
theorem dX22_init_127 : decode cX22_init 127 = .ok (.getfield 57, 3) := dk_180 0 57 (dk_at dksX22_init_5 8 rfl rfl)
theorem dX22_init_130 : decode cX22_init 130 = .ok (.invokevirtual 87, 3) := dk_182 0 87 (dk_at dksX22_init_5 11 rfl rfl)
theorem dX22_init_133 : decode cX22_init 133 = .ok (.invokeinterface 91 2, 5) := by decide +kernel
theorem dX22_init_138 : decode cX22_init 138 = .ok (.pop, 1) := dk_87 (dk_at dksX22_init_5 19 rfl rfl)
theorem dX22_init_139 : decode cX22_init 139 = .ok (.aload_n 0, 1) := dk_42 (dk_at dksX22_init_5 20 rfl rfl)
theorem dX22_init_140 : decode cX22_init 140 = .ok (.aload_n 1, 1) := dk_43 (dk_at dksX22_init_5 21 rfl rfl)
theorem dX22_init_141 : decode cX22_init 141 = .ok (.getfield 57, 3) := dk_180 0 57 (dk_at dksX22_init_6 0 rfl rfl)
theorem dX22_init_144 : decode cX22_init 144 = .ok (.getfield 77, 3) := dk_180 0 77 (dk_at dksX22_init_6 3 rfl rfl)
theorem dX22_init_147 : decode cX22_init 147 = .ok (.invokevirtual 53, 3) := dk_182 0 53 (dk_at dksX22_init_6 6 rfl rfl)
theorem dX22_init_150 : decode cX22_init 150 = .ok (.goto (-70), 3) := dk_167 255 186 (dk_at dksX22_init_6 9 rfl rfl)
theorem dX22_init_153 : decode cX22_init 153 = .ok (.return_, 1) := dk_177 (dk_at dksX22_init_6 12 rfl rfl)
abbrev cX22_know : ByteArray := prog_19_method_2_code
def yX22_know : MethodName := ⟨RX22, "know", "(I)V"⟩
def dkwX22_know_1 : List UInt8 := [180, 0, 18, 185, 0, 103, 1, 0, 183, 0, 106, 182, 0, 108, 61, 177]
abbrev dktX22_know_1 : List UInt8 := dkwX22_know_1 ++ []
def dkwX22_know_0 : List UInt8 := [42, 180, 0, 31, 27, 182, 0, 97, 4, 160, 0, 28, 42, 180, 0, 43, 187, 0, 101, 89, 27, 42]
abbrev dktX22_know_0 : List UInt8 := dkwX22_know_0 ++ dktX22_know_1
theorem dksX22_know_0 : cX22_know.data.toList.drop 0 = dktX22_know_0 := by decide +kernel
theorem dksX22_know_1 : cX22_know.data.toList.drop 22 = dktX22_know_1 := dk_seg dksX22_know_0 22 rfl rfl
theorem dX22_know_0 : decode cX22_know 0 = .ok (.aload_n 0, 1) := dk_42 (dk_at dksX22_know_0 0 rfl rfl)
theorem dX22_know_1 : decode cX22_know 1 = .ok (.getfield 31, 3) := dk_180 0 31 (dk_at dksX22_know_0 1 rfl rfl)
theorem dX22_know_4 : decode cX22_know 4 = .ok (.iload_n 1, 1) := dk_27 (dk_at dksX22_know_0 4 rfl rfl)
theorem dX22_know_5 : decode cX22_know 5 = .ok (.invokevirtual 97, 3) := dk_182 0 97 (dk_at dksX22_know_0 5 rfl rfl)
theorem dX22_know_8 : decode cX22_know 8 = .ok (.iconst 1, 1) := dk_4 (dk_at dksX22_know_0 8 rfl rfl)
theorem dX22_know_9 : decode cX22_know 9 = .ok (.if_icmp .ne 28, 3) := dk_160 0 28 (dk_at dksX22_know_0 9 rfl rfl)
theorem dX22_know_12 : decode cX22_know 12 = .ok (.aload_n 0, 1) := dk_42 (dk_at dksX22_know_0 12 rfl rfl)
theorem dX22_know_13 : decode cX22_know 13 = .ok (.getfield 43, 3) := dk_180 0 43 (dk_at dksX22_know_0 13 rfl rfl)
theorem dX22_know_16 : decode cX22_know 16 = .ok (.new 101, 3) := dk_187 0 101 (dk_at dksX22_know_0 16 rfl rfl)
theorem dX22_know_19 : decode cX22_know 19 = .ok (.dup, 1) := dk_89 (dk_at dksX22_know_0 19 rfl rfl)
theorem dX22_know_20 : decode cX22_know 20 = .ok (.iload_n 1, 1) := dk_27 (dk_at dksX22_know_0 20 rfl rfl)
theorem dX22_know_21 : decode cX22_know 21 = .ok (.aload_n 0, 1) := dk_42 (dk_at dksX22_know_0 21 rfl rfl)
theorem dX22_know_22 : decode cX22_know 22 = .ok (.getfield 18, 3) := dk_180 0 18 (dk_at dksX22_know_1 0 rfl rfl)
theorem dX22_know_25 : decode cX22_know 25 = .ok (.invokeinterface 103 1, 5) := by decide +kernel
theorem dX22_know_30 : decode cX22_know 30 = .ok (.invokespecial 106, 3) := dk_183 0 106 (dk_at dksX22_know_1 8 rfl rfl)
theorem dX22_know_33 : decode cX22_know 33 = .ok (.invokevirtual 108, 3) := dk_182 0 108 (dk_at dksX22_know_1 11 rfl rfl)
theorem dX22_know_36 : decode cX22_know 36 = .ok (.istore_n 2, 1) := dk_61 (dk_at dksX22_know_1 14 rfl rfl)
theorem dX22_know_37 : decode cX22_know 37 = .ok (.return_, 1) := dk_177 (dk_at dksX22_know_1 15 rfl rfl)
abbrev cX22_stepsBy : ByteArray := prog_19_method_3_code
def yX22_stepsBy : MethodName := ⟨RX22, "stepsBy", "(I)I"⟩
def dkwX22_stepsBy_2 : List UInt8 := [3, 96, 61, 167, 255, 219, 28, 172]
abbrev dktX22_stepsBy_2 : List UInt8 := dkwX22_stepsBy_2 ++ []
def dkwX22_stepsBy_1 : List UInt8 := [185, 0, 119, 1, 0, 192, 0, 123, 58, 4, 28, 25, 4, 182, 0, 125, 27, 160, 0, 7, 4, 167, 0, 4]
abbrev dktX22_stepsBy_1 : List UInt8 := dkwX22_stepsBy_1 ++ dktX22_stepsBy_2
def dkwX22_stepsBy_0 : List UInt8 := [3, 61, 42, 180, 0, 18, 185, 0, 109, 1, 0, 78, 45, 185, 0, 113, 1, 0, 153, 0, 34, 45]
abbrev dktX22_stepsBy_0 : List UInt8 := dkwX22_stepsBy_0 ++ dktX22_stepsBy_1
theorem dksX22_stepsBy_0 : cX22_stepsBy.data.toList.drop 0 = dktX22_stepsBy_0 := by decide +kernel
theorem dksX22_stepsBy_1 : cX22_stepsBy.data.toList.drop 22 = dktX22_stepsBy_1 := dk_seg dksX22_stepsBy_0 22 rfl rfl
theorem dksX22_stepsBy_2 : cX22_stepsBy.data.toList.drop 46 = dktX22_stepsBy_2 := dk_seg dksX22_stepsBy_1 24 rfl rfl
theorem dX22_stepsBy_0 : decode cX22_stepsBy 0 = .ok (.iconst 0, 1) := dk_3 (dk_at dksX22_stepsBy_0 0 rfl rfl)
theorem dX22_stepsBy_1 : decode cX22_stepsBy 1 = .ok (.istore_n 2, 1) := dk_61 (dk_at dksX22_stepsBy_0 1 rfl rfl)
theorem dX22_stepsBy_2 : decode cX22_stepsBy 2 = .ok (.aload_n 0, 1) := dk_42 (dk_at dksX22_stepsBy_0 2 rfl rfl)
theorem dX22_stepsBy_3 : decode cX22_stepsBy 3 = .ok (.getfield 18, 3) := dk_180 0 18 (dk_at dksX22_stepsBy_0 3 rfl rfl)
theorem dX22_stepsBy_6 : decode cX22_stepsBy 6 = .ok (.invokeinterface 109 1, 5) := by decide +kernel
theorem dX22_stepsBy_11 : decode cX22_stepsBy 11 = .ok (.astore_n 3, 1) := dk_78 (dk_at dksX22_stepsBy_0 11 rfl rfl)
theorem dX22_stepsBy_12 : decode cX22_stepsBy 12 = .ok (.aload_n 3, 1) := dk_45 (dk_at dksX22_stepsBy_0 12 rfl rfl)
theorem dX22_stepsBy_13 : decode cX22_stepsBy 13 = .ok (.invokeinterface 113 1, 5) := by decide +kernel
theorem dX22_stepsBy_18 : decode cX22_stepsBy 18 = .ok (.ifCond .eq 34, 3) := dk_153 0 34 (dk_at dksX22_stepsBy_0 18 rfl rfl)
theorem dX22_stepsBy_21 : decode cX22_stepsBy 21 = .ok (.aload_n 3, 1) := dk_45 (dk_at dksX22_stepsBy_0 21 rfl rfl)
theorem dX22_stepsBy_22 : decode cX22_stepsBy 22 = .ok (.invokeinterface 119 1, 5) := by decide +kernel
theorem dX22_stepsBy_27 : decode cX22_stepsBy 27 = .ok (.checkcast 123, 3) := dk_192 0 123 (dk_at dksX22_stepsBy_1 5 rfl rfl)
theorem dX22_stepsBy_30 : decode cX22_stepsBy 30 = .ok (.astore 4, 2) := dk_58 4 (dk_at dksX22_stepsBy_1 8 rfl rfl)
theorem dX22_stepsBy_32 : decode cX22_stepsBy 32 = .ok (.iload_n 2, 1) := dk_28 (dk_at dksX22_stepsBy_1 10 rfl rfl)
theorem dX22_stepsBy_33 : decode cX22_stepsBy 33 = .ok (.aload 4, 2) := dk_25 4 (dk_at dksX22_stepsBy_1 11 rfl rfl)
theorem dX22_stepsBy_35 : decode cX22_stepsBy 35 = .ok (.invokevirtual 125, 3) := dk_182 0 125 (dk_at dksX22_stepsBy_1 13 rfl rfl)
theorem dX22_stepsBy_38 : decode cX22_stepsBy 38 = .ok (.iload_n 1, 1) := dk_27 (dk_at dksX22_stepsBy_1 16 rfl rfl)
theorem dX22_stepsBy_39 : decode cX22_stepsBy 39 = .ok (.if_icmp .ne 7, 3) := dk_160 0 7 (dk_at dksX22_stepsBy_1 17 rfl rfl)
theorem dX22_stepsBy_42 : decode cX22_stepsBy 42 = .ok (.iconst 1, 1) := dk_4 (dk_at dksX22_stepsBy_1 20 rfl rfl)
theorem dX22_stepsBy_43 : decode cX22_stepsBy 43 = .ok (.goto 4, 3) := dk_167 0 4 (dk_at dksX22_stepsBy_1 21 rfl rfl)
theorem dX22_stepsBy_46 : decode cX22_stepsBy 46 = .ok (.iconst 0, 1) := dk_3 (dk_at dksX22_stepsBy_2 0 rfl rfl)
theorem dX22_stepsBy_47 : decode cX22_stepsBy 47 = .ok (.iadd, 1) := dk_96 (dk_at dksX22_stepsBy_2 1 rfl rfl)
theorem dX22_stepsBy_48 : decode cX22_stepsBy 48 = .ok (.istore_n 2, 1) := dk_61 (dk_at dksX22_stepsBy_2 2 rfl rfl)
theorem dX22_stepsBy_49 : decode cX22_stepsBy 49 = .ok (.goto (-37), 3) := dk_167 255 219 (dk_at dksX22_stepsBy_2 3 rfl rfl)
theorem dX22_stepsBy_52 : decode cX22_stepsBy 52 = .ok (.iload_n 2, 1) := dk_28 (dk_at dksX22_stepsBy_2 6 rfl rfl)
theorem dX22_stepsBy_53 : decode cX22_stepsBy 53 = .ok (.ireturn, 1) := dk_172 (dk_at dksX22_stepsBy_2 7 rfl rfl)
abbrev cX22_hardest : ByteArray := prog_19_method_4_code
def yX22_hardest : MethodName := ⟨RX22, "hardest", "()I"⟩
def dkwX22_hardest_3 : List UInt8 := [167, 255, 193, 27, 172]
abbrev dktX22_hardest_3 : List UInt8 := dkwX22_hardest_3 ++ []
def dkwX22_hardest_2 : List UInt8 := [185, 0, 128, 2, 0, 192, 0, 123, 182, 0, 125, 164, 0, 7, 28, 167, 0, 4, 27, 60, 132, 2, 1]
abbrev dktX22_hardest_2 : List UInt8 := dkwX22_hardest_2 ++ dktX22_hardest_3
def dkwX22_hardest_1 : List UInt8 := [42, 180, 0, 18, 28, 185, 0, 128, 2, 0, 192, 0, 123, 182, 0, 125, 42, 180, 0, 18, 27]
abbrev dktX22_hardest_1 : List UInt8 := dkwX22_hardest_1 ++ dktX22_hardest_2
def dkwX22_hardest_0 : List UInt8 := [16, 157, 60, 3, 61, 28, 42, 180, 0, 18, 185, 0, 103, 1, 0, 162, 0, 56, 27, 16, 157, 159, 0, 38]
abbrev dktX22_hardest_0 : List UInt8 := dkwX22_hardest_0 ++ dktX22_hardest_1
theorem dksX22_hardest_0 : cX22_hardest.data.toList.drop 0 = dktX22_hardest_0 := by decide +kernel
theorem dksX22_hardest_1 : cX22_hardest.data.toList.drop 24 = dktX22_hardest_1 := dk_seg dksX22_hardest_0 24 rfl rfl
theorem dksX22_hardest_2 : cX22_hardest.data.toList.drop 45 = dktX22_hardest_2 := dk_seg dksX22_hardest_1 21 rfl rfl
theorem dksX22_hardest_3 : cX22_hardest.data.toList.drop 68 = dktX22_hardest_3 := dk_seg dksX22_hardest_2 23 rfl rfl
theorem dX22_hardest_0 : decode cX22_hardest 0 = .ok (.bipush (-99), 2) := dk_16 157 (dk_at dksX22_hardest_0 0 rfl rfl)
theorem dX22_hardest_2 : decode cX22_hardest 2 = .ok (.istore_n 1, 1) := dk_60 (dk_at dksX22_hardest_0 2 rfl rfl)
theorem dX22_hardest_3 : decode cX22_hardest 3 = .ok (.iconst 0, 1) := dk_3 (dk_at dksX22_hardest_0 3 rfl rfl)
theorem dX22_hardest_4 : decode cX22_hardest 4 = .ok (.istore_n 2, 1) := dk_61 (dk_at dksX22_hardest_0 4 rfl rfl)
theorem dX22_hardest_5 : decode cX22_hardest 5 = .ok (.iload_n 2, 1) := dk_28 (dk_at dksX22_hardest_0 5 rfl rfl)
theorem dX22_hardest_6 : decode cX22_hardest 6 = .ok (.aload_n 0, 1) := dk_42 (dk_at dksX22_hardest_0 6 rfl rfl)
theorem dX22_hardest_7 : decode cX22_hardest 7 = .ok (.getfield 18, 3) := dk_180 0 18 (dk_at dksX22_hardest_0 7 rfl rfl)
theorem dX22_hardest_10 : decode cX22_hardest 10 = .ok (.invokeinterface 103 1, 5) := by decide +kernel
theorem dX22_hardest_15 : decode cX22_hardest 15 = .ok (.if_icmp .ge 56, 3) := dk_162 0 56 (dk_at dksX22_hardest_0 15 rfl rfl)
theorem dX22_hardest_18 : decode cX22_hardest 18 = .ok (.iload_n 1, 1) := dk_27 (dk_at dksX22_hardest_0 18 rfl rfl)
theorem dX22_hardest_19 : decode cX22_hardest 19 = .ok (.bipush (-99), 2) := dk_16 157 (dk_at dksX22_hardest_0 19 rfl rfl)
theorem dX22_hardest_21 : decode cX22_hardest 21 = .ok (.if_icmp .eq 38, 3) := dk_159 0 38 (dk_at dksX22_hardest_0 21 rfl rfl)
theorem dX22_hardest_24 : decode cX22_hardest 24 = .ok (.aload_n 0, 1) := dk_42 (dk_at dksX22_hardest_1 0 rfl rfl)
theorem dX22_hardest_25 : decode cX22_hardest 25 = .ok (.getfield 18, 3) := dk_180 0 18 (dk_at dksX22_hardest_1 1 rfl rfl)
theorem dX22_hardest_28 : decode cX22_hardest 28 = .ok (.iload_n 2, 1) := dk_28 (dk_at dksX22_hardest_1 4 rfl rfl)
theorem dX22_hardest_29 : decode cX22_hardest 29 = .ok (.invokeinterface 128 2, 5) := by decide +kernel
theorem dX22_hardest_34 : decode cX22_hardest 34 = .ok (.checkcast 123, 3) := dk_192 0 123 (dk_at dksX22_hardest_1 10 rfl rfl)
theorem dX22_hardest_37 : decode cX22_hardest 37 = .ok (.invokevirtual 125, 3) := dk_182 0 125 (dk_at dksX22_hardest_1 13 rfl rfl)
theorem dX22_hardest_40 : decode cX22_hardest 40 = .ok (.aload_n 0, 1) := dk_42 (dk_at dksX22_hardest_1 16 rfl rfl)
theorem dX22_hardest_41 : decode cX22_hardest 41 = .ok (.getfield 18, 3) := dk_180 0 18 (dk_at dksX22_hardest_1 17 rfl rfl)
theorem dX22_hardest_44 : decode cX22_hardest 44 = .ok (.iload_n 1, 1) := dk_27 (dk_at dksX22_hardest_1 20 rfl rfl)
theorem dX22_hardest_45 : decode cX22_hardest 45 = .ok (.invokeinterface 128 2, 5) := by decide +kernel
theorem dX22_hardest_50 : decode cX22_hardest 50 = .ok (.checkcast 123, 3) := dk_192 0 123 (dk_at dksX22_hardest_2 5 rfl rfl)
theorem dX22_hardest_53 : decode cX22_hardest 53 = .ok (.invokevirtual 125, 3) := dk_182 0 125 (dk_at dksX22_hardest_2 8 rfl rfl)
theorem dX22_hardest_56 : decode cX22_hardest 56 = .ok (.if_icmp .le 7, 3) := dk_164 0 7 (dk_at dksX22_hardest_2 11 rfl rfl)
theorem dX22_hardest_59 : decode cX22_hardest 59 = .ok (.iload_n 2, 1) := dk_28 (dk_at dksX22_hardest_2 14 rfl rfl)
theorem dX22_hardest_60 : decode cX22_hardest 60 = .ok (.goto 4, 3) := dk_167 0 4 (dk_at dksX22_hardest_2 15 rfl rfl)
theorem dX22_hardest_63 : decode cX22_hardest 63 = .ok (.iload_n 1, 1) := dk_27 (dk_at dksX22_hardest_2 18 rfl rfl)
theorem dX22_hardest_64 : decode cX22_hardest 64 = .ok (.istore_n 1, 1) := dk_60 (dk_at dksX22_hardest_2 19 rfl rfl)
theorem dX22_hardest_65 : decode cX22_hardest 65 = .ok (.iinc 2 1, 3) := dk_132 2 1 (dk_at dksX22_hardest_2 20 rfl rfl)
theorem dX22_hardest_68 : decode cX22_hardest 68 = .ok (.goto (-63), 3) := dk_167 255 193 (dk_at dksX22_hardest_3 0 rfl rfl)
theorem dX22_hardest_71 : decode cX22_hardest 71 = .ok (.iload_n 1, 1) := dk_27 (dk_at dksX22_hardest_3 3 rfl rfl)
theorem dX22_hardest_72 : decode cX22_hardest 72 = .ok (.ireturn, 1) := dk_172 (dk_at dksX22_hardest_3 4 rfl rfl)
abbrev cX22_work : ByteArray := prog_19_method_5_code
def yX22_work : MethodName := ⟨RX22, "work", "()I"⟩
def dkwX22_work_2 : List UInt8 := [46, 96, 60, 167, 255, 219, 27, 172]
abbrev dktX22_work_2 : List UInt8 := dkwX22_work_2 ++ []
def dkwX22_work_1 : List UInt8 := [185, 0, 119, 1, 0, 192, 0, 123, 78, 27, 42, 180, 0, 3, 182, 0, 61, 180, 0, 132, 45, 182, 0, 125]
abbrev dktX22_work_1 : List UInt8 := dkwX22_work_1 ++ dktX22_work_2
def dkwX22_work_0 : List UInt8 := [3, 60, 42, 180, 0, 18, 185, 0, 109, 1, 0, 77, 44, 185, 0, 113, 1, 0, 153, 0, 34, 44]
abbrev dktX22_work_0 : List UInt8 := dkwX22_work_0 ++ dktX22_work_1
theorem dksX22_work_0 : cX22_work.data.toList.drop 0 = dktX22_work_0 := by decide +kernel
theorem dksX22_work_1 : cX22_work.data.toList.drop 22 = dktX22_work_1 := dk_seg dksX22_work_0 22 rfl rfl
theorem dksX22_work_2 : cX22_work.data.toList.drop 46 = dktX22_work_2 := dk_seg dksX22_work_1 24 rfl rfl
theorem dX22_work_0 : decode cX22_work 0 = .ok (.iconst 0, 1) := dk_3 (dk_at dksX22_work_0 0 rfl rfl)
theorem dX22_work_1 : decode cX22_work 1 = .ok (.istore_n 1, 1) := dk_60 (dk_at dksX22_work_0 1 rfl rfl)
theorem dX22_work_2 : decode cX22_work 2 = .ok (.aload_n 0, 1) := dk_42 (dk_at dksX22_work_0 2 rfl rfl)
theorem dX22_work_3 : decode cX22_work 3 = .ok (.getfield 18, 3) := dk_180 0 18 (dk_at dksX22_work_0 3 rfl rfl)
theorem dX22_work_6 : decode cX22_work 6 = .ok (.invokeinterface 109 1, 5) := by decide +kernel
theorem dX22_work_11 : decode cX22_work 11 = .ok (.astore_n 2, 1) := dk_77 (dk_at dksX22_work_0 11 rfl rfl)
theorem dX22_work_12 : decode cX22_work 12 = .ok (.aload_n 2, 1) := dk_44 (dk_at dksX22_work_0 12 rfl rfl)
theorem dX22_work_13 : decode cX22_work 13 = .ok (.invokeinterface 113 1, 5) := by decide +kernel
theorem dX22_work_18 : decode cX22_work 18 = .ok (.ifCond .eq 34, 3) := dk_153 0 34 (dk_at dksX22_work_0 18 rfl rfl)
theorem dX22_work_21 : decode cX22_work 21 = .ok (.aload_n 2, 1) := dk_44 (dk_at dksX22_work_0 21 rfl rfl)
theorem dX22_work_22 : decode cX22_work 22 = .ok (.invokeinterface 119 1, 5) := by decide +kernel
theorem dX22_work_27 : decode cX22_work 27 = .ok (.checkcast 123, 3) := dk_192 0 123 (dk_at dksX22_work_1 5 rfl rfl)
theorem dX22_work_30 : decode cX22_work 30 = .ok (.astore_n 3, 1) := dk_78 (dk_at dksX22_work_1 8 rfl rfl)
theorem dX22_work_31 : decode cX22_work 31 = .ok (.iload_n 1, 1) := dk_27 (dk_at dksX22_work_1 9 rfl rfl)
theorem dX22_work_32 : decode cX22_work 32 = .ok (.aload_n 0, 1) := dk_42 (dk_at dksX22_work_1 10 rfl rfl)
theorem dX22_work_33 : decode cX22_work 33 = .ok (.getfield 3, 3) := dk_180 0 3 (dk_at dksX22_work_1 11 rfl rfl)
theorem dX22_work_36 : decode cX22_work 36 = .ok (.invokevirtual 61, 3) := dk_182 0 61 (dk_at dksX22_work_1 14 rfl rfl)
theorem dX22_work_39 : decode cX22_work 39 = .ok (.getfield 132, 3) := dk_180 0 132 (dk_at dksX22_work_1 17 rfl rfl)
theorem dX22_work_42 : decode cX22_work 42 = .ok (.aload_n 3, 1) := dk_45 (dk_at dksX22_work_1 20 rfl rfl)
theorem dX22_work_43 : decode cX22_work 43 = .ok (.invokevirtual 125, 3) := dk_182 0 125 (dk_at dksX22_work_1 21 rfl rfl)
theorem dX22_work_46 : decode cX22_work 46 = .ok (.iaload, 1) := dk_46 (dk_at dksX22_work_2 0 rfl rfl)
theorem dX22_work_47 : decode cX22_work 47 = .ok (.iadd, 1) := dk_96 (dk_at dksX22_work_2 1 rfl rfl)
theorem dX22_work_48 : decode cX22_work 48 = .ok (.istore_n 1, 1) := dk_60 (dk_at dksX22_work_2 2 rfl rfl)
theorem dX22_work_49 : decode cX22_work 49 = .ok (.goto (-37), 3) := dk_167 255 219 (dk_at dksX22_work_2 3 rfl rfl)
theorem dX22_work_52 : decode cX22_work 52 = .ok (.iload_n 1, 1) := dk_27 (dk_at dksX22_work_2 6 rfl rfl)
theorem dX22_work_53 : decode cX22_work 53 = .ok (.ireturn, 1) := dk_172 (dk_at dksX22_work_2 7 rfl rfl)
abbrev cX22_rank : ByteArray := prog_19_method_6_code
def yX22_rank : MethodName := ⟨RX22, "rank", "(I)I"⟩
def dkwX22_rank_2 : List UInt8 := [167, 0, 16, 42, 180, 0, 43, 182, 0, 139, 192, 0, 101, 180, 0, 142, 172]
abbrev dktX22_rank_2 : List UInt8 := dkwX22_rank_2 ++ []
def dkwX22_rank_1 : List UInt8 := [192, 0, 101, 78, 132, 2, 255, 167, 255, 228, 42, 180, 0, 43, 182, 0, 136, 153, 0, 8, 16, 157]
abbrev dktX22_rank_1 : List UInt8 := dkwX22_rank_1 ++ dktX22_rank_2
def dkwX22_rank_0 : List UInt8 := [27, 61, 28, 158, 0, 30, 42, 180, 0, 43, 182, 0, 136, 154, 0, 20, 42, 180, 0, 43, 182, 0, 139]
abbrev dktX22_rank_0 : List UInt8 := dkwX22_rank_0 ++ dktX22_rank_1
theorem dksX22_rank_0 : cX22_rank.data.toList.drop 0 = dktX22_rank_0 := by decide +kernel
theorem dksX22_rank_1 : cX22_rank.data.toList.drop 23 = dktX22_rank_1 := dk_seg dksX22_rank_0 23 rfl rfl
theorem dksX22_rank_2 : cX22_rank.data.toList.drop 45 = dktX22_rank_2 := dk_seg dksX22_rank_1 22 rfl rfl
theorem dX22_rank_0 : decode cX22_rank 0 = .ok (.iload_n 1, 1) := dk_27 (dk_at dksX22_rank_0 0 rfl rfl)
theorem dX22_rank_1 : decode cX22_rank 1 = .ok (.istore_n 2, 1) := dk_61 (dk_at dksX22_rank_0 1 rfl rfl)
theorem dX22_rank_2 : decode cX22_rank 2 = .ok (.iload_n 2, 1) := dk_28 (dk_at dksX22_rank_0 2 rfl rfl)
theorem dX22_rank_3 : decode cX22_rank 3 = .ok (.ifCond .le 30, 3) := dk_158 0 30 (dk_at dksX22_rank_0 3 rfl rfl)
theorem dX22_rank_6 : decode cX22_rank 6 = .ok (.aload_n 0, 1) := dk_42 (dk_at dksX22_rank_0 6 rfl rfl)
theorem dX22_rank_7 : decode cX22_rank 7 = .ok (.getfield 43, 3) := dk_180 0 43 (dk_at dksX22_rank_0 7 rfl rfl)
theorem dX22_rank_10 : decode cX22_rank 10 = .ok (.invokevirtual 136, 3) := dk_182 0 136 (dk_at dksX22_rank_0 10 rfl rfl)
theorem dX22_rank_13 : decode cX22_rank 13 = .ok (.ifCond .ne 20, 3) := dk_154 0 20 (dk_at dksX22_rank_0 13 rfl rfl)
theorem dX22_rank_16 : decode cX22_rank 16 = .ok (.aload_n 0, 1) := dk_42 (dk_at dksX22_rank_0 16 rfl rfl)
theorem dX22_rank_17 : decode cX22_rank 17 = .ok (.getfield 43, 3) := dk_180 0 43 (dk_at dksX22_rank_0 17 rfl rfl)
theorem dX22_rank_20 : decode cX22_rank 20 = .ok (.invokevirtual 139, 3) := dk_182 0 139 (dk_at dksX22_rank_0 20 rfl rfl)
theorem dX22_rank_23 : decode cX22_rank 23 = .ok (.checkcast 101, 3) := dk_192 0 101 (dk_at dksX22_rank_1 0 rfl rfl)
theorem dX22_rank_26 : decode cX22_rank 26 = .ok (.astore_n 3, 1) := dk_78 (dk_at dksX22_rank_1 3 rfl rfl)
theorem dX22_rank_27 : decode cX22_rank 27 = .ok (.iinc 2 (-1), 3) := dk_132 2 255 (dk_at dksX22_rank_1 4 rfl rfl)
theorem dX22_rank_30 : decode cX22_rank 30 = .ok (.goto (-28), 3) := dk_167 255 228 (dk_at dksX22_rank_1 7 rfl rfl)
theorem dX22_rank_33 : decode cX22_rank 33 = .ok (.aload_n 0, 1) := dk_42 (dk_at dksX22_rank_1 10 rfl rfl)
theorem dX22_rank_34 : decode cX22_rank 34 = .ok (.getfield 43, 3) := dk_180 0 43 (dk_at dksX22_rank_1 11 rfl rfl)
theorem dX22_rank_37 : decode cX22_rank 37 = .ok (.invokevirtual 136, 3) := dk_182 0 136 (dk_at dksX22_rank_1 14 rfl rfl)
theorem dX22_rank_40 : decode cX22_rank 40 = .ok (.ifCond .eq 8, 3) := dk_153 0 8 (dk_at dksX22_rank_1 17 rfl rfl)
theorem dX22_rank_43 : decode cX22_rank 43 = .ok (.bipush (-99), 2) := dk_16 157 (dk_at dksX22_rank_1 20 rfl rfl)
theorem dX22_rank_45 : decode cX22_rank 45 = .ok (.goto 16, 3) := dk_167 0 16 (dk_at dksX22_rank_2 0 rfl rfl)
theorem dX22_rank_48 : decode cX22_rank 48 = .ok (.aload_n 0, 1) := dk_42 (dk_at dksX22_rank_2 3 rfl rfl)
theorem dX22_rank_49 : decode cX22_rank 49 = .ok (.getfield 43, 3) := dk_180 0 43 (dk_at dksX22_rank_2 4 rfl rfl)
theorem dX22_rank_52 : decode cX22_rank 52 = .ok (.invokevirtual 139, 3) := dk_182 0 139 (dk_at dksX22_rank_2 7 rfl rfl)
theorem dX22_rank_55 : decode cX22_rank 55 = .ok (.checkcast 101, 3) := dk_192 0 101 (dk_at dksX22_rank_2 10 rfl rfl)
theorem dX22_rank_58 : decode cX22_rank 58 = .ok (.getfield 142, 3) := dk_180 0 142 (dk_at dksX22_rank_2 13 rfl rfl)
theorem dX22_rank_61 : decode cX22_rank 61 = .ok (.ireturn, 1) := dk_172 (dk_at dksX22_rank_2 16 rfl rfl)
theorem q175 : (Jvm.Cond.initialized "EdgeSums$Run") ∈ lw_all := lw_g (lw_at lw_m1 51 rfl) rfl
theorem q764 : (Jvm.Cond.fieldLinkNest "EdgeSums$Run" (65 : Nat) "EdgeSums$Sheet" "allowed" "I" "EdgeSums") ∈ lw_tbl := lw_at lw_m3 160 rfl
theorem q768 : (Jvm.Cond.fieldLinkNest "EdgeSums$Run" (132 : Nat) "EdgeSums$Sheet" "costs" "[I" "EdgeSums") ∈ lw_tbl := lw_at lw_m3 164 rfl
theorem q969 : (Jvm.Cond.fieldLinkNest "EdgeSums$Run" (77 : Nat) "EdgeSums$Solver" "cell" "I" "EdgeSums") ∈ lw_tbl := lw_at lw_m4 125 rfl
theorem q971 : (Jvm.Cond.fieldLinkNest "EdgeSums$Run" (80 : Nat) "EdgeSums$Solver" "number" "I" "EdgeSums") ∈ lw_tbl := lw_at lw_m4 127 rfl
theorem q991 : (Jvm.Cond.fieldLinkNest "EdgeSums$Run" (57 : Nat) "EdgeSums" "solver" "LEdgeSums$Solver;" "EdgeSums") ∈ lw_tbl := lw_at lw_m4 147 rfl
theorem q1101 : (Jvm.Cond.selects "EdgeSums$Run" ({ cls := "java/lang/Object", name := "getClass", desc := "()Ljava/lang/Class;" } : Jvm.MethodName) ({ cls := "java/lang/Object", name := "getClass", desc := "()Ljava/lang/Class;" } : Jvm.MethodName)) ∈ lw_all := lw_g (lw_at lw_m5 17 rfl) rfl
theorem q2221 : (Jvm.Cond.instantiable "EdgeSums$Run" (4 : Nat)) ∈ lw_all := lw_g (lw_at lw_m9 177 rfl) rfl
theorem q2223 : (Jvm.Cond.instanceMethod ({ cls := "EdgeSums$Run", name := "<init>", desc := "(LEdgeSums;)V" } : Jvm.MethodName)) ∈ lw_all := lw_g (lw_at lw_m9 179 rfl) rfl
theorem q2224 : (Jvm.Cond.code ({ cls := "EdgeSums$Run", name := "<init>", desc := "(LEdgeSums;)V" } : Jvm.MethodName) prog_19_method_1_code (3 : Nat) (Option.none : Option Jvm.ClassFile.FieldType)) ∈ lw_all := lw_g (lw_at lw_m9 180 rfl) rfl
theorem q2225 : (Jvm.Cond.methodLink "EdgeSums$Run" (9 : Nat) ({ cls := "java/lang/Object", name := "<init>", desc := "()V" } : Jvm.MethodName)) ∈ lw_all := lw_g (lw_at lw_m9 181 rfl) rfl
theorem q2226 : (Jvm.Cond.classLink "EdgeSums$Run" (15 : Nat) "java/util/ArrayList") ∈ lw_all := lw_g (lw_at lw_m9 182 rfl) rfl
theorem q2227 : (Jvm.Cond.methodLink "EdgeSums$Run" (17 : Nat) ({ cls := "java/util/ArrayList", name := "<init>", desc := "()V" } : Jvm.MethodName)) ∈ lw_all := lw_g (lw_at lw_m9 183 rfl) rfl
theorem q2228 : (Jvm.Cond.classLink "EdgeSums$Run" (22 : Nat) "EdgeSums$Board") ∈ lw_all := lw_g (lw_at lw_m9 184 rfl) rfl
theorem q2229 : (Jvm.Cond.methodLinkNest "EdgeSums$Run" (24 : Nat) ({ cls := "EdgeSums", name := "page", desc := "()LEdgeSums$Page;" } : Jvm.MethodName) "EdgeSums") ∈ lw_tbl := lw_at lw_m9 185 rfl
theorem q2230 : (Jvm.Cond.methodLink "EdgeSums$Run" (28 : Nat) ({ cls := "EdgeSums$Board", name := "<init>", desc := "(LEdgeSums$Page;)V" } : Jvm.MethodName)) ∈ lw_all := lw_g (lw_at lw_m9 186 rfl) rfl
theorem q2231 : (Jvm.Cond.classLink "EdgeSums$Run" (35 : Nat) "java/util/PriorityQueue") ∈ lw_all := lw_g (lw_at lw_m9 187 rfl) rfl
theorem q2232 : (Jvm.Cond.classLink "EdgeSums$Run" (37 : Nat) "EdgeSums$Earlier") ∈ lw_all := lw_g (lw_at lw_m9 188 rfl) rfl
theorem q2234 : (Jvm.Cond.methodLinkNest "EdgeSums$Run" (39 : Nat) ({ cls := "EdgeSums$Earlier", name := "<init>", desc := "()V" } : Jvm.MethodName) "EdgeSums") ∈ lw_tbl := lw_at lw_m9 190 rfl
theorem q2239 : (Jvm.Cond.methodLink "EdgeSums$Run" (40 : Nat) ({ cls := "java/util/PriorityQueue", name := "<init>", desc := "(Ljava/util/Comparator;)V" } : Jvm.MethodName)) ∈ lw_all := lw_g (lw_at lw_m9 195 rfl) rfl
theorem q2240 : (Jvm.Cond.methodLink "EdgeSums$Run" (47 : Nat) ({ cls := "EdgeSums$Page", name := "cells", desc := "()I" } : Jvm.MethodName)) ∈ lw_all := lw_g (lw_at lw_m9 196 rfl) rfl
theorem q2241 : (Jvm.Cond.methodLink "EdgeSums$Run" (53 : Nat) ({ cls := "EdgeSums$Run", name := "know", desc := "(I)V" } : Jvm.MethodName)) ∈ lw_all := lw_g (lw_at lw_m9 197 rfl) rfl
theorem q2242 : (Jvm.Cond.privateMethod ({ cls := "EdgeSums$Run", name := "know", desc := "(I)V" } : Jvm.MethodName)) ∈ lw_tbl := lw_at lw_m9 198 rfl
theorem q2243 : (Jvm.Cond.instanceMethod ({ cls := "EdgeSums$Run", name := "know", desc := "(I)V" } : Jvm.MethodName)) ∈ lw_all := lw_g (lw_at lw_m9 199 rfl) rfl
theorem q2244 : (Jvm.Cond.code ({ cls := "EdgeSums$Run", name := "know", desc := "(I)V" } : Jvm.MethodName) prog_19_method_2_code (3 : Nat) (Option.none : Option Jvm.ClassFile.FieldType)) ∈ lw_all := lw_g (lw_at lw_m9 200 rfl) rfl
theorem q2245 : (Jvm.Cond.methodLink "EdgeSums$Run" (97 : Nat) ({ cls := "EdgeSums$Board", name := "possible", desc := "(I)I" } : Jvm.MethodName)) ∈ lw_all := lw_g (lw_at lw_m9 201 rfl) rfl
theorem q2246 : (Jvm.Cond.classLink "EdgeSums$Run" (101 : Nat) "EdgeSums$Known") ∈ lw_all := lw_g (lw_at lw_m9 202 rfl) rfl
theorem q2248 : (Jvm.Cond.interfaceEntry "EdgeSums$Run" (103 : Nat)) ∈ lw_tbl := lw_at lw_m9 204 rfl
theorem q2249 : (Jvm.Cond.methodLink "EdgeSums$Run" (103 : Nat) ({ cls := "java/util/List", name := "size", desc := "()I" } : Jvm.MethodName)) ∈ lw_all := lw_g (lw_at lw_m9 205 rfl) rfl
theorem q2250 : (Jvm.Cond.methodLink "EdgeSums$Run" (106 : Nat) ({ cls := "EdgeSums$Known", name := "<init>", desc := "(II)V" } : Jvm.MethodName)) ∈ lw_all := lw_g (lw_at lw_m9 206 rfl) rfl
theorem q2256 : (Jvm.Cond.fieldLinkNest "EdgeSums$Run" (142 : Nat) "EdgeSums$Known" "cell" "I" "EdgeSums") ∈ lw_tbl := lw_at lw_m9 212 rfl
theorem q2264 : (Jvm.Cond.methodLink "EdgeSums$Run" (108 : Nat) ({ cls := "java/util/PriorityQueue", name := "add", desc := "(Ljava/lang/Object;)Z" } : Jvm.MethodName)) ∈ lw_all := lw_g (lw_at lw_m9 220 rfl) rfl
theorem q2265 : (Jvm.Cond.methodLinkNest "EdgeSums$Run" (61 : Nat) ({ cls := "EdgeSums", name := "sheet", desc := "()LEdgeSums$Sheet;" } : Jvm.MethodName) "EdgeSums") ∈ lw_tbl := lw_at lw_m9 221 rfl
theorem q2266 : (Jvm.Cond.methodLink "EdgeSums$Run" (71 : Nat) ({ cls := "EdgeSums$Solver", name := "find", desc := "(LEdgeSums$Board;I)Z" } : Jvm.MethodName)) ∈ lw_all := lw_g (lw_at lw_m9 222 rfl) rfl
theorem q2267 : (Jvm.Cond.methodLink "EdgeSums$Run" (83 : Nat) ({ cls := "EdgeSums$Board", name := "strike", desc := "(II)V" } : Jvm.MethodName)) ∈ lw_all := lw_g (lw_at lw_m9 223 rfl) rfl
theorem q2268 : (Jvm.Cond.methodLink "EdgeSums$Run" (87 : Nat) ({ cls := "EdgeSums$Solver", name := "step", desc := "()LEdgeSums$Step;" } : Jvm.MethodName)) ∈ lw_all := lw_g (lw_at lw_m9 224 rfl) rfl
theorem q2283 : (Jvm.Cond.interfaceEntry "EdgeSums$Run" (91 : Nat)) ∈ lw_tbl := lw_at lw_m9 239 rfl
theorem q2284 : (Jvm.Cond.methodLink "EdgeSums$Run" (91 : Nat) ({ cls := "java/util/List", name := "add", desc := "(Ljava/lang/Object;)Z" } : Jvm.MethodName)) ∈ lw_all := lw_g (lw_at lw_m10 0 rfl) rfl
theorem q2285 : (Jvm.Cond.fieldLink "EdgeSums$Run" (18 : Nat) "EdgeSums$Run" "steps" "Ljava/util/List;") ∈ lw_all := lw_g (lw_at lw_m10 1 rfl) rfl
theorem q2287 : (Jvm.Cond.fieldLink "EdgeSums$Run" (31 : Nat) "EdgeSums$Run" "end" "LEdgeSums$Board;") ∈ lw_all := lw_g (lw_at lw_m10 3 rfl) rfl
theorem q2289 : (Jvm.Cond.fieldLink "EdgeSums$Run" (43 : Nat) "EdgeSums$Run" "ranks" "Ljava/util/PriorityQueue;") ∈ lw_all := lw_g (lw_at lw_m10 5 rfl) rfl
theorem q2290 : (Jvm.Cond.fieldLink "EdgeSums$Run" (3 : Nat) "EdgeSums$Run" "this$0" "LEdgeSums;") ∈ lw_all := lw_g (lw_at lw_m10 6 rfl) rfl
theorem q2291 : (Jvm.Cond.laysFinal "EdgeSums$Run" "EdgeSums$Run" "steps" "Ljava/util/List;") ∈ lw_all := lw_g (lw_at lw_m10 7 rfl) rfl
theorem q2292 : (Jvm.Cond.soleField "EdgeSums$Run" "steps") ∈ lw_all := lw_g (lw_at lw_m10 8 rfl) rfl
theorem q2293 : (Jvm.Cond.laysFinal "EdgeSums$Run" "EdgeSums$Run" "end" "LEdgeSums$Board;") ∈ lw_all := lw_g (lw_at lw_m10 9 rfl) rfl
theorem q2294 : (Jvm.Cond.soleField "EdgeSums$Run" "end") ∈ lw_all := lw_g (lw_at lw_m10 10 rfl) rfl
theorem q2295 : (Jvm.Cond.laysFinal "EdgeSums$Run" "EdgeSums$Run" "ranks" "Ljava/util/PriorityQueue;") ∈ lw_all := lw_g (lw_at lw_m10 11 rfl) rfl
theorem q2296 : (Jvm.Cond.soleField "EdgeSums$Run" "ranks") ∈ lw_all := lw_g (lw_at lw_m10 12 rfl) rfl
theorem q2297 : (Jvm.Cond.laysFinal "EdgeSums$Run" "EdgeSums$Run" "this$0" "LEdgeSums;") ∈ lw_all := lw_g (lw_at lw_m10 13 rfl) rfl
theorem q2298 : (Jvm.Cond.soleField "EdgeSums$Run" "this$0") ∈ lw_all := lw_g (lw_at lw_m10 14 rfl) rfl
theorem q2299 : (Jvm.Cond.superclass "EdgeSums$Run" "java/lang/Object") ∈ lw_all := lw_g (lw_at lw_m10 15 rfl) rfl
theorem q2301 : (Jvm.Cond.instanceMethod ({ cls := "EdgeSums$Run", name := "stepsBy", desc := "(I)I" } : Jvm.MethodName)) ∈ lw_all := lw_g (lw_at lw_m10 17 rfl) rfl
theorem q2302 : (Jvm.Cond.selects "EdgeSums$Run" ({ cls := "EdgeSums$Run", name := "stepsBy", desc := "(I)I" } : Jvm.MethodName) ({ cls := "EdgeSums$Run", name := "stepsBy", desc := "(I)I" } : Jvm.MethodName)) ∈ lw_all := lw_g (lw_at lw_m10 18 rfl) rfl
theorem q2303 : (Jvm.Cond.code ({ cls := "EdgeSums$Run", name := "stepsBy", desc := "(I)I" } : Jvm.MethodName) prog_19_method_3_code (5 : Nat) (Option.some Jvm.ClassFile.FieldType.int)) ∈ lw_all := lw_g (lw_at lw_m10 19 rfl) rfl
theorem q2304 : (Jvm.Cond.interfaceEntry "EdgeSums$Run" (109 : Nat)) ∈ lw_tbl := lw_at lw_m10 20 rfl
theorem q2305 : (Jvm.Cond.methodLink "EdgeSums$Run" (109 : Nat) ({ cls := "java/util/List", name := "iterator", desc := "()Ljava/util/Iterator;" } : Jvm.MethodName)) ∈ lw_all := lw_g (lw_at lw_m10 21 rfl) rfl
theorem q2332 : (Jvm.Cond.interfaceEntry "EdgeSums$Run" (113 : Nat)) ∈ lw_tbl := lw_at lw_m10 48 rfl
theorem q2333 : (Jvm.Cond.methodLink "EdgeSums$Run" (113 : Nat) ({ cls := "java/util/Iterator", name := "hasNext", desc := "()Z" } : Jvm.MethodName)) ∈ lw_all := lw_g (lw_at lw_m10 49 rfl) rfl
theorem q2342 : (Jvm.Cond.interfaceEntry "EdgeSums$Run" (119 : Nat)) ∈ lw_tbl := lw_at lw_m10 58 rfl
theorem q2343 : (Jvm.Cond.methodLink "EdgeSums$Run" (119 : Nat) ({ cls := "java/util/Iterator", name := "next", desc := "()Ljava/lang/Object;" } : Jvm.MethodName)) ∈ lw_all := lw_g (lw_at lw_m10 59 rfl) rfl
theorem q2355 : (Jvm.Cond.classLink "EdgeSums$Run" (123 : Nat) "EdgeSums$Step") ∈ lw_all := lw_g (lw_at lw_m10 71 rfl) rfl
theorem q2356 : (Jvm.Cond.methodLink "EdgeSums$Run" (125 : Nat) ({ cls := "EdgeSums$Step", name := "rule", desc := "()I" } : Jvm.MethodName)) ∈ lw_all := lw_g (lw_at lw_m10 72 rfl) rfl
theorem q2411 : (Jvm.Cond.instanceMethod ({ cls := "EdgeSums$Run", name := "hardest", desc := "()I" } : Jvm.MethodName)) ∈ lw_all := lw_g (lw_at lw_m10 127 rfl) rfl
theorem q2412 : (Jvm.Cond.selects "EdgeSums$Run" ({ cls := "EdgeSums$Run", name := "hardest", desc := "()I" } : Jvm.MethodName) ({ cls := "EdgeSums$Run", name := "hardest", desc := "()I" } : Jvm.MethodName)) ∈ lw_all := lw_g (lw_at lw_m10 128 rfl) rfl
theorem q2413 : (Jvm.Cond.code ({ cls := "EdgeSums$Run", name := "hardest", desc := "()I" } : Jvm.MethodName) prog_19_method_4_code (3 : Nat) (Option.some Jvm.ClassFile.FieldType.int)) ∈ lw_all := lw_g (lw_at lw_m10 129 rfl) rfl
theorem q2414 : (Jvm.Cond.interfaceEntry "EdgeSums$Run" (128 : Nat)) ∈ lw_tbl := lw_at lw_m10 130 rfl
theorem q2415 : (Jvm.Cond.methodLink "EdgeSums$Run" (128 : Nat) ({ cls := "java/util/List", name := "get", desc := "(I)Ljava/lang/Object;" } : Jvm.MethodName)) ∈ lw_all := lw_g (lw_at lw_m10 131 rfl) rfl
theorem q2424 : (Jvm.Cond.instanceMethod ({ cls := "EdgeSums$Run", name := "work", desc := "()I" } : Jvm.MethodName)) ∈ lw_all := lw_g (lw_at lw_m10 140 rfl) rfl
theorem q2425 : (Jvm.Cond.selects "EdgeSums$Run" ({ cls := "EdgeSums$Run", name := "work", desc := "()I" } : Jvm.MethodName) ({ cls := "EdgeSums$Run", name := "work", desc := "()I" } : Jvm.MethodName)) ∈ lw_all := lw_g (lw_at lw_m10 141 rfl) rfl
theorem q2426 : (Jvm.Cond.code ({ cls := "EdgeSums$Run", name := "work", desc := "()I" } : Jvm.MethodName) prog_19_method_5_code (4 : Nat) (Option.some Jvm.ClassFile.FieldType.int)) ∈ lw_all := lw_g (lw_at lw_m10 142 rfl) rfl
theorem q2436 : (Jvm.Cond.instanceMethod ({ cls := "EdgeSums$Run", name := "rank", desc := "(I)I" } : Jvm.MethodName)) ∈ lw_all := lw_g (lw_at lw_m10 152 rfl) rfl
theorem q2437 : (Jvm.Cond.selects "EdgeSums$Run" ({ cls := "EdgeSums$Run", name := "rank", desc := "(I)I" } : Jvm.MethodName) ({ cls := "EdgeSums$Run", name := "rank", desc := "(I)I" } : Jvm.MethodName)) ∈ lw_all := lw_g (lw_at lw_m10 153 rfl) rfl
theorem q2438 : (Jvm.Cond.code ({ cls := "EdgeSums$Run", name := "rank", desc := "(I)I" } : Jvm.MethodName) prog_19_method_6_code (4 : Nat) (Option.some Jvm.ClassFile.FieldType.int)) ∈ lw_all := lw_g (lw_at lw_m10 154 rfl) rfl
theorem q2439 : (Jvm.Cond.methodLink "EdgeSums$Run" (136 : Nat) ({ cls := "java/util/PriorityQueue", name := "isEmpty", desc := "()Z" } : Jvm.MethodName)) ∈ lw_all := lw_g (lw_at lw_m10 155 rfl) rfl
theorem q2440 : (Jvm.Cond.methodLink "EdgeSums$Run" (139 : Nat) ({ cls := "java/util/PriorityQueue", name := "poll", desc := "()Ljava/lang/Object;" } : Jvm.MethodName)) ∈ lw_all := lw_g (lw_at lw_m10 156 rfl) rfl
theorem q3219 : (Jvm.Cond.castable "EdgeSums$Run" "java/lang/Object") ∈ lw_tbl := lw_at lw_m13 215 rfl
theorem in_X22 : ∀ w ∈ wsX220, w ∈ lw_all := lw_in wsX220 [2291, 2293, 2295, 2297] (by decide +kernel) (by decide +kernel)
/-! EdgeSums$Earlier -/
set_option maxRecDepth 100000
def RX23 : String := "EdgeSums$Earlier"
abbrev cX23_compare : ByteArray := prog_10_method_3_code
def yX23_compare : MethodName := ⟨RX23, "compare", "(Ljava/lang/Object;Ljava/lang/Object;)I"⟩
def dkwX23_compare_0 : List UInt8 := [42, 43, 192, 0, 8, 44, 192, 0, 8, 182, 0, 22, 172]
abbrev dktX23_compare_0 : List UInt8 := dkwX23_compare_0 ++ []
theorem dksX23_compare_0 : cX23_compare.data.toList.drop 0 = dktX23_compare_0 := by decide +kernel
theorem dX23_compare_0 : decode cX23_compare 0 = .ok (.aload_n 0, 1) := dk_42 (dk_at dksX23_compare_0 0 rfl rfl)
theorem dX23_compare_1 : decode cX23_compare 1 = .ok (.aload_n 1, 1) := dk_43 (dk_at dksX23_compare_0 1 rfl rfl)
theorem dX23_compare_2 : decode cX23_compare 2 = .ok (.checkcast 8, 3) := dk_192 0 8 (dk_at dksX23_compare_0 2 rfl rfl)
theorem dX23_compare_5 : decode cX23_compare 5 = .ok (.aload_n 2, 1) := dk_44 (dk_at dksX23_compare_0 5 rfl rfl)
theorem dX23_compare_6 : decode cX23_compare 6 = .ok (.checkcast 8, 3) := dk_192 0 8 (dk_at dksX23_compare_0 6 rfl rfl)
theorem dX23_compare_9 : decode cX23_compare 9 = .ok (.invokevirtual 22, 3) := dk_182 0 22 (dk_at dksX23_compare_0 9 rfl rfl)
theorem dX23_compare_12 : decode cX23_compare 12 = .ok (.ireturn, 1) := dk_172 (dk_at dksX23_compare_0 12 rfl rfl)
abbrev cX23_compare_2 : ByteArray := prog_10_method_2_code
def yX23_compare_2 : MethodName := ⟨RX23, "compare", "(LEdgeSums$Known;LEdgeSums$Known;)I"⟩
def dkwX23_compare_2_1 : List UInt8 := [167, 0, 14, 43, 180, 0, 7, 44, 180, 0, 7, 184, 0, 16, 172]
abbrev dktX23_compare_2_1 : List UInt8 := dkwX23_compare_2_1 ++ []
def dkwX23_compare_2_0 : List UInt8 := [43, 180, 0, 7, 44, 180, 0, 7, 160, 0, 17, 43, 180, 0, 13, 44, 180, 0, 13, 184, 0, 16]
abbrev dktX23_compare_2_0 : List UInt8 := dkwX23_compare_2_0 ++ dktX23_compare_2_1
theorem dksX23_compare_2_0 : cX23_compare_2.data.toList.drop 0 = dktX23_compare_2_0 := by decide +kernel
theorem dksX23_compare_2_1 : cX23_compare_2.data.toList.drop 22 = dktX23_compare_2_1 := dk_seg dksX23_compare_2_0 22 rfl rfl
theorem dX23_compare_2_0 : decode cX23_compare_2 0 = .ok (.aload_n 1, 1) := dk_43 (dk_at dksX23_compare_2_0 0 rfl rfl)
theorem dX23_compare_2_1 : decode cX23_compare_2 1 = .ok (.getfield 7, 3) := dk_180 0 7 (dk_at dksX23_compare_2_0 1 rfl rfl)
theorem dX23_compare_2_4 : decode cX23_compare_2 4 = .ok (.aload_n 2, 1) := dk_44 (dk_at dksX23_compare_2_0 4 rfl rfl)
theorem dX23_compare_2_5 : decode cX23_compare_2 5 = .ok (.getfield 7, 3) := dk_180 0 7 (dk_at dksX23_compare_2_0 5 rfl rfl)
theorem dX23_compare_2_8 : decode cX23_compare_2 8 = .ok (.if_icmp .ne 17, 3) := dk_160 0 17 (dk_at dksX23_compare_2_0 8 rfl rfl)
theorem dX23_compare_2_11 : decode cX23_compare_2 11 = .ok (.aload_n 1, 1) := dk_43 (dk_at dksX23_compare_2_0 11 rfl rfl)
theorem dX23_compare_2_12 : decode cX23_compare_2 12 = .ok (.getfield 13, 3) := dk_180 0 13 (dk_at dksX23_compare_2_0 12 rfl rfl)
theorem dX23_compare_2_15 : decode cX23_compare_2 15 = .ok (.aload_n 2, 1) := dk_44 (dk_at dksX23_compare_2_0 15 rfl rfl)
theorem dX23_compare_2_16 : decode cX23_compare_2 16 = .ok (.getfield 13, 3) := dk_180 0 13 (dk_at dksX23_compare_2_0 16 rfl rfl)
theorem dX23_compare_2_19 : decode cX23_compare_2 19 = .ok (.invokestatic 16, 3) := dk_184 0 16 (dk_at dksX23_compare_2_0 19 rfl rfl)
theorem dX23_compare_2_22 : decode cX23_compare_2 22 = .ok (.goto 14, 3) := dk_167 0 14 (dk_at dksX23_compare_2_1 0 rfl rfl)
theorem dX23_compare_2_25 : decode cX23_compare_2 25 = .ok (.aload_n 1, 1) := dk_43 (dk_at dksX23_compare_2_1 3 rfl rfl)
theorem dX23_compare_2_26 : decode cX23_compare_2 26 = .ok (.getfield 7, 3) := dk_180 0 7 (dk_at dksX23_compare_2_1 4 rfl rfl)
theorem dX23_compare_2_29 : decode cX23_compare_2 29 = .ok (.aload_n 2, 1) := dk_44 (dk_at dksX23_compare_2_1 7 rfl rfl)
theorem dX23_compare_2_30 : decode cX23_compare_2 30 = .ok (.getfield 7, 3) := dk_180 0 7 (dk_at dksX23_compare_2_1 8 rfl rfl)
theorem dX23_compare_2_33 : decode cX23_compare_2 33 = .ok (.invokestatic 16, 3) := dk_184 0 16 (dk_at dksX23_compare_2_1 11 rfl rfl)
theorem dX23_compare_2_36 : decode cX23_compare_2 36 = .ok (.ireturn, 1) := dk_172 (dk_at dksX23_compare_2_1 14 rfl rfl)
abbrev cX23_init : ByteArray := prog_10_method_1_code
def yX23_init : MethodName := ⟨RX23, "<init>", "()V"⟩
theorem dX23_init_0 : decode cX23_init 0 = .ok (.aload_n 0, 1) := by decide +kernel
theorem dX23_init_1 : decode cX23_init 1 = .ok (.invokespecial 1, 3) := by decide +kernel
theorem dX23_init_4 : decode cX23_init 4 = .ok (.return_, 1) := by decide +kernel
theorem q176 : (Jvm.Cond.initialized "EdgeSums$Earlier") ∈ lw_all := lw_g (lw_at lw_m1 52 rfl) rfl
theorem q351 : (Jvm.Cond.castable "EdgeSums$Earlier" "java/util/Comparator") ∈ lw_tbl := lw_at lw_m1 227 rfl
theorem q352 : (Jvm.Cond.selects "EdgeSums$Earlier" ({ cls := "java/util/Comparator", name := "compare", desc := "(Ljava/lang/Object;Ljava/lang/Object;)I" } : Jvm.MethodName) ({ cls := "EdgeSums$Earlier", name := "compare", desc := "(Ljava/lang/Object;Ljava/lang/Object;)I" } : Jvm.MethodName)) ∈ lw_all := lw_g (lw_at lw_m1 228 rfl) rfl
theorem q353 : (Jvm.Cond.unhidden "EdgeSums$Earlier" "compare" "(Ljava/lang/Object;Ljava/lang/Object;)I") ∈ lw_tbl := lw_at lw_m1 229 rfl
theorem q354 : (Jvm.Cond.instanceMethod ({ cls := "EdgeSums$Earlier", name := "compare", desc := "(Ljava/lang/Object;Ljava/lang/Object;)I" } : Jvm.MethodName)) ∈ lw_all := lw_g (lw_at lw_m1 230 rfl) rfl
theorem q355 : (Jvm.Cond.publicMethod ({ cls := "EdgeSums$Earlier", name := "compare", desc := "(Ljava/lang/Object;Ljava/lang/Object;)I" } : Jvm.MethodName)) ∈ lw_tbl := lw_at lw_m1 231 rfl
theorem q356 : (Jvm.Cond.code ({ cls := "EdgeSums$Earlier", name := "compare", desc := "(Ljava/lang/Object;Ljava/lang/Object;)I" } : Jvm.MethodName) prog_10_method_3_code (3 : Nat) (Option.some Jvm.ClassFile.FieldType.int)) ∈ lw_all := lw_g (lw_at lw_m1 232 rfl) rfl
theorem q357 : (Jvm.Cond.classLink "EdgeSums$Earlier" (8 : Nat) "EdgeSums$Known") ∈ lw_all := lw_g (lw_at lw_m1 233 rfl) rfl
theorem q358 : (Jvm.Cond.methodLink "EdgeSums$Earlier" (22 : Nat) ({ cls := "EdgeSums$Earlier", name := "compare", desc := "(LEdgeSums$Known;LEdgeSums$Known;)I" } : Jvm.MethodName)) ∈ lw_all := lw_g (lw_at lw_m1 234 rfl) rfl
theorem q359 : (Jvm.Cond.instanceMethod ({ cls := "EdgeSums$Earlier", name := "compare", desc := "(LEdgeSums$Known;LEdgeSums$Known;)I" } : Jvm.MethodName)) ∈ lw_all := lw_g (lw_at lw_m1 235 rfl) rfl
theorem q360 : (Jvm.Cond.selects "EdgeSums$Earlier" ({ cls := "EdgeSums$Earlier", name := "compare", desc := "(LEdgeSums$Known;LEdgeSums$Known;)I" } : Jvm.MethodName) ({ cls := "EdgeSums$Earlier", name := "compare", desc := "(LEdgeSums$Known;LEdgeSums$Known;)I" } : Jvm.MethodName)) ∈ lw_all := lw_g (lw_at lw_m1 236 rfl) rfl
theorem q361 : (Jvm.Cond.code ({ cls := "EdgeSums$Earlier", name := "compare", desc := "(LEdgeSums$Known;LEdgeSums$Known;)I" } : Jvm.MethodName) prog_10_method_2_code (3 : Nat) (Option.some Jvm.ClassFile.FieldType.int)) ∈ lw_all := lw_g (lw_at lw_m1 237 rfl) rfl
theorem q362 : (Jvm.Cond.methodLink "EdgeSums$Earlier" (16 : Nat) ({ cls := "java/lang/Integer", name := "compare", desc := "(II)I" } : Jvm.MethodName)) ∈ lw_all := lw_g (lw_at lw_m1 238 rfl) rfl
theorem q1095 : (Jvm.Cond.selects "EdgeSums$Earlier" ({ cls := "java/lang/Object", name := "getClass", desc := "()Ljava/lang/Class;" } : Jvm.MethodName) ({ cls := "java/lang/Object", name := "getClass", desc := "()Ljava/lang/Class;" } : Jvm.MethodName)) ∈ lw_all := lw_g (lw_at lw_m5 11 rfl) rfl
theorem q2233 : (Jvm.Cond.instantiable "EdgeSums$Earlier" (0 : Nat)) ∈ lw_all := lw_g (lw_at lw_m9 189 rfl) rfl
theorem q2235 : (Jvm.Cond.instanceMethod ({ cls := "EdgeSums$Earlier", name := "<init>", desc := "()V" } : Jvm.MethodName)) ∈ lw_all := lw_g (lw_at lw_m9 191 rfl) rfl
theorem q2236 : (Jvm.Cond.code ({ cls := "EdgeSums$Earlier", name := "<init>", desc := "()V" } : Jvm.MethodName) prog_10_method_1_code (1 : Nat) (Option.none : Option Jvm.ClassFile.FieldType)) ∈ lw_all := lw_g (lw_at lw_m9 192 rfl) rfl
theorem q2237 : (Jvm.Cond.methodLink "EdgeSums$Earlier" (1 : Nat) ({ cls := "java/lang/Object", name := "<init>", desc := "()V" } : Jvm.MethodName)) ∈ lw_all := lw_g (lw_at lw_m9 193 rfl) rfl
theorem q2238 : (Jvm.Cond.superclass "EdgeSums$Earlier" "java/lang/Object") ∈ lw_all := lw_g (lw_at lw_m9 194 rfl) rfl
theorem q2255 : (Jvm.Cond.fieldLinkNest "EdgeSums$Earlier" (13 : Nat) "EdgeSums$Known" "cell" "I" "EdgeSums") ∈ lw_tbl := lw_at lw_m9 211 rfl
theorem q2258 : (Jvm.Cond.fieldLinkNest "EdgeSums$Earlier" (7 : Nat) "EdgeSums$Known" "steps" "I" "EdgeSums") ∈ lw_tbl := lw_at lw_m9 214 rfl
theorem q3220 : (Jvm.Cond.castable "EdgeSums$Earlier" "java/lang/Object") ∈ lw_tbl := lw_at lw_m13 216 rfl
/-! EdgeSums$Known -/
set_option maxRecDepth 100000
def RX24 : String := "EdgeSums$Known"
def TX24 : u_T := fun k => match k with
  | 0 => ("EdgeSums$Known", "cell", "I", true)
  | _ => ("EdgeSums$Known", "steps", "I", true)
def tyX24 : Nat → FieldType := fun k => match k with
  | 0 => .int
  | _ => .int
abbrev wsX240 : List Cond := u_ws RX24 TX24 2
theorem nmX24 : ∀ a, a < 2 → ∀ b, b < 2 → a ≠ b → (TX24 a).2.1 ≠ (TX24 b).2.1 := by decide +kernel
theorem tyX24_ok : ∀ k, k < 2 → parseFieldDescriptor (TX24 k).2.2.1 = some (tyX24 k) := by decide +kernel
abbrev cX24_init : ByteArray := prog_11_method_1_code
def yX24_init : MethodName := ⟨RX24, "<init>", "(II)V"⟩
def dkwX24_init_0 : List UInt8 := [42, 183, 0, 1, 42, 27, 181, 0, 7, 42, 28, 181, 0, 13, 177]
abbrev dktX24_init_0 : List UInt8 := dkwX24_init_0 ++ []
theorem dksX24_init_0 : cX24_init.data.toList.drop 0 = dktX24_init_0 := by decide +kernel
theorem dX24_init_0 : decode cX24_init 0 = .ok (.aload_n 0, 1) := dk_42 (dk_at dksX24_init_0 0 rfl rfl)
theorem dX24_init_1 : decode cX24_init 1 = .ok (.invokespecial 1, 3) := dk_183 0 1 (dk_at dksX24_init_0 1 rfl rfl)
theorem dX24_init_4 : decode cX24_init 4 = .ok (.aload_n 0, 1) := dk_42 (dk_at dksX24_init_0 4 rfl rfl)
theorem dX24_init_5 : decode cX24_init 5 = .ok (.iload_n 1, 1) := dk_27 (dk_at dksX24_init_0 5 rfl rfl)
theorem dX24_init_6 : decode cX24_init 6 = .ok (.putfield 7, 3) := dk_181 0 7 (dk_at dksX24_init_0 6 rfl rfl)
theorem dX24_init_9 : decode cX24_init 9 = .ok (.aload_n 0, 1) := dk_42 (dk_at dksX24_init_0 9 rfl rfl)
theorem dX24_init_10 : decode cX24_init 10 = .ok (.iload_n 2, 1) := dk_28 (dk_at dksX24_init_0 10 rfl rfl)
theorem dX24_init_11 : decode cX24_init 11 = .ok (.putfield 13, 3) := dk_181 0 13 (dk_at dksX24_init_0 11 rfl rfl)
theorem dX24_init_14 : decode cX24_init 14 = .ok (.return_, 1) := dk_177 (dk_at dksX24_init_0 14 rfl rfl)
theorem q177 : (Jvm.Cond.initialized "EdgeSums$Known") ∈ lw_all := lw_g (lw_at lw_m1 53 rfl) rfl
theorem q1096 : (Jvm.Cond.selects "EdgeSums$Known" ({ cls := "java/lang/Object", name := "getClass", desc := "()Ljava/lang/Class;" } : Jvm.MethodName) ({ cls := "java/lang/Object", name := "getClass", desc := "()Ljava/lang/Class;" } : Jvm.MethodName)) ∈ lw_all := lw_g (lw_at lw_m5 12 rfl) rfl
theorem q2247 : (Jvm.Cond.instantiable "EdgeSums$Known" (2 : Nat)) ∈ lw_all := lw_g (lw_at lw_m9 203 rfl) rfl
theorem q2251 : (Jvm.Cond.instanceMethod ({ cls := "EdgeSums$Known", name := "<init>", desc := "(II)V" } : Jvm.MethodName)) ∈ lw_all := lw_g (lw_at lw_m9 207 rfl) rfl
theorem q2252 : (Jvm.Cond.code ({ cls := "EdgeSums$Known", name := "<init>", desc := "(II)V" } : Jvm.MethodName) prog_11_method_1_code (3 : Nat) (Option.none : Option Jvm.ClassFile.FieldType)) ∈ lw_all := lw_g (lw_at lw_m9 208 rfl) rfl
theorem q2253 : (Jvm.Cond.methodLink "EdgeSums$Known" (1 : Nat) ({ cls := "java/lang/Object", name := "<init>", desc := "()V" } : Jvm.MethodName)) ∈ lw_all := lw_g (lw_at lw_m9 209 rfl) rfl
theorem q2254 : (Jvm.Cond.fieldLink "EdgeSums$Known" (7 : Nat) "EdgeSums$Known" "cell" "I") ∈ lw_all := lw_g (lw_at lw_m9 210 rfl) rfl
theorem q2257 : (Jvm.Cond.fieldLink "EdgeSums$Known" (13 : Nat) "EdgeSums$Known" "steps" "I") ∈ lw_all := lw_g (lw_at lw_m9 213 rfl) rfl
theorem q2259 : (Jvm.Cond.laysFinal "EdgeSums$Known" "EdgeSums$Known" "cell" "I") ∈ lw_all := lw_g (lw_at lw_m9 215 rfl) rfl
theorem q2260 : (Jvm.Cond.soleField "EdgeSums$Known" "cell") ∈ lw_all := lw_g (lw_at lw_m9 216 rfl) rfl
theorem q2261 : (Jvm.Cond.laysFinal "EdgeSums$Known" "EdgeSums$Known" "steps" "I") ∈ lw_all := lw_g (lw_at lw_m9 217 rfl) rfl
theorem q2262 : (Jvm.Cond.soleField "EdgeSums$Known" "steps") ∈ lw_all := lw_g (lw_at lw_m9 218 rfl) rfl
theorem q2263 : (Jvm.Cond.superclass "EdgeSums$Known" "java/lang/Object") ∈ lw_all := lw_g (lw_at lw_m9 219 rfl) rfl
theorem q3221 : (Jvm.Cond.castable "EdgeSums$Known" "java/lang/Object") ∈ lw_tbl := lw_at lw_m13 217 rfl
theorem in_X24 : ∀ w ∈ wsX240, w ∈ lw_all := lw_in wsX240 [2259, 2261] (by decide +kernel) (by decide +kernel)
/-! EdgeSums$Step -/
set_option maxRecDepth 100000
def RX25 : String := "EdgeSums$Step"
def TX25 : u_T := fun k => match k with
  | _ => ("EdgeSums$Step", "parts", "[I", true)
def tyX25 : Nat → FieldType := fun k => match k with
  | _ => .array .int
abbrev wsX250 : List Cond := u_ws RX25 TX25 1
theorem nmX25 : ∀ a, a < 1 → ∀ b, b < 1 → a ≠ b → (TX25 a).2.1 ≠ (TX25 b).2.1 := by decide +kernel
theorem tyX25_ok : ∀ k, k < 1 → parseFieldDescriptor (TX25 k).2.2.1 = some (tyX25 k) := by decide +kernel
abbrev cX25_init : ByteArray := prog_24_method_1_code
def yX25_init : MethodName := ⟨RX25, "<init>", "([I)V"⟩
def dkwX25_init_0 : List UInt8 := [42, 183, 0, 1, 42, 43, 181, 0, 7, 177]
abbrev dktX25_init_0 : List UInt8 := dkwX25_init_0 ++ []
theorem dksX25_init_0 : cX25_init.data.toList.drop 0 = dktX25_init_0 := by decide +kernel
theorem dX25_init_0 : decode cX25_init 0 = .ok (.aload_n 0, 1) := dk_42 (dk_at dksX25_init_0 0 rfl rfl)
theorem dX25_init_1 : decode cX25_init 1 = .ok (.invokespecial 1, 3) := dk_183 0 1 (dk_at dksX25_init_0 1 rfl rfl)
theorem dX25_init_4 : decode cX25_init 4 = .ok (.aload_n 0, 1) := dk_42 (dk_at dksX25_init_0 4 rfl rfl)
theorem dX25_init_5 : decode cX25_init 5 = .ok (.aload_n 1, 1) := dk_43 (dk_at dksX25_init_0 5 rfl rfl)
theorem dX25_init_6 : decode cX25_init 6 = .ok (.putfield 7, 3) := dk_181 0 7 (dk_at dksX25_init_0 6 rfl rfl)
theorem dX25_init_9 : decode cX25_init 9 = .ok (.return_, 1) := dk_177 (dk_at dksX25_init_0 9 rfl rfl)
abbrev cX25_rule : ByteArray := prog_24_method_2_code
def yX25_rule : MethodName := ⟨RX25, "rule", "()I"⟩
def dkwX25_rule_0 : List UInt8 := [42, 180, 0, 7, 3, 46, 172]
abbrev dktX25_rule_0 : List UInt8 := dkwX25_rule_0 ++ []
theorem dksX25_rule_0 : cX25_rule.data.toList.drop 0 = dktX25_rule_0 := by decide +kernel
theorem dX25_rule_0 : decode cX25_rule 0 = .ok (.aload_n 0, 1) := dk_42 (dk_at dksX25_rule_0 0 rfl rfl)
theorem dX25_rule_1 : decode cX25_rule 1 = .ok (.getfield 7, 3) := dk_180 0 7 (dk_at dksX25_rule_0 1 rfl rfl)
theorem dX25_rule_4 : decode cX25_rule 4 = .ok (.iconst 0, 1) := dk_3 (dk_at dksX25_rule_0 4 rfl rfl)
theorem dX25_rule_5 : decode cX25_rule 5 = .ok (.iaload, 1) := dk_46 (dk_at dksX25_rule_0 5 rfl rfl)
theorem dX25_rule_6 : decode cX25_rule 6 = .ok (.ireturn, 1) := dk_172 (dk_at dksX25_rule_0 6 rfl rfl)
theorem q178 : (Jvm.Cond.initialized "EdgeSums$Step") ∈ lw_all := lw_g (lw_at lw_m1 54 rfl) rfl
theorem q1106 : (Jvm.Cond.selects "EdgeSums$Step" ({ cls := "java/lang/Object", name := "getClass", desc := "()Ljava/lang/Class;" } : Jvm.MethodName) ({ cls := "java/lang/Object", name := "getClass", desc := "()Ljava/lang/Class;" } : Jvm.MethodName)) ∈ lw_all := lw_g (lw_at lw_m5 22 rfl) rfl
theorem q2273 : (Jvm.Cond.instantiable "EdgeSums$Step" (1 : Nat)) ∈ lw_all := lw_g (lw_at lw_m9 229 rfl) rfl
theorem q2275 : (Jvm.Cond.instanceMethod ({ cls := "EdgeSums$Step", name := "<init>", desc := "([I)V" } : Jvm.MethodName)) ∈ lw_all := lw_g (lw_at lw_m9 231 rfl) rfl
theorem q2276 : (Jvm.Cond.code ({ cls := "EdgeSums$Step", name := "<init>", desc := "([I)V" } : Jvm.MethodName) prog_24_method_1_code (2 : Nat) (Option.none : Option Jvm.ClassFile.FieldType)) ∈ lw_all := lw_g (lw_at lw_m9 232 rfl) rfl
theorem q2277 : (Jvm.Cond.methodLink "EdgeSums$Step" (1 : Nat) ({ cls := "java/lang/Object", name := "<init>", desc := "()V" } : Jvm.MethodName)) ∈ lw_all := lw_g (lw_at lw_m9 233 rfl) rfl
theorem q2278 : (Jvm.Cond.fieldLink "EdgeSums$Step" (7 : Nat) "EdgeSums$Step" "parts" "[I") ∈ lw_all := lw_g (lw_at lw_m9 234 rfl) rfl
theorem q2280 : (Jvm.Cond.laysFinal "EdgeSums$Step" "EdgeSums$Step" "parts" "[I") ∈ lw_all := lw_g (lw_at lw_m9 236 rfl) rfl
theorem q2281 : (Jvm.Cond.soleField "EdgeSums$Step" "parts") ∈ lw_all := lw_g (lw_at lw_m9 237 rfl) rfl
theorem q2282 : (Jvm.Cond.superclass "EdgeSums$Step" "java/lang/Object") ∈ lw_all := lw_g (lw_at lw_m9 238 rfl) rfl
theorem q2357 : (Jvm.Cond.instanceMethod ({ cls := "EdgeSums$Step", name := "rule", desc := "()I" } : Jvm.MethodName)) ∈ lw_all := lw_g (lw_at lw_m10 73 rfl) rfl
theorem q2358 : (Jvm.Cond.selects "EdgeSums$Step" ({ cls := "EdgeSums$Step", name := "rule", desc := "()I" } : Jvm.MethodName) ({ cls := "EdgeSums$Step", name := "rule", desc := "()I" } : Jvm.MethodName)) ∈ lw_all := lw_g (lw_at lw_m10 74 rfl) rfl
theorem q2359 : (Jvm.Cond.code ({ cls := "EdgeSums$Step", name := "rule", desc := "()I" } : Jvm.MethodName) prog_24_method_2_code (1 : Nat) (Option.some Jvm.ClassFile.FieldType.int)) ∈ lw_all := lw_g (lw_at lw_m10 75 rfl) rfl
theorem q3222 : (Jvm.Cond.castable "EdgeSums$Step" "java/lang/Object") ∈ lw_tbl := lw_at lw_m13 218 rfl
theorem in_X25 : ∀ w ∈ wsX250, w ∈ lw_all := lw_in wsX250 [2280] (by decide +kernel) (by decide +kernel)
/-! EdgeSums$ByMerit -/
set_option maxRecDepth 100000
def RX26 : String := "EdgeSums$ByMerit"
def TX26 : u_T := fun k => match k with
  | _ => ("EdgeSums$ByMerit", "this$0", "LEdgeSums;", true)
def tyX26 : Nat → FieldType := fun k => match k with
  | _ => .object "EdgeSums"
abbrev wsX260 : List Cond := u_ws RX26 TX26 1
theorem nmX26 : ∀ a, a < 1 → ∀ b, b < 1 → a ≠ b → (TX26 a).2.1 ≠ (TX26 b).2.1 := by decide +kernel
theorem tyX26_ok : ∀ k, k < 1 → parseFieldDescriptor (TX26 k).2.2.1 = some (tyX26 k) := by decide +kernel
abbrev cX26_compare : ByteArray := prog_5_method_3_code
def yX26_compare : MethodName := ⟨RX26, "compare", "(Ljava/lang/Object;Ljava/lang/Object;)I"⟩
def dkwX26_compare_0 : List UInt8 := [42, 43, 192, 0, 14, 44, 192, 0, 14, 182, 0, 38, 172]
abbrev dktX26_compare_0 : List UInt8 := dkwX26_compare_0 ++ []
theorem dksX26_compare_0 : cX26_compare.data.toList.drop 0 = dktX26_compare_0 := by decide +kernel
theorem dX26_compare_0 : decode cX26_compare 0 = .ok (.aload_n 0, 1) := dk_42 (dk_at dksX26_compare_0 0 rfl rfl)
theorem dX26_compare_1 : decode cX26_compare 1 = .ok (.aload_n 1, 1) := dk_43 (dk_at dksX26_compare_0 1 rfl rfl)
theorem dX26_compare_2 : decode cX26_compare 2 = .ok (.checkcast 14, 3) := dk_192 0 14 (dk_at dksX26_compare_0 2 rfl rfl)
theorem dX26_compare_5 : decode cX26_compare 5 = .ok (.aload_n 2, 1) := dk_44 (dk_at dksX26_compare_0 5 rfl rfl)
theorem dX26_compare_6 : decode cX26_compare 6 = .ok (.checkcast 14, 3) := dk_192 0 14 (dk_at dksX26_compare_0 6 rfl rfl)
theorem dX26_compare_9 : decode cX26_compare 9 = .ok (.invokevirtual 38, 3) := dk_182 0 38 (dk_at dksX26_compare_0 9 rfl rfl)
theorem dX26_compare_12 : decode cX26_compare 12 = .ok (.ireturn, 1) := dk_172 (dk_at dksX26_compare_0 12 rfl rfl)
abbrev cX26_compare_2 : ByteArray := prog_5_method_2_code
def yX26_compare_2 : MethodName := ⟨RX26, "compare", "(Ljava/lang/Integer;Ljava/lang/Integer;)I"⟩
def dkwX26_compare_2_3 : List UInt8 := [182, 0, 13, 44, 182, 0, 13, 184, 0, 23, 172]
abbrev dktX26_compare_2_3 : List UInt8 := dkwX26_compare_2_3 ++ []
def dkwX26_compare_2_2 : List UInt8 := [184, 0, 23, 54, 4, 29, 153, 0, 7, 29, 167, 0, 24, 21, 4, 153, 0, 8, 21, 4, 167, 0, 14, 43]
abbrev dktX26_compare_2_2 : List UInt8 := dkwX26_compare_2_2 ++ dktX26_compare_2_3
def dkwX26_compare_2_1 : List UInt8 := [182, 0, 27, 43, 182, 0, 13, 182, 0, 33, 42, 180, 0, 1, 182, 0, 27, 44, 182, 0, 13, 182, 0, 33]
abbrev dktX26_compare_2_1 : List UInt8 := dkwX26_compare_2_1 ++ dktX26_compare_2_2
def dkwX26_compare_2_0 : List UInt8 := [43, 182, 0, 13, 184, 0, 19, 44, 182, 0, 13, 184, 0, 19, 184, 0, 23, 62, 42, 180, 0, 1]
abbrev dktX26_compare_2_0 : List UInt8 := dkwX26_compare_2_0 ++ dktX26_compare_2_1
theorem dksX26_compare_2_0 : cX26_compare_2.data.toList.drop 0 = dktX26_compare_2_0 := by decide +kernel
theorem dksX26_compare_2_1 : cX26_compare_2.data.toList.drop 22 = dktX26_compare_2_1 := dk_seg dksX26_compare_2_0 22 rfl rfl
theorem dksX26_compare_2_2 : cX26_compare_2.data.toList.drop 46 = dktX26_compare_2_2 := dk_seg dksX26_compare_2_1 24 rfl rfl
theorem dksX26_compare_2_3 : cX26_compare_2.data.toList.drop 70 = dktX26_compare_2_3 := dk_seg dksX26_compare_2_2 24 rfl rfl
theorem dX26_compare_2_0 : decode cX26_compare_2 0 = .ok (.aload_n 1, 1) := dk_43 (dk_at dksX26_compare_2_0 0 rfl rfl)
theorem dX26_compare_2_1 : decode cX26_compare_2 1 = .ok (.invokevirtual 13, 3) := dk_182 0 13 (dk_at dksX26_compare_2_0 1 rfl rfl)
theorem dX26_compare_2_4 : decode cX26_compare_2 4 = .ok (.invokestatic 19, 3) := dk_184 0 19 (dk_at dksX26_compare_2_0 4 rfl rfl)
theorem dX26_compare_2_7 : decode cX26_compare_2 7 = .ok (.aload_n 2, 1) := dk_44 (dk_at dksX26_compare_2_0 7 rfl rfl)
theorem dX26_compare_2_8 : decode cX26_compare_2 8 = .ok (.invokevirtual 13, 3) := dk_182 0 13 (dk_at dksX26_compare_2_0 8 rfl rfl)
theorem dX26_compare_2_11 : decode cX26_compare_2 11 = .ok (.invokestatic 19, 3) := dk_184 0 19 (dk_at dksX26_compare_2_0 11 rfl rfl)
theorem dX26_compare_2_14 : decode cX26_compare_2 14 = .ok (.invokestatic 23, 3) := dk_184 0 23 (dk_at dksX26_compare_2_0 14 rfl rfl)
theorem dX26_compare_2_17 : decode cX26_compare_2 17 = .ok (.istore_n 3, 1) := dk_62 (dk_at dksX26_compare_2_0 17 rfl rfl)
theorem dX26_compare_2_18 : decode cX26_compare_2 18 = .ok (.aload_n 0, 1) := dk_42 (dk_at dksX26_compare_2_0 18 rfl rfl)
theorem dX26_compare_2_19 : decode cX26_compare_2 19 = .ok (.getfield 1, 3) := dk_180 0 1 (dk_at dksX26_compare_2_0 19 rfl rfl)
theorem dX26_compare_2_22 : decode cX26_compare_2 22 = .ok (.invokevirtual 27, 3) := dk_182 0 27 (dk_at dksX26_compare_2_1 0 rfl rfl)
theorem dX26_compare_2_25 : decode cX26_compare_2 25 = .ok (.aload_n 1, 1) := dk_43 (dk_at dksX26_compare_2_1 3 rfl rfl)
theorem dX26_compare_2_26 : decode cX26_compare_2 26 = .ok (.invokevirtual 13, 3) := dk_182 0 13 (dk_at dksX26_compare_2_1 4 rfl rfl)
theorem dX26_compare_2_29 : decode cX26_compare_2 29 = .ok (.invokevirtual 33, 3) := dk_182 0 33 (dk_at dksX26_compare_2_1 7 rfl rfl)
theorem dX26_compare_2_32 : decode cX26_compare_2 32 = .ok (.aload_n 0, 1) := dk_42 (dk_at dksX26_compare_2_1 10 rfl rfl)
theorem dX26_compare_2_33 : decode cX26_compare_2 33 = .ok (.getfield 1, 3) := dk_180 0 1 (dk_at dksX26_compare_2_1 11 rfl rfl)
theorem dX26_compare_2_36 : decode cX26_compare_2 36 = .ok (.invokevirtual 27, 3) := dk_182 0 27 (dk_at dksX26_compare_2_1 14 rfl rfl)
theorem dX26_compare_2_39 : decode cX26_compare_2 39 = .ok (.aload_n 2, 1) := dk_44 (dk_at dksX26_compare_2_1 17 rfl rfl)
theorem dX26_compare_2_40 : decode cX26_compare_2 40 = .ok (.invokevirtual 13, 3) := dk_182 0 13 (dk_at dksX26_compare_2_1 18 rfl rfl)
theorem dX26_compare_2_43 : decode cX26_compare_2 43 = .ok (.invokevirtual 33, 3) := dk_182 0 33 (dk_at dksX26_compare_2_1 21 rfl rfl)
theorem dX26_compare_2_46 : decode cX26_compare_2 46 = .ok (.invokestatic 23, 3) := dk_184 0 23 (dk_at dksX26_compare_2_2 0 rfl rfl)
theorem dX26_compare_2_49 : decode cX26_compare_2 49 = .ok (.istore 4, 2) := dk_54 4 (dk_at dksX26_compare_2_2 3 rfl rfl)
theorem dX26_compare_2_51 : decode cX26_compare_2 51 = .ok (.iload_n 3, 1) := dk_29 (dk_at dksX26_compare_2_2 5 rfl rfl)
theorem dX26_compare_2_52 : decode cX26_compare_2 52 = .ok (.ifCond .eq 7, 3) := dk_153 0 7 (dk_at dksX26_compare_2_2 6 rfl rfl)
theorem dX26_compare_2_55 : decode cX26_compare_2 55 = .ok (.iload_n 3, 1) := dk_29 (dk_at dksX26_compare_2_2 9 rfl rfl)
theorem dX26_compare_2_56 : decode cX26_compare_2 56 = .ok (.goto 24, 3) := dk_167 0 24 (dk_at dksX26_compare_2_2 10 rfl rfl)
theorem dX26_compare_2_59 : decode cX26_compare_2 59 = .ok (.iload 4, 2) := dk_21 4 (dk_at dksX26_compare_2_2 13 rfl rfl)
theorem dX26_compare_2_61 : decode cX26_compare_2 61 = .ok (.ifCond .eq 8, 3) := dk_153 0 8 (dk_at dksX26_compare_2_2 15 rfl rfl)
theorem dX26_compare_2_64 : decode cX26_compare_2 64 = .ok (.iload 4, 2) := dk_21 4 (dk_at dksX26_compare_2_2 18 rfl rfl)
theorem dX26_compare_2_66 : decode cX26_compare_2 66 = .ok (.goto 14, 3) := dk_167 0 14 (dk_at dksX26_compare_2_2 20 rfl rfl)
theorem dX26_compare_2_69 : decode cX26_compare_2 69 = .ok (.aload_n 1, 1) := dk_43 (dk_at dksX26_compare_2_2 23 rfl rfl)
theorem dX26_compare_2_70 : decode cX26_compare_2 70 = .ok (.invokevirtual 13, 3) := dk_182 0 13 (dk_at dksX26_compare_2_3 0 rfl rfl)
theorem dX26_compare_2_73 : decode cX26_compare_2 73 = .ok (.aload_n 2, 1) := dk_44 (dk_at dksX26_compare_2_3 3 rfl rfl)
theorem dX26_compare_2_74 : decode cX26_compare_2 74 = .ok (.invokevirtual 13, 3) := dk_182 0 13 (dk_at dksX26_compare_2_3 4 rfl rfl)
theorem dX26_compare_2_77 : decode cX26_compare_2 77 = .ok (.invokestatic 23, 3) := dk_184 0 23 (dk_at dksX26_compare_2_3 7 rfl rfl)
theorem dX26_compare_2_80 : decode cX26_compare_2 80 = .ok (.ireturn, 1) := dk_172 (dk_at dksX26_compare_2_3 10 rfl rfl)
abbrev cX26_init : ByteArray := prog_5_method_1_code
def yX26_init : MethodName := ⟨RX26, "<init>", "(LEdgeSums;)V"⟩
def dkwX26_init_0 : List UInt8 := [42, 43, 181, 0, 1, 42, 183, 0, 7, 177]
abbrev dktX26_init_0 : List UInt8 := dkwX26_init_0 ++ []
theorem dksX26_init_0 : cX26_init.data.toList.drop 0 = dktX26_init_0 := by decide +kernel
theorem dX26_init_0 : decode cX26_init 0 = .ok (.aload_n 0, 1) := dk_42 (dk_at dksX26_init_0 0 rfl rfl)
theorem dX26_init_1 : decode cX26_init 1 = .ok (.aload_n 1, 1) := dk_43 (dk_at dksX26_init_0 1 rfl rfl)
theorem dX26_init_2 : decode cX26_init 2 = .ok (.putfield 1, 3) := dk_181 0 1 (dk_at dksX26_init_0 2 rfl rfl)
theorem dX26_init_5 : decode cX26_init 5 = .ok (.aload_n 0, 1) := dk_42 (dk_at dksX26_init_0 5 rfl rfl)
theorem dX26_init_6 : decode cX26_init 6 = .ok (.invokespecial 7, 3) := dk_183 0 7 (dk_at dksX26_init_0 6 rfl rfl)
theorem dX26_init_9 : decode cX26_init 9 = .ok (.return_, 1) := dk_177 (dk_at dksX26_init_0 9 rfl rfl)
theorem q180 : (Jvm.Cond.initialized "EdgeSums$ByMerit") ∈ lw_all := lw_g (lw_at lw_m1 56 rfl) rfl
theorem q294 : (Jvm.Cond.castable "EdgeSums$ByMerit" "java/util/Comparator") ∈ lw_tbl := lw_at lw_m1 170 rfl
theorem q295 : (Jvm.Cond.selects "EdgeSums$ByMerit" ({ cls := "java/util/Comparator", name := "compare", desc := "(Ljava/lang/Object;Ljava/lang/Object;)I" } : Jvm.MethodName) ({ cls := "EdgeSums$ByMerit", name := "compare", desc := "(Ljava/lang/Object;Ljava/lang/Object;)I" } : Jvm.MethodName)) ∈ lw_all := lw_g (lw_at lw_m1 171 rfl) rfl
theorem q296 : (Jvm.Cond.unhidden "EdgeSums$ByMerit" "compare" "(Ljava/lang/Object;Ljava/lang/Object;)I") ∈ lw_tbl := lw_at lw_m1 172 rfl
theorem q297 : (Jvm.Cond.instanceMethod ({ cls := "EdgeSums$ByMerit", name := "compare", desc := "(Ljava/lang/Object;Ljava/lang/Object;)I" } : Jvm.MethodName)) ∈ lw_all := lw_g (lw_at lw_m1 173 rfl) rfl
theorem q298 : (Jvm.Cond.publicMethod ({ cls := "EdgeSums$ByMerit", name := "compare", desc := "(Ljava/lang/Object;Ljava/lang/Object;)I" } : Jvm.MethodName)) ∈ lw_tbl := lw_at lw_m1 174 rfl
theorem q299 : (Jvm.Cond.code ({ cls := "EdgeSums$ByMerit", name := "compare", desc := "(Ljava/lang/Object;Ljava/lang/Object;)I" } : Jvm.MethodName) prog_5_method_3_code (3 : Nat) (Option.some Jvm.ClassFile.FieldType.int)) ∈ lw_all := lw_g (lw_at lw_m1 175 rfl) rfl
theorem q300 : (Jvm.Cond.classLink "EdgeSums$ByMerit" (14 : Nat) "java/lang/Integer") ∈ lw_all := lw_g (lw_at lw_m1 176 rfl) rfl
theorem q301 : (Jvm.Cond.methodLink "EdgeSums$ByMerit" (38 : Nat) ({ cls := "EdgeSums$ByMerit", name := "compare", desc := "(Ljava/lang/Integer;Ljava/lang/Integer;)I" } : Jvm.MethodName)) ∈ lw_all := lw_g (lw_at lw_m1 177 rfl) rfl
theorem q302 : (Jvm.Cond.instanceMethod ({ cls := "EdgeSums$ByMerit", name := "compare", desc := "(Ljava/lang/Integer;Ljava/lang/Integer;)I" } : Jvm.MethodName)) ∈ lw_all := lw_g (lw_at lw_m1 178 rfl) rfl
theorem q303 : (Jvm.Cond.selects "EdgeSums$ByMerit" ({ cls := "EdgeSums$ByMerit", name := "compare", desc := "(Ljava/lang/Integer;Ljava/lang/Integer;)I" } : Jvm.MethodName) ({ cls := "EdgeSums$ByMerit", name := "compare", desc := "(Ljava/lang/Integer;Ljava/lang/Integer;)I" } : Jvm.MethodName)) ∈ lw_all := lw_g (lw_at lw_m1 179 rfl) rfl
theorem q304 : (Jvm.Cond.code ({ cls := "EdgeSums$ByMerit", name := "compare", desc := "(Ljava/lang/Integer;Ljava/lang/Integer;)I" } : Jvm.MethodName) prog_5_method_2_code (5 : Nat) (Option.some Jvm.ClassFile.FieldType.int)) ∈ lw_all := lw_g (lw_at lw_m1 180 rfl) rfl
theorem q305 : (Jvm.Cond.methodLink "EdgeSums$ByMerit" (13 : Nat) ({ cls := "java/lang/Integer", name := "intValue", desc := "()I" } : Jvm.MethodName)) ∈ lw_all := lw_g (lw_at lw_m1 181 rfl) rfl
theorem q309 : (Jvm.Cond.methodLink "EdgeSums$ByMerit" (19 : Nat) ({ cls := "java/lang/Integer", name := "bitCount", desc := "(I)I" } : Jvm.MethodName)) ∈ lw_all := lw_g (lw_at lw_m1 185 rfl) rfl
theorem q315 : (Jvm.Cond.methodLink "EdgeSums$ByMerit" (23 : Nat) ({ cls := "java/lang/Integer", name := "compare", desc := "(II)I" } : Jvm.MethodName)) ∈ lw_all := lw_g (lw_at lw_m1 191 rfl) rfl
theorem q316 : (Jvm.Cond.methodLinkNest "EdgeSums$ByMerit" (27 : Nat) ({ cls := "EdgeSums", name := "sheet", desc := "()LEdgeSums$Sheet;" } : Jvm.MethodName) "EdgeSums") ∈ lw_tbl := lw_at lw_m1 192 rfl
theorem q320 : (Jvm.Cond.methodLink "EdgeSums$ByMerit" (33 : Nat) ({ cls := "EdgeSums$Sheet", name := "cost", desc := "(I)I" } : Jvm.MethodName)) ∈ lw_all := lw_g (lw_at lw_m1 196 rfl) rfl
theorem q1090 : (Jvm.Cond.selects "EdgeSums$ByMerit" ({ cls := "java/lang/Object", name := "getClass", desc := "()Ljava/lang/Class;" } : Jvm.MethodName) ({ cls := "java/lang/Object", name := "getClass", desc := "()Ljava/lang/Class;" } : Jvm.MethodName)) ∈ lw_all := lw_g (lw_at lw_m5 6 rfl) rfl
theorem q2463 : (Jvm.Cond.instantiable "EdgeSums$ByMerit" (1 : Nat)) ∈ lw_all := lw_g (lw_at lw_m10 179 rfl) rfl
theorem q2465 : (Jvm.Cond.instanceMethod ({ cls := "EdgeSums$ByMerit", name := "<init>", desc := "(LEdgeSums;)V" } : Jvm.MethodName)) ∈ lw_all := lw_g (lw_at lw_m10 181 rfl) rfl
theorem q2466 : (Jvm.Cond.code ({ cls := "EdgeSums$ByMerit", name := "<init>", desc := "(LEdgeSums;)V" } : Jvm.MethodName) prog_5_method_1_code (2 : Nat) (Option.none : Option Jvm.ClassFile.FieldType)) ∈ lw_all := lw_g (lw_at lw_m10 182 rfl) rfl
theorem q2467 : (Jvm.Cond.methodLink "EdgeSums$ByMerit" (7 : Nat) ({ cls := "java/lang/Object", name := "<init>", desc := "()V" } : Jvm.MethodName)) ∈ lw_all := lw_g (lw_at lw_m10 183 rfl) rfl
theorem q2468 : (Jvm.Cond.fieldLink "EdgeSums$ByMerit" (1 : Nat) "EdgeSums$ByMerit" "this$0" "LEdgeSums;") ∈ lw_all := lw_g (lw_at lw_m10 184 rfl) rfl
theorem q2469 : (Jvm.Cond.laysFinal "EdgeSums$ByMerit" "EdgeSums$ByMerit" "this$0" "LEdgeSums;") ∈ lw_all := lw_g (lw_at lw_m10 185 rfl) rfl
theorem q2470 : (Jvm.Cond.soleField "EdgeSums$ByMerit" "this$0") ∈ lw_all := lw_g (lw_at lw_m10 186 rfl) rfl
theorem q2471 : (Jvm.Cond.superclass "EdgeSums$ByMerit" "java/lang/Object") ∈ lw_all := lw_g (lw_at lw_m10 187 rfl) rfl
theorem q3224 : (Jvm.Cond.castable "EdgeSums$ByMerit" "java/lang/Object") ∈ lw_tbl := lw_at lw_m13 220 rfl
theorem in_X26 : ∀ w ∈ wsX260, w ∈ lw_all := lw_in wsX260 [2469] (by decide +kernel) (by decide +kernel)
