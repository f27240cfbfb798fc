/-! java/util/AbstractMap -/
set_option maxRecDepth 100000
def RJ0 : String := "java/util/AbstractMap"
abbrev cJ0_init : ByteArray := prog_53_method_1_code
def yJ0_init : MethodName := ⟨RJ0, "<init>", "()V"⟩
theorem dJ0_init_0 : decode cJ0_init 0 = .ok (.aload_n 0, 1) := by decide +kernel
theorem dJ0_init_1 : decode cJ0_init 1 = .ok (.invokespecial 1, 3) := by decide +kernel
theorem dJ0_init_4 : decode cJ0_init 4 = .ok (.return_, 1) := by decide +kernel
abbrev cJ0_isEmpty : ByteArray := prog_53_method_3_code
def yJ0_isEmpty : MethodName := ⟨RJ0, "isEmpty", "()Z"⟩
def dkwJ0_isEmpty_0 : List UInt8 := [42, 182, 0, 19, 154, 0, 7, 4, 167, 0, 4, 3, 172]
abbrev dktJ0_isEmpty_0 : List UInt8 := dkwJ0_isEmpty_0 ++ []
theorem dksJ0_isEmpty_0 : cJ0_isEmpty.data.toList.drop 0 = dktJ0_isEmpty_0 := by decide +kernel
theorem dJ0_isEmpty_0 : decode cJ0_isEmpty 0 = .ok (.aload_n 0, 1) := dk_42 (dk_at dksJ0_isEmpty_0 0 rfl rfl)
theorem dJ0_isEmpty_1 : decode cJ0_isEmpty 1 = .ok (.invokevirtual 19, 3) := dk_182 0 19 (dk_at dksJ0_isEmpty_0 1 rfl rfl)
theorem dJ0_isEmpty_4 : decode cJ0_isEmpty 4 = .ok (.ifCond .ne 7, 3) := dk_154 0 7 (dk_at dksJ0_isEmpty_0 4 rfl rfl)
theorem dJ0_isEmpty_7 : decode cJ0_isEmpty 7 = .ok (.iconst 1, 1) := dk_4 (dk_at dksJ0_isEmpty_0 7 rfl rfl)
theorem dJ0_isEmpty_8 : decode cJ0_isEmpty 8 = .ok (.goto 4, 3) := dk_167 0 4 (dk_at dksJ0_isEmpty_0 8 rfl rfl)
theorem dJ0_isEmpty_11 : decode cJ0_isEmpty 11 = .ok (.iconst 0, 1) := dk_3 (dk_at dksJ0_isEmpty_0 11 rfl rfl)
theorem dJ0_isEmpty_12 : decode cJ0_isEmpty 12 = .ok (.ireturn, 1) := dk_172 (dk_at dksJ0_isEmpty_0 12 rfl rfl)
theorem q129 : (Jvm.Cond.initialized "java/util/AbstractMap") ∈ lw_all := lw_g (lw_at lw_m1 5 rfl) rfl
theorem q215 : (Jvm.Cond.instanceMethod ({ cls := "java/util/AbstractMap", name := "<init>", desc := "()V" } : Jvm.MethodName)) ∈ lw_all := lw_g (lw_at lw_m1 91 rfl) rfl
theorem q216 : (Jvm.Cond.code ({ cls := "java/util/AbstractMap", name := "<init>", desc := "()V" } : Jvm.MethodName) prog_53_method_1_code (1 : Nat) (Option.none : Option Jvm.ClassFile.FieldType)) ∈ lw_all := lw_g (lw_at lw_m1 92 rfl) rfl
theorem q217 : (Jvm.Cond.methodLink "java/util/AbstractMap" (1 : Nat) ({ cls := "java/lang/Object", name := "<init>", desc := "()V" } : Jvm.MethodName)) ∈ lw_all := lw_g (lw_at lw_m1 93 rfl) rfl
theorem q238 : (Jvm.Cond.soleField "java/util/AbstractMap" "keySet") ∈ lw_all := lw_g (lw_at lw_m1 114 rfl) rfl
theorem q240 : (Jvm.Cond.soleField "java/util/AbstractMap" "values") ∈ lw_all := lw_g (lw_at lw_m1 116 rfl) rfl
theorem q2477 : (Jvm.Cond.declares ({ cls := "java/util/AbstractMap", name := "isEmpty", desc := "()Z" } : Jvm.MethodName)) ∈ lw_tbl := lw_at lw_m10 193 rfl
theorem q2479 : (Jvm.Cond.instanceMethod ({ cls := "java/util/AbstractMap", name := "isEmpty", desc := "()Z" } : Jvm.MethodName)) ∈ lw_all := lw_g (lw_at lw_m10 195 rfl) rfl
theorem q2480 : (Jvm.Cond.code ({ cls := "java/util/AbstractMap", name := "isEmpty", desc := "()Z" } : Jvm.MethodName) prog_53_method_3_code (1 : Nat) (Option.some Jvm.ClassFile.FieldType.boolean)) ∈ lw_all := lw_g (lw_at lw_m10 196 rfl) rfl
theorem q2481 : (Jvm.Cond.methodLink "java/util/AbstractMap" (19 : Nat) ({ cls := "java/util/AbstractMap", name := "size", desc := "()I" } : Jvm.MethodName)) ∈ lw_all := lw_g (lw_at lw_m10 197 rfl) rfl
theorem q2482 : (Jvm.Cond.instanceMethod ({ cls := "java/util/AbstractMap", name := "size", desc := "()I" } : Jvm.MethodName)) ∈ lw_all := lw_g (lw_at lw_m10 198 rfl) rfl
theorem q2483 : (Jvm.Cond.sameMethod "java/util/AbstractMap" "java/util/AbstractMap" "size" "()I") ∈ lw_all := lw_g (lw_at lw_m10 199 rfl) rfl
theorem q2485 : (Jvm.Cond.declares ({ cls := "java/util/AbstractMap", name := "size", desc := "()I" } : Jvm.MethodName)) ∈ lw_tbl := lw_at lw_m10 201 rfl
/-! java/util/TreeMap -/
set_option maxRecDepth 100000
def RJ1 : String := "java/util/TreeMap"
def TJ1 : u_T := fun k => match k with
  | 0 => ("java/util/AbstractMap", "keySet", "Ljava/util/Set;", false)
  | 1 => ("java/util/AbstractMap", "values", "Ljava/util/Collection;", false)
  | 2 => ("java/util/TreeMap", "comparator", "Ljava/util/Comparator;", true)
  | 3 => ("java/util/TreeMap", "root", "Ljava/util/TreeMap$Entry;", false)
  | 4 => ("java/util/TreeMap", "size", "I", false)
  | 5 => ("java/util/TreeMap", "modCount", "I", false)
  | 6 => ("java/util/TreeMap", "entrySet", "Ljava/util/TreeMap$EntrySet;", false)
  | 7 => ("java/util/TreeMap", "navigableKeySet", "Ljava/util/TreeMap$KeySet;", false)
  | _ => ("java/util/TreeMap", "descendingMap", "Ljava/util/NavigableMap;", false)
def tyJ1 : Nat → FieldType := fun k => match k with
  | 0 => .object "java/util/Set"
  | 1 => .object "java/util/Collection"
  | 2 => .object "java/util/Comparator"
  | 3 => .object "java/util/TreeMap$Entry"
  | 4 => .int
  | 5 => .int
  | 6 => .object "java/util/TreeMap$EntrySet"
  | 7 => .object "java/util/TreeMap$KeySet"
  | _ => .object "java/util/NavigableMap"
abbrev wsJ10 : List Cond := u_ws RJ1 TJ1 9
theorem nmJ1 : ∀ a, a < 9 → ∀ b, b < 9 → a ≠ b → (TJ1 a).2.1 ≠ (TJ1 b).2.1 := by decide +kernel
theorem tyJ1_ok : ∀ k, k < 9 → parseFieldDescriptor (TJ1 k).2.2.1 = some (tyJ1 k) := by decide +kernel
abbrev cJ1_init : ByteArray := prog_76_method_1_code
def yJ1_init : MethodName := ⟨RJ1, "<init>", "()V"⟩
def dkwJ1_init_0 : List UInt8 := [42, 183, 0, 1, 42, 3, 181, 0, 7, 42, 3, 181, 0, 13, 42, 1, 181, 0, 16, 177]
abbrev dktJ1_init_0 : List UInt8 := dkwJ1_init_0 ++ []
theorem dksJ1_init_0 : cJ1_init.data.toList.drop 0 = dktJ1_init_0 := by decide +kernel
theorem dJ1_init_0 : decode cJ1_init 0 = .ok (.aload_n 0, 1) := dk_42 (dk_at dksJ1_init_0 0 rfl rfl)
theorem dJ1_init_1 : decode cJ1_init 1 = .ok (.invokespecial 1, 3) := dk_183 0 1 (dk_at dksJ1_init_0 1 rfl rfl)
theorem dJ1_init_4 : decode cJ1_init 4 = .ok (.aload_n 0, 1) := dk_42 (dk_at dksJ1_init_0 4 rfl rfl)
theorem dJ1_init_5 : decode cJ1_init 5 = .ok (.iconst 0, 1) := dk_3 (dk_at dksJ1_init_0 5 rfl rfl)
theorem dJ1_init_6 : decode cJ1_init 6 = .ok (.putfield 7, 3) := dk_181 0 7 (dk_at dksJ1_init_0 6 rfl rfl)
theorem dJ1_init_9 : decode cJ1_init 9 = .ok (.aload_n 0, 1) := dk_42 (dk_at dksJ1_init_0 9 rfl rfl)
theorem dJ1_init_10 : decode cJ1_init 10 = .ok (.iconst 0, 1) := dk_3 (dk_at dksJ1_init_0 10 rfl rfl)
theorem dJ1_init_11 : decode cJ1_init 11 = .ok (.putfield 13, 3) := dk_181 0 13 (dk_at dksJ1_init_0 11 rfl rfl)
theorem dJ1_init_14 : decode cJ1_init 14 = .ok (.aload_n 0, 1) := dk_42 (dk_at dksJ1_init_0 14 rfl rfl)
theorem dJ1_init_15 : decode cJ1_init 15 = .ok (.aconst_null, 1) := dk_1 (dk_at dksJ1_init_0 15 rfl rfl)
theorem dJ1_init_16 : decode cJ1_init 16 = .ok (.putfield 16, 3) := dk_181 0 16 (dk_at dksJ1_init_0 16 rfl rfl)
theorem dJ1_init_19 : decode cJ1_init 19 = .ok (.return_, 1) := dk_177 (dk_at dksJ1_init_0 19 rfl rfl)
abbrev cJ1_containsKey : ByteArray := prog_76_method_6_code
def yJ1_containsKey : MethodName := ⟨RJ1, "containsKey", "(Ljava/lang/Object;)Z"⟩
def dkwJ1_containsKey_0 : List UInt8 := [42, 43, 182, 0, 50, 198, 0, 7, 4, 167, 0, 4, 3, 172]
abbrev dktJ1_containsKey_0 : List UInt8 := dkwJ1_containsKey_0 ++ []
theorem dksJ1_containsKey_0 : cJ1_containsKey.data.toList.drop 0 = dktJ1_containsKey_0 := by decide +kernel
theorem dJ1_containsKey_0 : decode cJ1_containsKey 0 = .ok (.aload_n 0, 1) := dk_42 (dk_at dksJ1_containsKey_0 0 rfl rfl)
theorem dJ1_containsKey_1 : decode cJ1_containsKey 1 = .ok (.aload_n 1, 1) := dk_43 (dk_at dksJ1_containsKey_0 1 rfl rfl)
theorem dJ1_containsKey_2 : decode cJ1_containsKey 2 = .ok (.invokevirtual 50, 3) := dk_182 0 50 (dk_at dksJ1_containsKey_0 2 rfl rfl)
theorem dJ1_containsKey_5 : decode cJ1_containsKey 5 = .ok (.ifnull 7, 3) := dk_198 0 7 (dk_at dksJ1_containsKey_0 5 rfl rfl)
theorem dJ1_containsKey_8 : decode cJ1_containsKey 8 = .ok (.iconst 1, 1) := dk_4 (dk_at dksJ1_containsKey_0 8 rfl rfl)
theorem dJ1_containsKey_9 : decode cJ1_containsKey 9 = .ok (.goto 4, 3) := dk_167 0 4 (dk_at dksJ1_containsKey_0 9 rfl rfl)
theorem dJ1_containsKey_12 : decode cJ1_containsKey 12 = .ok (.iconst 0, 1) := dk_3 (dk_at dksJ1_containsKey_0 12 rfl rfl)
theorem dJ1_containsKey_13 : decode cJ1_containsKey 13 = .ok (.ireturn, 1) := dk_172 (dk_at dksJ1_containsKey_0 13 rfl rfl)
abbrev cJ1_getEntry : ByteArray := prog_76_method_15_code
def yJ1_getEntry : MethodName := ⟨RJ1, "getEntry", "(Ljava/lang/Object;)Ljava/util/TreeMap$Entry;"⟩
def dkwJ1_getEntry_3 : List UInt8 := [45, 176, 167, 255, 212, 1, 176]
abbrev dktJ1_getEntry_3 : List UInt8 := dkwJ1_getEntry_3 ++ []
def dkwJ1_getEntry_2 : List UInt8 := [156, 0, 11, 45, 180, 0, 111, 78, 167, 0, 18, 21, 4, 158, 0, 11, 45, 180, 0, 114, 78, 167, 0, 5]
abbrev dktJ1_getEntry_2 : List UInt8 := dkwJ1_getEntry_2 ++ dktJ1_getEntry_3
def dkwJ1_getEntry_1 : List UInt8 := [180, 0, 101, 78, 45, 198, 0, 46, 44, 45, 180, 0, 105, 185, 0, 107, 2, 0, 54, 4, 21, 4]
abbrev dktJ1_getEntry_1 : List UInt8 := dkwJ1_getEntry_1 ++ dktJ1_getEntry_2
def dkwJ1_getEntry_0 : List UInt8 := [42, 180, 0, 16, 198, 0, 9, 42, 43, 182, 0, 92, 176, 43, 184, 0, 95, 87, 43, 192, 0, 99, 77, 42]
abbrev dktJ1_getEntry_0 : List UInt8 := dkwJ1_getEntry_0 ++ dktJ1_getEntry_1
theorem dksJ1_getEntry_0 : cJ1_getEntry.data.toList.drop 0 = dktJ1_getEntry_0 := by decide +kernel
theorem dksJ1_getEntry_1 : cJ1_getEntry.data.toList.drop 24 = dktJ1_getEntry_1 := dk_seg dksJ1_getEntry_0 24 rfl rfl
theorem dksJ1_getEntry_2 : cJ1_getEntry.data.toList.drop 46 = dktJ1_getEntry_2 := dk_seg dksJ1_getEntry_1 22 rfl rfl
theorem dksJ1_getEntry_3 : cJ1_getEntry.data.toList.drop 70 = dktJ1_getEntry_3 := dk_seg dksJ1_getEntry_2 24 rfl rfl
theorem dJ1_getEntry_0 : decode cJ1_getEntry 0 = .ok (.aload_n 0, 1) := dk_42 (dk_at dksJ1_getEntry_0 0 rfl rfl)
theorem dJ1_getEntry_1 : decode cJ1_getEntry 1 = .ok (.getfield 16, 3) := dk_180 0 16 (dk_at dksJ1_getEntry_0 1 rfl rfl)
theorem dJ1_getEntry_4 : decode cJ1_getEntry 4 = .ok (.ifnull 9, 3) := dk_198 0 9 (dk_at dksJ1_getEntry_0 4 rfl rfl)
theorem dJ1_getEntry_7 : decode cJ1_getEntry 7 = .ok (.aload_n 0, 1) := dk_42 (dk_at dksJ1_getEntry_0 7 rfl rfl)
theorem dJ1_getEntry_8 : decode cJ1_getEntry 8 = .ok (.aload_n 1, 1) := dk_43 (dk_at dksJ1_getEntry_0 8 rfl rfl)
theorem dJ1_getEntry_9 : decode cJ1_getEntry 9 = .ok (.invokevirtual 92, 3) := dk_182 0 92 (dk_at dksJ1_getEntry_0 9 rfl rfl)
theorem dJ1_getEntry_12 : decode cJ1_getEntry 12 = .ok (.areturn, 1) := dk_176 (dk_at dksJ1_getEntry_0 12 rfl rfl)
theorem dJ1_getEntry_13 : decode cJ1_getEntry 13 = .ok (.aload_n 1, 1) := dk_43 (dk_at dksJ1_getEntry_0 13 rfl rfl)
theorem dJ1_getEntry_14 : decode cJ1_getEntry 14 = .ok (.invokestatic 95, 3) := dk_184 0 95 (dk_at dksJ1_getEntry_0 14 rfl rfl)
theorem dJ1_getEntry_17 : decode cJ1_getEntry 17 = .ok (.pop, 1) := dk_87 (dk_at dksJ1_getEntry_0 17 rfl rfl)
theorem dJ1_getEntry_18 : decode cJ1_getEntry 18 = .ok (.aload_n 1, 1) := dk_43 (dk_at dksJ1_getEntry_0 18 rfl rfl)
theorem dJ1_getEntry_19 : decode cJ1_getEntry 19 = .ok (.checkcast 99, 3) := dk_192 0 99 (dk_at dksJ1_getEntry_0 19 rfl rfl)
theorem dJ1_getEntry_22 : decode cJ1_getEntry 22 = .ok (.astore_n 2, 1) := dk_77 (dk_at dksJ1_getEntry_0 22 rfl rfl)
theorem dJ1_getEntry_23 : decode cJ1_getEntry 23 = .ok (.aload_n 0, 1) := dk_42 (dk_at dksJ1_getEntry_0 23 rfl rfl)
theorem dJ1_getEntry_24 : decode cJ1_getEntry 24 = .ok (.getfield 101, 3) := dk_180 0 101 (dk_at dksJ1_getEntry_1 0 rfl rfl)
theorem dJ1_getEntry_27 : decode cJ1_getEntry 27 = .ok (.astore_n 3, 1) := dk_78 (dk_at dksJ1_getEntry_1 3 rfl rfl)
theorem dJ1_getEntry_28 : decode cJ1_getEntry 28 = .ok (.aload_n 3, 1) := dk_45 (dk_at dksJ1_getEntry_1 4 rfl rfl)
theorem dJ1_getEntry_29 : decode cJ1_getEntry 29 = .ok (.ifnull 46, 3) := dk_198 0 46 (dk_at dksJ1_getEntry_1 5 rfl rfl)
theorem dJ1_getEntry_32 : decode cJ1_getEntry 32 = .ok (.aload_n 2, 1) := dk_44 (dk_at dksJ1_getEntry_1 8 rfl rfl)
theorem dJ1_getEntry_33 : decode cJ1_getEntry 33 = .ok (.aload_n 3, 1) := dk_45 (dk_at dksJ1_getEntry_1 9 rfl rfl)
theorem dJ1_getEntry_34 : decode cJ1_getEntry 34 = .ok (.getfield 105, 3) := dk_180 0 105 (dk_at dksJ1_getEntry_1 10 rfl rfl)
theorem dJ1_getEntry_37 : decode cJ1_getEntry 37 = .ok (.invokeinterface 107 2, 5) := by decide +kernel
theorem dJ1_getEntry_42 : decode cJ1_getEntry 42 = .ok (.istore 4, 2) := dk_54 4 (dk_at dksJ1_getEntry_1 18 rfl rfl)
theorem dJ1_getEntry_44 : decode cJ1_getEntry 44 = .ok (.iload 4, 2) := dk_21 4 (dk_at dksJ1_getEntry_1 20 rfl rfl)
theorem dJ1_getEntry_46 : decode cJ1_getEntry 46 = .ok (.ifCond .ge 11, 3) := dk_156 0 11 (dk_at dksJ1_getEntry_2 0 rfl rfl)
theorem dJ1_getEntry_49 : decode cJ1_getEntry 49 = .ok (.aload_n 3, 1) := dk_45 (dk_at dksJ1_getEntry_2 3 rfl rfl)
theorem dJ1_getEntry_50 : decode cJ1_getEntry 50 = .ok (.getfield 111, 3) := dk_180 0 111 (dk_at dksJ1_getEntry_2 4 rfl rfl)
theorem dJ1_getEntry_53 : decode cJ1_getEntry 53 = .ok (.astore_n 3, 1) := dk_78 (dk_at dksJ1_getEntry_2 7 rfl rfl)
theorem dJ1_getEntry_54 : decode cJ1_getEntry 54 = .ok (.goto 18, 3) := dk_167 0 18 (dk_at dksJ1_getEntry_2 8 rfl rfl)
theorem dJ1_getEntry_57 : decode cJ1_getEntry 57 = .ok (.iload 4, 2) := dk_21 4 (dk_at dksJ1_getEntry_2 11 rfl rfl)
theorem dJ1_getEntry_59 : decode cJ1_getEntry 59 = .ok (.ifCond .le 11, 3) := dk_158 0 11 (dk_at dksJ1_getEntry_2 13 rfl rfl)
theorem dJ1_getEntry_62 : decode cJ1_getEntry 62 = .ok (.aload_n 3, 1) := dk_45 (dk_at dksJ1_getEntry_2 16 rfl rfl)
theorem dJ1_getEntry_63 : decode cJ1_getEntry 63 = .ok (.getfield 114, 3) := dk_180 0 114 (dk_at dksJ1_getEntry_2 17 rfl rfl)
theorem dJ1_getEntry_66 : decode cJ1_getEntry 66 = .ok (.astore_n 3, 1) := dk_78 (dk_at dksJ1_getEntry_2 20 rfl rfl)
theorem dJ1_getEntry_67 : decode cJ1_getEntry 67 = .ok (.goto 5, 3) := dk_167 0 5 (dk_at dksJ1_getEntry_2 21 rfl rfl)
theorem dJ1_getEntry_70 : decode cJ1_getEntry 70 = .ok (.aload_n 3, 1) := dk_45 (dk_at dksJ1_getEntry_3 0 rfl rfl)
theorem dJ1_getEntry_71 : decode cJ1_getEntry 71 = .ok (.areturn, 1) := dk_176 (dk_at dksJ1_getEntry_3 1 rfl rfl)
theorem dJ1_getEntry_72 : decode cJ1_getEntry 72 = .ok (.goto (-44), 3) := dk_167 255 212 (dk_at dksJ1_getEntry_3 2 rfl rfl)
theorem dJ1_getEntry_75 : decode cJ1_getEntry 75 = .ok (.aconst_null, 1) := dk_1 (dk_at dksJ1_getEntry_3 5 rfl rfl)
theorem dJ1_getEntry_76 : decode cJ1_getEntry 76 = .ok (.areturn, 1) := dk_176 (dk_at dksJ1_getEntry_3 6 rfl rfl)
abbrev cJ1_getEntryUsingComparator : ByteArray := prog_76_method_16_code
def yJ1_getEntryUsingComparator : MethodName := ⟨RJ1, "getEntryUsingComparator", "(Ljava/lang/Object;)Ljava/util/TreeMap$Entry;"⟩
def dkwJ1_getEntryUsingComparator_3 : List UInt8 := [1, 176]
abbrev dktJ1_getEntryUsingComparator_3 : List UInt8 := dkwJ1_getEntryUsingComparator_3 ++ []
def dkwJ1_getEntryUsingComparator_2 : List UInt8 := [167, 0, 21, 21, 5, 158, 0, 13, 25, 4, 180, 0, 114, 58, 4, 167, 0, 6, 25, 4, 176, 167, 255, 204]
abbrev dktJ1_getEntryUsingComparator_2 : List UInt8 := dkwJ1_getEntryUsingComparator_2 ++ dktJ1_getEntryUsingComparator_3
def dkwJ1_getEntryUsingComparator_1 : List UInt8 := [25, 4, 180, 0, 105, 185, 0, 117, 3, 0, 54, 5, 21, 5, 156, 0, 13, 25, 4, 180, 0, 111, 58, 4]
abbrev dktJ1_getEntryUsingComparator_1 : List UInt8 := dkwJ1_getEntryUsingComparator_1 ++ dktJ1_getEntryUsingComparator_2
def dkwJ1_getEntryUsingComparator_0 : List UInt8 := [43, 77, 42, 180, 0, 16, 78, 45, 198, 0, 64, 42, 180, 0, 101, 58, 4, 25, 4, 198, 0, 53, 45, 44]
abbrev dktJ1_getEntryUsingComparator_0 : List UInt8 := dkwJ1_getEntryUsingComparator_0 ++ dktJ1_getEntryUsingComparator_1
theorem dksJ1_getEntryUsingComparator_0 : cJ1_getEntryUsingComparator.data.toList.drop 0 = dktJ1_getEntryUsingComparator_0 := by decide +kernel
theorem dksJ1_getEntryUsingComparator_1 : cJ1_getEntryUsingComparator.data.toList.drop 24 = dktJ1_getEntryUsingComparator_1 := dk_seg dksJ1_getEntryUsingComparator_0 24 rfl rfl
theorem dksJ1_getEntryUsingComparator_2 : cJ1_getEntryUsingComparator.data.toList.drop 48 = dktJ1_getEntryUsingComparator_2 := dk_seg dksJ1_getEntryUsingComparator_1 24 rfl rfl
theorem dksJ1_getEntryUsingComparator_3 : cJ1_getEntryUsingComparator.data.toList.drop 72 = dktJ1_getEntryUsingComparator_3 := dk_seg dksJ1_getEntryUsingComparator_2 24 rfl rfl
theorem dJ1_getEntryUsingComparator_0 : decode cJ1_getEntryUsingComparator 0 = .ok (.aload_n 1, 1) := dk_43 (dk_at dksJ1_getEntryUsingComparator_0 0 rfl rfl)
theorem dJ1_getEntryUsingComparator_1 : decode cJ1_getEntryUsingComparator 1 = .ok (.astore_n 2, 1) := dk_77 (dk_at dksJ1_getEntryUsingComparator_0 1 rfl rfl)
theorem dJ1_getEntryUsingComparator_2 : decode cJ1_getEntryUsingComparator 2 = .ok (.aload_n 0, 1) := dk_42 (dk_at dksJ1_getEntryUsingComparator_0 2 rfl rfl)
theorem dJ1_getEntryUsingComparator_3 : decode cJ1_getEntryUsingComparator 3 = .ok (.getfield 16, 3) := dk_180 0 16 (dk_at dksJ1_getEntryUsingComparator_0 3 rfl rfl)
theorem dJ1_getEntryUsingComparator_6 : decode cJ1_getEntryUsingComparator 6 = .ok (.astore_n 3, 1) := dk_78 (dk_at dksJ1_getEntryUsingComparator_0 6 rfl rfl)
theorem dJ1_getEntryUsingComparator_7 : decode cJ1_getEntryUsingComparator 7 = .ok (.aload_n 3, 1) := dk_45 (dk_at dksJ1_getEntryUsingComparator_0 7 rfl rfl)
theorem dJ1_getEntryUsingComparator_8 : decode cJ1_getEntryUsingComparator 8 = .ok (.ifnull 64, 3) := dk_198 0 64 (dk_at dksJ1_getEntryUsingComparator_0 8 rfl rfl)
theorem dJ1_getEntryUsingComparator_11 : decode cJ1_getEntryUsingComparator 11 = .ok (.aload_n 0, 1) := dk_42 (dk_at dksJ1_getEntryUsingComparator_0 11 rfl rfl)
theorem dJ1_getEntryUsingComparator_12 : decode cJ1_getEntryUsingComparator 12 = .ok (.getfield 101, 3) := dk_180 0 101 (dk_at dksJ1_getEntryUsingComparator_0 12 rfl rfl)
theorem dJ1_getEntryUsingComparator_15 : decode cJ1_getEntryUsingComparator 15 = .ok (.astore 4, 2) := dk_58 4 (dk_at dksJ1_getEntryUsingComparator_0 15 rfl rfl)
theorem dJ1_getEntryUsingComparator_17 : decode cJ1_getEntryUsingComparator 17 = .ok (.aload 4, 2) := dk_25 4 (dk_at dksJ1_getEntryUsingComparator_0 17 rfl rfl)
theorem dJ1_getEntryUsingComparator_19 : decode cJ1_getEntryUsingComparator 19 = .ok (.ifnull 53, 3) := dk_198 0 53 (dk_at dksJ1_getEntryUsingComparator_0 19 rfl rfl)
theorem dJ1_getEntryUsingComparator_22 : decode cJ1_getEntryUsingComparator 22 = .ok (.aload_n 3, 1) := dk_45 (dk_at dksJ1_getEntryUsingComparator_0 22 rfl rfl)
theorem dJ1_getEntryUsingComparator_23 : decode cJ1_getEntryUsingComparator 23 = .ok (.aload_n 2, 1) := dk_44 (dk_at dksJ1_getEntryUsingComparator_0 23 rfl rfl)
theorem dJ1_getEntryUsingComparator_24 : decode cJ1_getEntryUsingComparator 24 = .ok (.aload 4, 2) := dk_25 4 (dk_at dksJ1_getEntryUsingComparator_1 0 rfl rfl)
theorem dJ1_getEntryUsingComparator_26 : decode cJ1_getEntryUsingComparator 26 = .ok (.getfield 105, 3) := dk_180 0 105 (dk_at dksJ1_getEntryUsingComparator_1 2 rfl rfl)
theorem dJ1_getEntryUsingComparator_29 : decode cJ1_getEntryUsingComparator 29 = .ok (.invokeinterface 117 3, 5) := by decide +kernel
theorem dJ1_getEntryUsingComparator_34 : decode cJ1_getEntryUsingComparator 34 = .ok (.istore 5, 2) := dk_54 5 (dk_at dksJ1_getEntryUsingComparator_1 10 rfl rfl)
theorem dJ1_getEntryUsingComparator_36 : decode cJ1_getEntryUsingComparator 36 = .ok (.iload 5, 2) := dk_21 5 (dk_at dksJ1_getEntryUsingComparator_1 12 rfl rfl)
theorem dJ1_getEntryUsingComparator_38 : decode cJ1_getEntryUsingComparator 38 = .ok (.ifCond .ge 13, 3) := dk_156 0 13 (dk_at dksJ1_getEntryUsingComparator_1 14 rfl rfl)
theorem dJ1_getEntryUsingComparator_41 : decode cJ1_getEntryUsingComparator 41 = .ok (.aload 4, 2) := dk_25 4 (dk_at dksJ1_getEntryUsingComparator_1 17 rfl rfl)
theorem dJ1_getEntryUsingComparator_43 : decode cJ1_getEntryUsingComparator 43 = .ok (.getfield 111, 3) := dk_180 0 111 (dk_at dksJ1_getEntryUsingComparator_1 19 rfl rfl)
theorem dJ1_getEntryUsingComparator_46 : decode cJ1_getEntryUsingComparator 46 = .ok (.astore 4, 2) := dk_58 4 (dk_at dksJ1_getEntryUsingComparator_1 22 rfl rfl)
theorem dJ1_getEntryUsingComparator_48 : decode cJ1_getEntryUsingComparator 48 = .ok (.goto 21, 3) := dk_167 0 21 (dk_at dksJ1_getEntryUsingComparator_2 0 rfl rfl)
theorem dJ1_getEntryUsingComparator_51 : decode cJ1_getEntryUsingComparator 51 = .ok (.iload 5, 2) := dk_21 5 (dk_at dksJ1_getEntryUsingComparator_2 3 rfl rfl)
theorem dJ1_getEntryUsingComparator_53 : decode cJ1_getEntryUsingComparator 53 = .ok (.ifCond .le 13, 3) := dk_158 0 13 (dk_at dksJ1_getEntryUsingComparator_2 5 rfl rfl)
theorem dJ1_getEntryUsingComparator_56 : decode cJ1_getEntryUsingComparator 56 = .ok (.aload 4, 2) := dk_25 4 (dk_at dksJ1_getEntryUsingComparator_2 8 rfl rfl)
theorem dJ1_getEntryUsingComparator_58 : decode cJ1_getEntryUsingComparator 58 = .ok (.getfield 114, 3) := dk_180 0 114 (dk_at dksJ1_getEntryUsingComparator_2 10 rfl rfl)
theorem dJ1_getEntryUsingComparator_61 : decode cJ1_getEntryUsingComparator 61 = .ok (.astore 4, 2) := dk_58 4 (dk_at dksJ1_getEntryUsingComparator_2 13 rfl rfl)
theorem dJ1_getEntryUsingComparator_63 : decode cJ1_getEntryUsingComparator 63 = .ok (.goto 6, 3) := dk_167 0 6 (dk_at dksJ1_getEntryUsingComparator_2 15 rfl rfl)
theorem dJ1_getEntryUsingComparator_66 : decode cJ1_getEntryUsingComparator 66 = .ok (.aload 4, 2) := dk_25 4 (dk_at dksJ1_getEntryUsingComparator_2 18 rfl rfl)
theorem dJ1_getEntryUsingComparator_68 : decode cJ1_getEntryUsingComparator 68 = .ok (.areturn, 1) := dk_176 (dk_at dksJ1_getEntryUsingComparator_2 20 rfl rfl)
theorem dJ1_getEntryUsingComparator_69 : decode cJ1_getEntryUsingComparator 69 = .ok (.goto (-52), 3) := dk_167 255 204 (dk_at dksJ1_getEntryUsingComparator_2 21 rfl rfl)
theorem dJ1_getEntryUsingComparator_72 : decode cJ1_getEntryUsingComparator 72 = .ok (.aconst_null, 1) := dk_1 (dk_at dksJ1_getEntryUsingComparator_3 0 rfl rfl)
theorem dJ1_getEntryUsingComparator_73 : decode cJ1_getEntryUsingComparator 73 = .ok (.areturn, 1) := dk_176 (dk_at dksJ1_getEntryUsingComparator_3 1 rfl rfl)
abbrev cJ1_size : ByteArray := prog_76_method_5_code
def yJ1_size : MethodName := ⟨RJ1, "size", "()I"⟩
theorem dJ1_size_0 : decode cJ1_size 0 = .ok (.aload_n 0, 1) := by decide +kernel
theorem dJ1_size_1 : decode cJ1_size 1 = .ok (.getfield 7, 3) := by decide +kernel
theorem dJ1_size_4 : decode cJ1_size 4 = .ok (.ireturn, 1) := by decide +kernel
abbrev cJ1_put : ByteArray := prog_76_method_21_code
def yJ1_put : MethodName := ⟨RJ1, "put", "(Ljava/lang/Object;Ljava/lang/Object;)Ljava/lang/Object;"⟩
def dkwJ1_put_0 : List UInt8 := [42, 43, 44, 4, 182, 0, 127, 176]
abbrev dktJ1_put_0 : List UInt8 := dkwJ1_put_0 ++ []
theorem dksJ1_put_0 : cJ1_put.data.toList.drop 0 = dktJ1_put_0 := by decide +kernel
theorem dJ1_put_0 : decode cJ1_put 0 = .ok (.aload_n 0, 1) := dk_42 (dk_at dksJ1_put_0 0 rfl rfl)
theorem dJ1_put_1 : decode cJ1_put 1 = .ok (.aload_n 1, 1) := dk_43 (dk_at dksJ1_put_0 1 rfl rfl)
theorem dJ1_put_2 : decode cJ1_put 2 = .ok (.aload_n 2, 1) := dk_44 (dk_at dksJ1_put_0 2 rfl rfl)
theorem dJ1_put_3 : decode cJ1_put 3 = .ok (.iconst 1, 1) := dk_4 (dk_at dksJ1_put_0 3 rfl rfl)
theorem dJ1_put_4 : decode cJ1_put 4 = .ok (.invokevirtual 127, 3) := dk_182 0 127 (dk_at dksJ1_put_0 4 rfl rfl)
theorem dJ1_put_7 : decode cJ1_put 7 = .ok (.areturn, 1) := dk_176 (dk_at dksJ1_put_0 7 rfl rfl)
abbrev cJ1_put_2 : ByteArray := prog_76_method_31_code
def yJ1_put_2 : MethodName := ⟨RJ1, "put", "(Ljava/lang/Object;Ljava/lang/Object;Z)Ljava/lang/Object;"⟩
def dkwJ1_put_2_9 : List UInt8 := [4, 167, 0, 4, 3, 182, 0, 139, 1, 176]
abbrev dktJ1_put_2_9 : List UInt8 := dkwJ1_put_2_9 ++ []
def dkwJ1_put_2_8 : List UInt8 := [25, 4, 44, 181, 0, 58, 25, 9, 176, 25, 4, 199, 255, 181, 42, 43, 44, 25, 6, 21, 5, 156, 0, 7]
abbrev dktJ1_put_2_8 : List UInt8 := dkwJ1_put_2_8 ++ dktJ1_put_2_9
def dkwJ1_put_2_7 : List UInt8 := [180, 0, 114, 58, 4, 167, 0, 28, 25, 4, 180, 0, 58, 58, 9, 29, 154, 0, 8, 25, 9, 199, 0, 9]
abbrev dktJ1_put_2_7 : List UInt8 := dkwJ1_put_2_7 ++ dktJ1_put_2_8
def dkwJ1_put_2_6 : List UInt8 := [21, 5, 156, 0, 13, 25, 4, 180, 0, 111, 58, 4, 167, 0, 43, 21, 5, 158, 0, 13, 25, 4]
abbrev dktJ1_put_2_6 : List UInt8 := dkwJ1_put_2_6 ++ dktJ1_put_2_7
def dkwJ1_put_2_5 : List UInt8 := [192, 0, 99, 58, 8, 25, 4, 58, 6, 25, 8, 25, 4, 180, 0, 105, 185, 0, 107, 2, 0, 54, 5]
abbrev dktJ1_put_2_5 : List UInt8 := dkwJ1_put_2_5 ++ dktJ1_put_2_6
def dkwJ1_put_2_4 : List UInt8 := [25, 4, 44, 181, 0, 58, 25, 8, 176, 25, 4, 199, 255, 180, 167, 0, 92, 43, 184, 0, 95, 87, 43]
abbrev dktJ1_put_2_4 : List UInt8 := dkwJ1_put_2_4 ++ dktJ1_put_2_5
def dkwJ1_put_2_3 : List UInt8 := [180, 0, 114, 58, 4, 167, 0, 28, 25, 4, 180, 0, 58, 58, 8, 29, 154, 0, 8, 25, 8, 199, 0, 9]
abbrev dktJ1_put_2_3 : List UInt8 := dkwJ1_put_2_3 ++ dktJ1_put_2_4
def dkwJ1_put_2_2 : List UInt8 := [54, 5, 21, 5, 156, 0, 13, 25, 4, 180, 0, 111, 58, 4, 167, 0, 43, 21, 5, 158, 0, 13, 25, 4]
abbrev dktJ1_put_2_2 : List UInt8 := dkwJ1_put_2_2 ++ dktJ1_put_2_3
def dkwJ1_put_2_1 : List UInt8 := [58, 7, 25, 7, 198, 0, 85, 25, 4, 58, 6, 25, 7, 43, 25, 4, 180, 0, 105, 185, 0, 117, 3, 0]
abbrev dktJ1_put_2_1 : List UInt8 := dkwJ1_put_2_1 ++ dktJ1_put_2_2
def dkwJ1_put_2_0 : List UInt8 := [42, 180, 0, 101, 58, 4, 25, 4, 199, 0, 11, 42, 43, 44, 182, 0, 135, 1, 176, 42, 180, 0, 16]
abbrev dktJ1_put_2_0 : List UInt8 := dkwJ1_put_2_0 ++ dktJ1_put_2_1
theorem dksJ1_put_2_0 : cJ1_put_2.data.toList.drop 0 = dktJ1_put_2_0 := by decide +kernel
theorem dksJ1_put_2_1 : cJ1_put_2.data.toList.drop 23 = dktJ1_put_2_1 := dk_seg dksJ1_put_2_0 23 rfl rfl
theorem dksJ1_put_2_2 : cJ1_put_2.data.toList.drop 47 = dktJ1_put_2_2 := dk_seg dksJ1_put_2_1 24 rfl rfl
theorem dksJ1_put_2_3 : cJ1_put_2.data.toList.drop 71 = dktJ1_put_2_3 := dk_seg dksJ1_put_2_2 24 rfl rfl
theorem dksJ1_put_2_4 : cJ1_put_2.data.toList.drop 95 = dktJ1_put_2_4 := dk_seg dksJ1_put_2_3 24 rfl rfl
theorem dksJ1_put_2_5 : cJ1_put_2.data.toList.drop 118 = dktJ1_put_2_5 := dk_seg dksJ1_put_2_4 23 rfl rfl
theorem dksJ1_put_2_6 : cJ1_put_2.data.toList.drop 141 = dktJ1_put_2_6 := dk_seg dksJ1_put_2_5 23 rfl rfl
theorem dksJ1_put_2_7 : cJ1_put_2.data.toList.drop 163 = dktJ1_put_2_7 := dk_seg dksJ1_put_2_6 22 rfl rfl
theorem dksJ1_put_2_8 : cJ1_put_2.data.toList.drop 187 = dktJ1_put_2_8 := dk_seg dksJ1_put_2_7 24 rfl rfl
theorem dksJ1_put_2_9 : cJ1_put_2.data.toList.drop 211 = dktJ1_put_2_9 := dk_seg dksJ1_put_2_8 24 rfl rfl
theorem dJ1_put_2_0 : decode cJ1_put_2 0 = .ok (.aload_n 0, 1) := dk_42 (dk_at dksJ1_put_2_0 0 rfl rfl)
theorem dJ1_put_2_1 : decode cJ1_put_2 1 = .ok (.getfield 101, 3) := dk_180 0 101 (dk_at dksJ1_put_2_0 1 rfl rfl)
theorem dJ1_put_2_4 : decode cJ1_put_2 4 = .ok (.astore 4, 2) := dk_58 4 (dk_at dksJ1_put_2_0 4 rfl rfl)
theorem dJ1_put_2_6 : decode cJ1_put_2 6 = .ok (.aload 4, 2) := dk_25 4 (dk_at dksJ1_put_2_0 6 rfl rfl)
theorem dJ1_put_2_8 : decode cJ1_put_2 8 = .ok (.ifnonnull 11, 3) := dk_199 0 11 (dk_at dksJ1_put_2_0 8 rfl rfl)
theorem dJ1_put_2_11 : decode cJ1_put_2 11 = .ok (.aload_n 0, 1) := dk_42 (dk_at dksJ1_put_2_0 11 rfl rfl)
theorem dJ1_put_2_12 : decode cJ1_put_2 12 = .ok (.aload_n 1, 1) := dk_43 (dk_at dksJ1_put_2_0 12 rfl rfl)
theorem dJ1_put_2_13 : decode cJ1_put_2 13 = .ok (.aload_n 2, 1) := dk_44 (dk_at dksJ1_put_2_0 13 rfl rfl)
theorem dJ1_put_2_14 : decode cJ1_put_2 14 = .ok (.invokevirtual 135, 3) := dk_182 0 135 (dk_at dksJ1_put_2_0 14 rfl rfl)
theorem dJ1_put_2_17 : decode cJ1_put_2 17 = .ok (.aconst_null, 1) := dk_1 (dk_at dksJ1_put_2_0 17 rfl rfl)
theorem dJ1_put_2_18 : decode cJ1_put_2 18 = .ok (.areturn, 1) := dk_176 (dk_at dksJ1_put_2_0 18 rfl rfl)
theorem dJ1_put_2_19 : decode cJ1_put_2 19 = .ok (.aload_n 0, 1) := dk_42 (dk_at dksJ1_put_2_0 19 rfl rfl)
theorem dJ1_put_2_20 : decode cJ1_put_2 20 = .ok (.getfield 16, 3) := dk_180 0 16 (dk_at dksJ1_put_2_0 20 rfl rfl)
theorem dJ1_put_2_23 : decode cJ1_put_2 23 = .ok (.astore 7, 2) := dk_58 7 (dk_at dksJ1_put_2_1 0 rfl rfl)
theorem dJ1_put_2_25 : decode cJ1_put_2 25 = .ok (.aload 7, 2) := dk_25 7 (dk_at dksJ1_put_2_1 2 rfl rfl)
theorem dJ1_put_2_27 : decode cJ1_put_2 27 = .ok (.ifnull 85, 3) := dk_198 0 85 (dk_at dksJ1_put_2_1 4 rfl rfl)
theorem dJ1_put_2_30 : decode cJ1_put_2 30 = .ok (.aload 4, 2) := dk_25 4 (dk_at dksJ1_put_2_1 7 rfl rfl)
theorem dJ1_put_2_32 : decode cJ1_put_2 32 = .ok (.astore 6, 2) := dk_58 6 (dk_at dksJ1_put_2_1 9 rfl rfl)
theorem dJ1_put_2_34 : decode cJ1_put_2 34 = .ok (.aload 7, 2) := dk_25 7 (dk_at dksJ1_put_2_1 11 rfl rfl)
theorem dJ1_put_2_36 : decode cJ1_put_2 36 = .ok (.aload_n 1, 1) := dk_43 (dk_at dksJ1_put_2_1 13 rfl rfl)
theorem dJ1_put_2_37 : decode cJ1_put_2 37 = .ok (.aload 4, 2) := dk_25 4 (dk_at dksJ1_put_2_1 14 rfl rfl)
theorem dJ1_put_2_39 : decode cJ1_put_2 39 = .ok (.getfield 105, 3) := dk_180 0 105 (dk_at dksJ1_put_2_1 16 rfl rfl)
theorem dJ1_put_2_42 : decode cJ1_put_2 42 = .ok (.invokeinterface 117 3, 5) := by decide +kernel
theorem dJ1_put_2_47 : decode cJ1_put_2 47 = .ok (.istore 5, 2) := dk_54 5 (dk_at dksJ1_put_2_2 0 rfl rfl)
theorem dJ1_put_2_49 : decode cJ1_put_2 49 = .ok (.iload 5, 2) := dk_21 5 (dk_at dksJ1_put_2_2 2 rfl rfl)
theorem dJ1_put_2_51 : decode cJ1_put_2 51 = .ok (.ifCond .ge 13, 3) := dk_156 0 13 (dk_at dksJ1_put_2_2 4 rfl rfl)
theorem dJ1_put_2_54 : decode cJ1_put_2 54 = .ok (.aload 4, 2) := dk_25 4 (dk_at dksJ1_put_2_2 7 rfl rfl)
theorem dJ1_put_2_56 : decode cJ1_put_2 56 = .ok (.getfield 111, 3) := dk_180 0 111 (dk_at dksJ1_put_2_2 9 rfl rfl)
theorem dJ1_put_2_59 : decode cJ1_put_2 59 = .ok (.astore 4, 2) := dk_58 4 (dk_at dksJ1_put_2_2 12 rfl rfl)
theorem dJ1_put_2_61 : decode cJ1_put_2 61 = .ok (.goto 43, 3) := dk_167 0 43 (dk_at dksJ1_put_2_2 14 rfl rfl)
theorem dJ1_put_2_64 : decode cJ1_put_2 64 = .ok (.iload 5, 2) := dk_21 5 (dk_at dksJ1_put_2_2 17 rfl rfl)
theorem dJ1_put_2_66 : decode cJ1_put_2 66 = .ok (.ifCond .le 13, 3) := dk_158 0 13 (dk_at dksJ1_put_2_2 19 rfl rfl)
theorem dJ1_put_2_69 : decode cJ1_put_2 69 = .ok (.aload 4, 2) := dk_25 4 (dk_at dksJ1_put_2_2 22 rfl rfl)
theorem dJ1_put_2_71 : decode cJ1_put_2 71 = .ok (.getfield 114, 3) := dk_180 0 114 (dk_at dksJ1_put_2_3 0 rfl rfl)
theorem dJ1_put_2_74 : decode cJ1_put_2 74 = .ok (.astore 4, 2) := dk_58 4 (dk_at dksJ1_put_2_3 3 rfl rfl)
theorem dJ1_put_2_76 : decode cJ1_put_2 76 = .ok (.goto 28, 3) := dk_167 0 28 (dk_at dksJ1_put_2_3 5 rfl rfl)
theorem dJ1_put_2_79 : decode cJ1_put_2 79 = .ok (.aload 4, 2) := dk_25 4 (dk_at dksJ1_put_2_3 8 rfl rfl)
theorem dJ1_put_2_81 : decode cJ1_put_2 81 = .ok (.getfield 58, 3) := dk_180 0 58 (dk_at dksJ1_put_2_3 10 rfl rfl)
theorem dJ1_put_2_84 : decode cJ1_put_2 84 = .ok (.astore 8, 2) := dk_58 8 (dk_at dksJ1_put_2_3 13 rfl rfl)
theorem dJ1_put_2_86 : decode cJ1_put_2 86 = .ok (.iload_n 3, 1) := dk_29 (dk_at dksJ1_put_2_3 15 rfl rfl)
theorem dJ1_put_2_87 : decode cJ1_put_2 87 = .ok (.ifCond .ne 8, 3) := dk_154 0 8 (dk_at dksJ1_put_2_3 16 rfl rfl)
theorem dJ1_put_2_90 : decode cJ1_put_2 90 = .ok (.aload 8, 2) := dk_25 8 (dk_at dksJ1_put_2_3 19 rfl rfl)
theorem dJ1_put_2_92 : decode cJ1_put_2 92 = .ok (.ifnonnull 9, 3) := dk_199 0 9 (dk_at dksJ1_put_2_3 21 rfl rfl)
theorem dJ1_put_2_95 : decode cJ1_put_2 95 = .ok (.aload 4, 2) := dk_25 4 (dk_at dksJ1_put_2_4 0 rfl rfl)
theorem dJ1_put_2_97 : decode cJ1_put_2 97 = .ok (.aload_n 2, 1) := dk_44 (dk_at dksJ1_put_2_4 2 rfl rfl)
theorem dJ1_put_2_98 : decode cJ1_put_2 98 = .ok (.putfield 58, 3) := dk_181 0 58 (dk_at dksJ1_put_2_4 3 rfl rfl)
theorem dJ1_put_2_101 : decode cJ1_put_2 101 = .ok (.aload 8, 2) := dk_25 8 (dk_at dksJ1_put_2_4 6 rfl rfl)
theorem dJ1_put_2_103 : decode cJ1_put_2 103 = .ok (.areturn, 1) := dk_176 (dk_at dksJ1_put_2_4 8 rfl rfl)
theorem dJ1_put_2_104 : decode cJ1_put_2 104 = .ok (.aload 4, 2) := dk_25 4 (dk_at dksJ1_put_2_4 9 rfl rfl)
theorem dJ1_put_2_106 : decode cJ1_put_2 106 = .ok (.ifnonnull (-76), 3) := dk_199 255 180 (dk_at dksJ1_put_2_4 11 rfl rfl)
theorem dJ1_put_2_109 : decode cJ1_put_2 109 = .ok (.goto 92, 3) := dk_167 0 92 (dk_at dksJ1_put_2_4 14 rfl rfl)
theorem dJ1_put_2_112 : decode cJ1_put_2 112 = .ok (.aload_n 1, 1) := dk_43 (dk_at dksJ1_put_2_4 17 rfl rfl)
theorem dJ1_put_2_113 : decode cJ1_put_2 113 = .ok (.invokestatic 95, 3) := dk_184 0 95 (dk_at dksJ1_put_2_4 18 rfl rfl)
theorem dJ1_put_2_116 : decode cJ1_put_2 116 = .ok (.pop, 1) := dk_87 (dk_at dksJ1_put_2_4 21 rfl rfl)
theorem dJ1_put_2_117 : decode cJ1_put_2 117 = .ok (.aload_n 1, 1) := dk_43 (dk_at dksJ1_put_2_4 22 rfl rfl)
theorem dJ1_put_2_118 : decode cJ1_put_2 118 = .ok (.checkcast 99, 3) := dk_192 0 99 (dk_at dksJ1_put_2_5 0 rfl rfl)
theorem dJ1_put_2_121 : decode cJ1_put_2 121 = .ok (.astore 8, 2) := dk_58 8 (dk_at dksJ1_put_2_5 3 rfl rfl)
theorem dJ1_put_2_123 : decode cJ1_put_2 123 = .ok (.aload 4, 2) := dk_25 4 (dk_at dksJ1_put_2_5 5 rfl rfl)
theorem dJ1_put_2_125 : decode cJ1_put_2 125 = .ok (.astore 6, 2) := dk_58 6 (dk_at dksJ1_put_2_5 7 rfl rfl)
theorem dJ1_put_2_127 : decode cJ1_put_2 127 = .ok (.aload 8, 2) := dk_25 8 (dk_at dksJ1_put_2_5 9 rfl rfl)
theorem dJ1_put_2_129 : decode cJ1_put_2 129 = .ok (.aload 4, 2) := dk_25 4 (dk_at dksJ1_put_2_5 11 rfl rfl)
theorem dJ1_put_2_131 : decode cJ1_put_2 131 = .ok (.getfield 105, 3) := dk_180 0 105 (dk_at dksJ1_put_2_5 13 rfl rfl)
theorem dJ1_put_2_134 : decode cJ1_put_2 134 = .ok (.invokeinterface 107 2, 5) := by decide +kernel
theorem dJ1_put_2_139 : decode cJ1_put_2 139 = .ok (.istore 5, 2) := dk_54 5 (dk_at dksJ1_put_2_5 21 rfl rfl)
theorem dJ1_put_2_141 : decode cJ1_put_2 141 = .ok (.iload 5, 2) := dk_21 5 (dk_at dksJ1_put_2_6 0 rfl rfl)
theorem dJ1_put_2_143 : decode cJ1_put_2 143 = .ok (.ifCond .ge 13, 3) := dk_156 0 13 (dk_at dksJ1_put_2_6 2 rfl rfl)
theorem dJ1_put_2_146 : decode cJ1_put_2 146 = .ok (.aload 4, 2) := dk_25 4 (dk_at dksJ1_put_2_6 5 rfl rfl)
theorem dJ1_put_2_148 : decode cJ1_put_2 148 = .ok (.getfield 111, 3) := dk_180 0 111 (dk_at dksJ1_put_2_6 7 rfl rfl)
theorem dJ1_put_2_151 : decode cJ1_put_2 151 = .ok (.astore 4, 2) := dk_58 4 (dk_at dksJ1_put_2_6 10 rfl rfl)
theorem dJ1_put_2_153 : decode cJ1_put_2 153 = .ok (.goto 43, 3) := dk_167 0 43 (dk_at dksJ1_put_2_6 12 rfl rfl)
theorem dJ1_put_2_156 : decode cJ1_put_2 156 = .ok (.iload 5, 2) := dk_21 5 (dk_at dksJ1_put_2_6 15 rfl rfl)
theorem dJ1_put_2_158 : decode cJ1_put_2 158 = .ok (.ifCond .le 13, 3) := dk_158 0 13 (dk_at dksJ1_put_2_6 17 rfl rfl)
theorem dJ1_put_2_161 : decode cJ1_put_2 161 = .ok (.aload 4, 2) := dk_25 4 (dk_at dksJ1_put_2_6 20 rfl rfl)
theorem dJ1_put_2_163 : decode cJ1_put_2 163 = .ok (.getfield 114, 3) := dk_180 0 114 (dk_at dksJ1_put_2_7 0 rfl rfl)
theorem dJ1_put_2_166 : decode cJ1_put_2 166 = .ok (.astore 4, 2) := dk_58 4 (dk_at dksJ1_put_2_7 3 rfl rfl)
theorem dJ1_put_2_168 : decode cJ1_put_2 168 = .ok (.goto 28, 3) := dk_167 0 28 (dk_at dksJ1_put_2_7 5 rfl rfl)
theorem dJ1_put_2_171 : decode cJ1_put_2 171 = .ok (.aload 4, 2) := dk_25 4 (dk_at dksJ1_put_2_7 8 rfl rfl)
theorem dJ1_put_2_173 : decode cJ1_put_2 173 = .ok (.getfield 58, 3) := dk_180 0 58 (dk_at dksJ1_put_2_7 10 rfl rfl)
theorem dJ1_put_2_176 : decode cJ1_put_2 176 = .ok (.astore 9, 2) := dk_58 9 (dk_at dksJ1_put_2_7 13 rfl rfl)
theorem dJ1_put_2_178 : decode cJ1_put_2 178 = .ok (.iload_n 3, 1) := dk_29 (dk_at dksJ1_put_2_7 15 rfl rfl)
theorem dJ1_put_2_179 : decode cJ1_put_2 179 = .ok (.ifCond .ne 8, 3) := dk_154 0 8 (dk_at dksJ1_put_2_7 16 rfl rfl)
theorem dJ1_put_2_182 : decode cJ1_put_2 182 = .ok (.aload 9, 2) := dk_25 9 (dk_at dksJ1_put_2_7 19 rfl rfl)
theorem dJ1_put_2_184 : decode cJ1_put_2 184 = .ok (.ifnonnull 9, 3) := dk_199 0 9 (dk_at dksJ1_put_2_7 21 rfl rfl)
theorem dJ1_put_2_187 : decode cJ1_put_2 187 = .ok (.aload 4, 2) := dk_25 4 (dk_at dksJ1_put_2_8 0 rfl rfl)
theorem dJ1_put_2_189 : decode cJ1_put_2 189 = .ok (.aload_n 2, 1) := dk_44 (dk_at dksJ1_put_2_8 2 rfl rfl)
theorem dJ1_put_2_190 : decode cJ1_put_2 190 = .ok (.putfield 58, 3) := dk_181 0 58 (dk_at dksJ1_put_2_8 3 rfl rfl)
theorem dJ1_put_2_193 : decode cJ1_put_2 193 = .ok (.aload 9, 2) := dk_25 9 (dk_at dksJ1_put_2_8 6 rfl rfl)
theorem dJ1_put_2_195 : decode cJ1_put_2 195 = .ok (.areturn, 1) := dk_176 (dk_at dksJ1_put_2_8 8 rfl rfl)
theorem dJ1_put_2_196 : decode cJ1_put_2 196 = .ok (.aload 4, 2) := dk_25 4 (dk_at dksJ1_put_2_8 9 rfl rfl)
theorem dJ1_put_2_198 : decode cJ1_put_2 198 = .ok (.ifnonnull (-75), 3) := dk_199 255 181 (dk_at dksJ1_put_2_8 11 rfl rfl)
theorem dJ1_put_2_201 : decode cJ1_put_2 201 = .ok (.aload_n 0, 1) := dk_42 (dk_at dksJ1_put_2_8 14 rfl rfl)
theorem dJ1_put_2_202 : decode cJ1_put_2 202 = .ok (.aload_n 1, 1) := dk_43 (dk_at dksJ1_put_2_8 15 rfl rfl)
theorem dJ1_put_2_203 : decode cJ1_put_2 203 = .ok (.aload_n 2, 1) := dk_44 (dk_at dksJ1_put_2_8 16 rfl rfl)
theorem dJ1_put_2_204 : decode cJ1_put_2 204 = .ok (.aload 6, 2) := dk_25 6 (dk_at dksJ1_put_2_8 17 rfl rfl)
theorem dJ1_put_2_206 : decode cJ1_put_2 206 = .ok (.iload 5, 2) := dk_21 5 (dk_at dksJ1_put_2_8 19 rfl rfl)
theorem dJ1_put_2_208 : decode cJ1_put_2 208 = .ok (.ifCond .ge 7, 3) := dk_156 0 7 (dk_at dksJ1_put_2_8 21 rfl rfl)
theorem dJ1_put_2_211 : decode cJ1_put_2 211 = .ok (.iconst 1, 1) := dk_4 (dk_at dksJ1_put_2_9 0 rfl rfl)
theorem dJ1_put_2_212 : decode cJ1_put_2 212 = .ok (.goto 4, 3) := dk_167 0 4 (dk_at dksJ1_put_2_9 1 rfl rfl)
theorem dJ1_put_2_215 : decode cJ1_put_2 215 = .ok (.iconst 0, 1) := dk_3 (dk_at dksJ1_put_2_9 4 rfl rfl)
theorem dJ1_put_2_216 : decode cJ1_put_2 216 = .ok (.invokevirtual 139, 3) := dk_182 0 139 (dk_at dksJ1_put_2_9 5 rfl rfl)
theorem dJ1_put_2_219 : decode cJ1_put_2 219 = .ok (.aconst_null, 1) := dk_1 (dk_at dksJ1_put_2_9 8 rfl rfl)
theorem dJ1_put_2_220 : decode cJ1_put_2 220 = .ok (.areturn, 1) := dk_176 (dk_at dksJ1_put_2_9 9 rfl rfl)
abbrev cJ1_addEntryToEmptyMap : ByteArray := prog_76_method_30_code
def yJ1_addEntryToEmptyMap : MethodName := ⟨RJ1, "addEntryToEmptyMap", "(Ljava/lang/Object;Ljava/lang/Object;)V"⟩
def dkwJ1_addEntryToEmptyMap_1 : List UInt8 := [181, 0, 7, 42, 89, 180, 0, 13, 4, 96, 181, 0, 13, 177]
abbrev dktJ1_addEntryToEmptyMap_1 : List UInt8 := dkwJ1_addEntryToEmptyMap_1 ++ []
def dkwJ1_addEntryToEmptyMap_0 : List UInt8 := [42, 43, 43, 182, 0, 123, 87, 42, 187, 0, 59, 89, 43, 44, 1, 183, 0, 167, 181, 0, 101, 42, 4]
abbrev dktJ1_addEntryToEmptyMap_0 : List UInt8 := dkwJ1_addEntryToEmptyMap_0 ++ dktJ1_addEntryToEmptyMap_1
theorem dksJ1_addEntryToEmptyMap_0 : cJ1_addEntryToEmptyMap.data.toList.drop 0 = dktJ1_addEntryToEmptyMap_0 := by decide +kernel
theorem dksJ1_addEntryToEmptyMap_1 : cJ1_addEntryToEmptyMap.data.toList.drop 23 = dktJ1_addEntryToEmptyMap_1 := dk_seg dksJ1_addEntryToEmptyMap_0 23 rfl rfl
theorem dJ1_addEntryToEmptyMap_0 : decode cJ1_addEntryToEmptyMap 0 = .ok (.aload_n 0, 1) := dk_42 (dk_at dksJ1_addEntryToEmptyMap_0 0 rfl rfl)
theorem dJ1_addEntryToEmptyMap_1 : decode cJ1_addEntryToEmptyMap 1 = .ok (.aload_n 1, 1) := dk_43 (dk_at dksJ1_addEntryToEmptyMap_0 1 rfl rfl)
theorem dJ1_addEntryToEmptyMap_2 : decode cJ1_addEntryToEmptyMap 2 = .ok (.aload_n 1, 1) := dk_43 (dk_at dksJ1_addEntryToEmptyMap_0 2 rfl rfl)
theorem dJ1_addEntryToEmptyMap_3 : decode cJ1_addEntryToEmptyMap 3 = .ok (.invokevirtual 123, 3) := dk_182 0 123 (dk_at dksJ1_addEntryToEmptyMap_0 3 rfl rfl)
theorem dJ1_addEntryToEmptyMap_6 : decode cJ1_addEntryToEmptyMap 6 = .ok (.pop, 1) := dk_87 (dk_at dksJ1_addEntryToEmptyMap_0 6 rfl rfl)
theorem dJ1_addEntryToEmptyMap_7 : decode cJ1_addEntryToEmptyMap 7 = .ok (.aload_n 0, 1) := dk_42 (dk_at dksJ1_addEntryToEmptyMap_0 7 rfl rfl)
theorem dJ1_addEntryToEmptyMap_8 : decode cJ1_addEntryToEmptyMap 8 = .ok (.new 59, 3) := dk_187 0 59 (dk_at dksJ1_addEntryToEmptyMap_0 8 rfl rfl)
theorem dJ1_addEntryToEmptyMap_11 : decode cJ1_addEntryToEmptyMap 11 = .ok (.dup, 1) := dk_89 (dk_at dksJ1_addEntryToEmptyMap_0 11 rfl rfl)
theorem dJ1_addEntryToEmptyMap_12 : decode cJ1_addEntryToEmptyMap 12 = .ok (.aload_n 1, 1) := dk_43 (dk_at dksJ1_addEntryToEmptyMap_0 12 rfl rfl)
theorem dJ1_addEntryToEmptyMap_13 : decode cJ1_addEntryToEmptyMap 13 = .ok (.aload_n 2, 1) := dk_44 (dk_at dksJ1_addEntryToEmptyMap_0 13 rfl rfl)
theorem dJ1_addEntryToEmptyMap_14 : decode cJ1_addEntryToEmptyMap 14 = .ok (.aconst_null, 1) := dk_1 (dk_at dksJ1_addEntryToEmptyMap_0 14 rfl rfl)
theorem dJ1_addEntryToEmptyMap_15 : decode cJ1_addEntryToEmptyMap 15 = .ok (.invokespecial 167, 3) := dk_183 0 167 (dk_at dksJ1_addEntryToEmptyMap_0 15 rfl rfl)
theorem dJ1_addEntryToEmptyMap_18 : decode cJ1_addEntryToEmptyMap 18 = .ok (.putfield 101, 3) := dk_181 0 101 (dk_at dksJ1_addEntryToEmptyMap_0 18 rfl rfl)
theorem dJ1_addEntryToEmptyMap_21 : decode cJ1_addEntryToEmptyMap 21 = .ok (.aload_n 0, 1) := dk_42 (dk_at dksJ1_addEntryToEmptyMap_0 21 rfl rfl)
theorem dJ1_addEntryToEmptyMap_22 : decode cJ1_addEntryToEmptyMap 22 = .ok (.iconst 1, 1) := dk_4 (dk_at dksJ1_addEntryToEmptyMap_0 22 rfl rfl)
theorem dJ1_addEntryToEmptyMap_23 : decode cJ1_addEntryToEmptyMap 23 = .ok (.putfield 7, 3) := dk_181 0 7 (dk_at dksJ1_addEntryToEmptyMap_1 0 rfl rfl)
theorem dJ1_addEntryToEmptyMap_26 : decode cJ1_addEntryToEmptyMap 26 = .ok (.aload_n 0, 1) := dk_42 (dk_at dksJ1_addEntryToEmptyMap_1 3 rfl rfl)
theorem dJ1_addEntryToEmptyMap_27 : decode cJ1_addEntryToEmptyMap 27 = .ok (.dup, 1) := dk_89 (dk_at dksJ1_addEntryToEmptyMap_1 4 rfl rfl)
theorem dJ1_addEntryToEmptyMap_28 : decode cJ1_addEntryToEmptyMap 28 = .ok (.getfield 13, 3) := dk_180 0 13 (dk_at dksJ1_addEntryToEmptyMap_1 5 rfl rfl)
theorem dJ1_addEntryToEmptyMap_31 : decode cJ1_addEntryToEmptyMap 31 = .ok (.iconst 1, 1) := dk_4 (dk_at dksJ1_addEntryToEmptyMap_1 8 rfl rfl)
theorem dJ1_addEntryToEmptyMap_32 : decode cJ1_addEntryToEmptyMap 32 = .ok (.iadd, 1) := dk_96 (dk_at dksJ1_addEntryToEmptyMap_1 9 rfl rfl)
theorem dJ1_addEntryToEmptyMap_33 : decode cJ1_addEntryToEmptyMap 33 = .ok (.putfield 13, 3) := dk_181 0 13 (dk_at dksJ1_addEntryToEmptyMap_1 10 rfl rfl)
theorem dJ1_addEntryToEmptyMap_36 : decode cJ1_addEntryToEmptyMap 36 = .ok (.return_, 1) := dk_177 (dk_at dksJ1_addEntryToEmptyMap_1 13 rfl rfl)
abbrev cJ1_compare : ByteArray := prog_76_method_67_code
def yJ1_compare : MethodName := ⟨RJ1, "compare", "(Ljava/lang/Object;Ljava/lang/Object;)I"⟩
def dkwJ1_compare_1 : List UInt8 := [43, 44, 185, 0, 117, 3, 0, 172]
abbrev dktJ1_compare_1 : List UInt8 := dkwJ1_compare_1 ++ []
def dkwJ1_compare_0 : List UInt8 := [42, 180, 0, 16, 199, 0, 16, 43, 192, 0, 99, 44, 185, 0, 107, 2, 0, 167, 0, 14, 42, 180, 0, 16]
abbrev dktJ1_compare_0 : List UInt8 := dkwJ1_compare_0 ++ dktJ1_compare_1
theorem dksJ1_compare_0 : cJ1_compare.data.toList.drop 0 = dktJ1_compare_0 := by decide +kernel
theorem dksJ1_compare_1 : cJ1_compare.data.toList.drop 24 = dktJ1_compare_1 := dk_seg dksJ1_compare_0 24 rfl rfl
theorem dJ1_compare_0 : decode cJ1_compare 0 = .ok (.aload_n 0, 1) := dk_42 (dk_at dksJ1_compare_0 0 rfl rfl)
theorem dJ1_compare_1 : decode cJ1_compare 1 = .ok (.getfield 16, 3) := dk_180 0 16 (dk_at dksJ1_compare_0 1 rfl rfl)
theorem dJ1_compare_4 : decode cJ1_compare 4 = .ok (.ifnonnull 16, 3) := dk_199 0 16 (dk_at dksJ1_compare_0 4 rfl rfl)
theorem dJ1_compare_7 : decode cJ1_compare 7 = .ok (.aload_n 1, 1) := dk_43 (dk_at dksJ1_compare_0 7 rfl rfl)
theorem dJ1_compare_8 : decode cJ1_compare 8 = .ok (.checkcast 99, 3) := dk_192 0 99 (dk_at dksJ1_compare_0 8 rfl rfl)
theorem dJ1_compare_11 : decode cJ1_compare 11 = .ok (.aload_n 2, 1) := dk_44 (dk_at dksJ1_compare_0 11 rfl rfl)
theorem dJ1_compare_12 : decode cJ1_compare 12 = .ok (.invokeinterface 107 2, 5) := by decide +kernel
theorem dJ1_compare_17 : decode cJ1_compare 17 = .ok (.goto 14, 3) := dk_167 0 14 (dk_at dksJ1_compare_0 17 rfl rfl)
theorem dJ1_compare_20 : decode cJ1_compare 20 = .ok (.aload_n 0, 1) := dk_42 (dk_at dksJ1_compare_0 20 rfl rfl)
theorem dJ1_compare_21 : decode cJ1_compare 21 = .ok (.getfield 16, 3) := dk_180 0 16 (dk_at dksJ1_compare_0 21 rfl rfl)
theorem dJ1_compare_24 : decode cJ1_compare 24 = .ok (.aload_n 1, 1) := dk_43 (dk_at dksJ1_compare_1 0 rfl rfl)
theorem dJ1_compare_25 : decode cJ1_compare 25 = .ok (.aload_n 2, 1) := dk_44 (dk_at dksJ1_compare_1 1 rfl rfl)
theorem dJ1_compare_26 : decode cJ1_compare 26 = .ok (.invokeinterface 117 3, 5) := by decide +kernel
theorem dJ1_compare_31 : decode cJ1_compare 31 = .ok (.ireturn, 1) := dk_172 (dk_at dksJ1_compare_1 7 rfl rfl)
abbrev cJ1_addEntry : ByteArray := prog_76_method_29_code
def yJ1_addEntry : MethodName := ⟨RJ1, "addEntry", "(Ljava/lang/Object;Ljava/lang/Object;Ljava/util/TreeMap$Entry;Z)V"⟩
def dkwJ1_addEntry_2 : List UInt8 := [181, 0, 7, 42, 89, 180, 0, 13, 4, 96, 181, 0, 13, 177]
abbrev dktJ1_addEntry_2 : List UInt8 := dkwJ1_addEntry_2 ++ []
def dkwJ1_addEntry_1 : List UInt8 := [167, 0, 9, 45, 25, 5, 181, 0, 114, 42, 25, 5, 182, 0, 170, 42, 89, 180, 0, 7, 4, 96]
abbrev dktJ1_addEntry_1 : List UInt8 := dkwJ1_addEntry_1 ++ dktJ1_addEntry_2
def dkwJ1_addEntry_0 : List UInt8 := [187, 0, 59, 89, 43, 44, 45, 183, 0, 167, 58, 5, 21, 4, 153, 0, 12, 45, 25, 5, 181, 0, 111]
abbrev dktJ1_addEntry_0 : List UInt8 := dkwJ1_addEntry_0 ++ dktJ1_addEntry_1
theorem dksJ1_addEntry_0 : cJ1_addEntry.data.toList.drop 0 = dktJ1_addEntry_0 := by decide +kernel
theorem dksJ1_addEntry_1 : cJ1_addEntry.data.toList.drop 23 = dktJ1_addEntry_1 := dk_seg dksJ1_addEntry_0 23 rfl rfl
theorem dksJ1_addEntry_2 : cJ1_addEntry.data.toList.drop 45 = dktJ1_addEntry_2 := dk_seg dksJ1_addEntry_1 22 rfl rfl
theorem dJ1_addEntry_0 : decode cJ1_addEntry 0 = .ok (.new 59, 3) := dk_187 0 59 (dk_at dksJ1_addEntry_0 0 rfl rfl)
theorem dJ1_addEntry_3 : decode cJ1_addEntry 3 = .ok (.dup, 1) := dk_89 (dk_at dksJ1_addEntry_0 3 rfl rfl)
theorem dJ1_addEntry_4 : decode cJ1_addEntry 4 = .ok (.aload_n 1, 1) := dk_43 (dk_at dksJ1_addEntry_0 4 rfl rfl)
theorem dJ1_addEntry_5 : decode cJ1_addEntry 5 = .ok (.aload_n 2, 1) := dk_44 (dk_at dksJ1_addEntry_0 5 rfl rfl)
theorem dJ1_addEntry_6 : decode cJ1_addEntry 6 = .ok (.aload_n 3, 1) := dk_45 (dk_at dksJ1_addEntry_0 6 rfl rfl)
theorem dJ1_addEntry_7 : decode cJ1_addEntry 7 = .ok (.invokespecial 167, 3) := dk_183 0 167 (dk_at dksJ1_addEntry_0 7 rfl rfl)
theorem dJ1_addEntry_10 : decode cJ1_addEntry 10 = .ok (.astore 5, 2) := dk_58 5 (dk_at dksJ1_addEntry_0 10 rfl rfl)
theorem dJ1_addEntry_12 : decode cJ1_addEntry 12 = .ok (.iload 4, 2) := dk_21 4 (dk_at dksJ1_addEntry_0 12 rfl rfl)
theorem dJ1_addEntry_14 : decode cJ1_addEntry 14 = .ok (.ifCond .eq 12, 3) := dk_153 0 12 (dk_at dksJ1_addEntry_0 14 rfl rfl)
theorem dJ1_addEntry_17 : decode cJ1_addEntry 17 = .ok (.aload_n 3, 1) := dk_45 (dk_at dksJ1_addEntry_0 17 rfl rfl)
theorem dJ1_addEntry_18 : decode cJ1_addEntry 18 = .ok (.aload 5, 2) := dk_25 5 (dk_at dksJ1_addEntry_0 18 rfl rfl)
theorem dJ1_addEntry_20 : decode cJ1_addEntry 20 = .ok (.putfield 111, 3) := dk_181 0 111 (dk_at dksJ1_addEntry_0 20 rfl rfl)
theorem dJ1_addEntry_23 : decode cJ1_addEntry 23 = .ok (.goto 9, 3) := dk_167 0 9 (dk_at dksJ1_addEntry_1 0 rfl rfl)
theorem dJ1_addEntry_26 : decode cJ1_addEntry 26 = .ok (.aload_n 3, 1) := dk_45 (dk_at dksJ1_addEntry_1 3 rfl rfl)
theorem dJ1_addEntry_27 : decode cJ1_addEntry 27 = .ok (.aload 5, 2) := dk_25 5 (dk_at dksJ1_addEntry_1 4 rfl rfl)
theorem dJ1_addEntry_29 : decode cJ1_addEntry 29 = .ok (.putfield 114, 3) := dk_181 0 114 (dk_at dksJ1_addEntry_1 6 rfl rfl)
theorem dJ1_addEntry_32 : decode cJ1_addEntry 32 = .ok (.aload_n 0, 1) := dk_42 (dk_at dksJ1_addEntry_1 9 rfl rfl)
theorem dJ1_addEntry_33 : decode cJ1_addEntry 33 = .ok (.aload 5, 2) := dk_25 5 (dk_at dksJ1_addEntry_1 10 rfl rfl)
theorem dJ1_addEntry_35 : decode cJ1_addEntry 35 = .ok (.invokevirtual 170, 3) := dk_182 0 170 (dk_at dksJ1_addEntry_1 12 rfl rfl)
theorem dJ1_addEntry_38 : decode cJ1_addEntry 38 = .ok (.aload_n 0, 1) := dk_42 (dk_at dksJ1_addEntry_1 15 rfl rfl)
theorem dJ1_addEntry_39 : decode cJ1_addEntry 39 = .ok (.dup, 1) := dk_89 (dk_at dksJ1_addEntry_1 16 rfl rfl)
theorem dJ1_addEntry_40 : decode cJ1_addEntry 40 = .ok (.getfield 7, 3) := dk_180 0 7 (dk_at dksJ1_addEntry_1 17 rfl rfl)
theorem dJ1_addEntry_43 : decode cJ1_addEntry 43 = .ok (.iconst 1, 1) := dk_4 (dk_at dksJ1_addEntry_1 20 rfl rfl)
theorem dJ1_addEntry_44 : decode cJ1_addEntry 44 = .ok (.iadd, 1) := dk_96 (dk_at dksJ1_addEntry_1 21 rfl rfl)
theorem dJ1_addEntry_45 : decode cJ1_addEntry 45 = .ok (.putfield 7, 3) := dk_181 0 7 (dk_at dksJ1_addEntry_2 0 rfl rfl)
theorem dJ1_addEntry_48 : decode cJ1_addEntry 48 = .ok (.aload_n 0, 1) := dk_42 (dk_at dksJ1_addEntry_2 3 rfl rfl)
theorem dJ1_addEntry_49 : decode cJ1_addEntry 49 = .ok (.dup, 1) := dk_89 (dk_at dksJ1_addEntry_2 4 rfl rfl)
theorem dJ1_addEntry_50 : decode cJ1_addEntry 50 = .ok (.getfield 13, 3) := dk_180 0 13 (dk_at dksJ1_addEntry_2 5 rfl rfl)
theorem dJ1_addEntry_53 : decode cJ1_addEntry 53 = .ok (.iconst 1, 1) := dk_4 (dk_at dksJ1_addEntry_2 8 rfl rfl)
theorem dJ1_addEntry_54 : decode cJ1_addEntry 54 = .ok (.iadd, 1) := dk_96 (dk_at dksJ1_addEntry_2 9 rfl rfl)
theorem dJ1_addEntry_55 : decode cJ1_addEntry 55 = .ok (.putfield 13, 3) := dk_181 0 13 (dk_at dksJ1_addEntry_2 10 rfl rfl)
theorem dJ1_addEntry_58 : decode cJ1_addEntry 58 = .ok (.return_, 1) := dk_177 (dk_at dksJ1_addEntry_2 13 rfl rfl)
abbrev cJ1_fixAfterInsertion : ByteArray := prog_76_method_83_code
def yJ1_fixAfterInsertion : MethodName := ⟨RJ1, "fixAfterInsertion", "(Ljava/util/TreeMap$Entry;)V"⟩
def dkwJ1_fixAfterInsertion_11 : List UInt8 := [42, 180, 0, 101, 4, 181, 1, 34, 177]
abbrev dktJ1_fixAfterInsertion_11 : List UInt8 := dkwJ1_fixAfterInsertion_11 ++ []
def dkwJ1_fixAfterInsertion_10 : List UInt8 := [184, 1, 38, 184, 1, 38, 3, 184, 1, 51, 42, 43, 184, 1, 38, 184, 1, 38, 182, 1, 55, 167, 255, 6]
abbrev dktJ1_fixAfterInsertion_10 : List UInt8 := dkwJ1_fixAfterInsertion_10 ++ dktJ1_fixAfterInsertion_11
def dkwJ1_fixAfterInsertion_9 : List UInt8 := [166, 0, 13, 43, 184, 1, 38, 76, 42, 43, 182, 1, 58, 43, 184, 1, 38, 4, 184, 1, 51, 43]
abbrev dktJ1_fixAfterInsertion_9 : List UInt8 := dkwJ1_fixAfterInsertion_9 ++ dktJ1_fixAfterInsertion_10
def dkwJ1_fixAfterInsertion_8 : List UInt8 := [184, 1, 51, 43, 184, 1, 38, 184, 1, 38, 76, 167, 0, 54, 43, 43, 184, 1, 38, 184, 1, 41]
abbrev dktJ1_fixAfterInsertion_8 : List UInt8 := dkwJ1_fixAfterInsertion_8 ++ dktJ1_fixAfterInsertion_9
def dkwJ1_fixAfterInsertion_7 : List UInt8 := [154, 0, 38, 43, 184, 1, 38, 4, 184, 1, 51, 44, 4, 184, 1, 51, 43, 184, 1, 38, 184, 1, 38, 3]
abbrev dktJ1_fixAfterInsertion_7 : List UInt8 := dkwJ1_fixAfterInsertion_7 ++ dktJ1_fixAfterInsertion_8
def dkwJ1_fixAfterInsertion_6 : List UInt8 := [184, 1, 38, 182, 1, 58, 167, 255, 113, 43, 184, 1, 38, 184, 1, 38, 184, 1, 41, 77, 44, 184, 1, 47]
abbrev dktJ1_fixAfterInsertion_6 : List UInt8 := dkwJ1_fixAfterInsertion_6 ++ dktJ1_fixAfterInsertion_7
def dkwJ1_fixAfterInsertion_5 : List UInt8 := [43, 184, 1, 38, 4, 184, 1, 51, 43, 184, 1, 38, 184, 1, 38, 3, 184, 1, 51, 42, 43, 184, 1, 38]
abbrev dktJ1_fixAfterInsertion_5 : List UInt8 := dkwJ1_fixAfterInsertion_5 ++ dktJ1_fixAfterInsertion_6
def dkwJ1_fixAfterInsertion_4 : List UInt8 := [167, 0, 54, 43, 43, 184, 1, 38, 184, 1, 44, 166, 0, 13, 43, 184, 1, 38, 76, 42, 43, 182, 1, 55]
abbrev dktJ1_fixAfterInsertion_4 : List UInt8 := dkwJ1_fixAfterInsertion_4 ++ dktJ1_fixAfterInsertion_5
def dkwJ1_fixAfterInsertion_3 : List UInt8 := [184, 1, 51, 43, 184, 1, 38, 184, 1, 38, 3, 184, 1, 51, 43, 184, 1, 38, 184, 1, 38, 76]
abbrev dktJ1_fixAfterInsertion_3 : List UInt8 := dkwJ1_fixAfterInsertion_3 ++ dktJ1_fixAfterInsertion_4
def dkwJ1_fixAfterInsertion_2 : List UInt8 := [184, 1, 38, 184, 1, 44, 77, 44, 184, 1, 47, 154, 0, 38, 43, 184, 1, 38, 4, 184, 1, 51, 44, 4]
abbrev dktJ1_fixAfterInsertion_2 : List UInt8 := dkwJ1_fixAfterInsertion_2 ++ dktJ1_fixAfterInsertion_3
def dkwJ1_fixAfterInsertion_1 : List UInt8 := [154, 0, 234, 43, 184, 1, 38, 43, 184, 1, 38, 184, 1, 38, 184, 1, 41, 166, 0, 110, 43, 184, 1, 38]
abbrev dktJ1_fixAfterInsertion_1 : List UInt8 := dkwJ1_fixAfterInsertion_1 ++ dktJ1_fixAfterInsertion_2
def dkwJ1_fixAfterInsertion_0 : List UInt8 := [43, 3, 181, 1, 34, 43, 198, 0, 252, 43, 42, 180, 0, 101, 165, 0, 244, 43, 180, 0, 124, 180, 1, 34]
abbrev dktJ1_fixAfterInsertion_0 : List UInt8 := dkwJ1_fixAfterInsertion_0 ++ dktJ1_fixAfterInsertion_1
theorem dksJ1_fixAfterInsertion_0 : cJ1_fixAfterInsertion.data.toList.drop 0 = dktJ1_fixAfterInsertion_0 := by decide +kernel
theorem dksJ1_fixAfterInsertion_1 : cJ1_fixAfterInsertion.data.toList.drop 24 = dktJ1_fixAfterInsertion_1 := dk_seg dksJ1_fixAfterInsertion_0 24 rfl rfl
theorem dksJ1_fixAfterInsertion_2 : cJ1_fixAfterInsertion.data.toList.drop 48 = dktJ1_fixAfterInsertion_2 := dk_seg dksJ1_fixAfterInsertion_1 24 rfl rfl
theorem dksJ1_fixAfterInsertion_3 : cJ1_fixAfterInsertion.data.toList.drop 72 = dktJ1_fixAfterInsertion_3 := dk_seg dksJ1_fixAfterInsertion_2 24 rfl rfl
theorem dksJ1_fixAfterInsertion_4 : cJ1_fixAfterInsertion.data.toList.drop 94 = dktJ1_fixAfterInsertion_4 := dk_seg dksJ1_fixAfterInsertion_3 22 rfl rfl
theorem dksJ1_fixAfterInsertion_5 : cJ1_fixAfterInsertion.data.toList.drop 118 = dktJ1_fixAfterInsertion_5 := dk_seg dksJ1_fixAfterInsertion_4 24 rfl rfl
theorem dksJ1_fixAfterInsertion_6 : cJ1_fixAfterInsertion.data.toList.drop 142 = dktJ1_fixAfterInsertion_6 := dk_seg dksJ1_fixAfterInsertion_5 24 rfl rfl
theorem dksJ1_fixAfterInsertion_7 : cJ1_fixAfterInsertion.data.toList.drop 166 = dktJ1_fixAfterInsertion_7 := dk_seg dksJ1_fixAfterInsertion_6 24 rfl rfl
theorem dksJ1_fixAfterInsertion_8 : cJ1_fixAfterInsertion.data.toList.drop 190 = dktJ1_fixAfterInsertion_8 := dk_seg dksJ1_fixAfterInsertion_7 24 rfl rfl
theorem dksJ1_fixAfterInsertion_9 : cJ1_fixAfterInsertion.data.toList.drop 212 = dktJ1_fixAfterInsertion_9 := dk_seg dksJ1_fixAfterInsertion_8 22 rfl rfl
theorem dksJ1_fixAfterInsertion_10 : cJ1_fixAfterInsertion.data.toList.drop 234 = dktJ1_fixAfterInsertion_10 := dk_seg dksJ1_fixAfterInsertion_9 22 rfl rfl
theorem dksJ1_fixAfterInsertion_11 : cJ1_fixAfterInsertion.data.toList.drop 258 = dktJ1_fixAfterInsertion_11 := dk_seg dksJ1_fixAfterInsertion_10 24 rfl rfl
theorem dJ1_fixAfterInsertion_0 : decode cJ1_fixAfterInsertion 0 = .ok (.aload_n 1, 1) := dk_43 (dk_at dksJ1_fixAfterInsertion_0 0 rfl rfl)
theorem dJ1_fixAfterInsertion_1 : decode cJ1_fixAfterInsertion 1 = .ok (.iconst 0, 1) := dk_3 (dk_at dksJ1_fixAfterInsertion_0 1 rfl rfl)
theorem dJ1_fixAfterInsertion_2 : decode cJ1_fixAfterInsertion 2 = .ok (.putfield 290, 3) := dk_181 1 34 (dk_at dksJ1_fixAfterInsertion_0 2 rfl rfl)
theorem dJ1_fixAfterInsertion_5 : decode cJ1_fixAfterInsertion 5 = .ok (.aload_n 1, 1) := dk_43 (dk_at dksJ1_fixAfterInsertion_0 5 rfl rfl)
theorem dJ1_fixAfterInsertion_6 : decode cJ1_fixAfterInsertion 6 = .ok (.ifnull 252, 3) := dk_198 0 252 (dk_at dksJ1_fixAfterInsertion_0 6 rfl rfl)
theorem dJ1_fixAfterInsertion_9 : decode cJ1_fixAfterInsertion 9 = .ok (.aload_n 1, 1) := dk_43 (dk_at dksJ1_fixAfterInsertion_0 9 rfl rfl)
theorem dJ1_fixAfterInsertion_10 : decode cJ1_fixAfterInsertion 10 = .ok (.aload_n 0, 1) := dk_42 (dk_at dksJ1_fixAfterInsertion_0 10 rfl rfl)
theorem dJ1_fixAfterInsertion_11 : decode cJ1_fixAfterInsertion 11 = .ok (.getfield 101, 3) := dk_180 0 101 (dk_at dksJ1_fixAfterInsertion_0 11 rfl rfl)
theorem dJ1_fixAfterInsertion_14 : decode cJ1_fixAfterInsertion 14 = .ok (.if_acmp .eq 244, 3) := dk_165 0 244 (dk_at dksJ1_fixAfterInsertion_0 14 rfl rfl)
theorem dJ1_fixAfterInsertion_17 : decode cJ1_fixAfterInsertion 17 = .ok (.aload_n 1, 1) := dk_43 (dk_at dksJ1_fixAfterInsertion_0 17 rfl rfl)
theorem dJ1_fixAfterInsertion_18 : decode cJ1_fixAfterInsertion 18 = .ok (.getfield 124, 3) := dk_180 0 124 (dk_at dksJ1_fixAfterInsertion_0 18 rfl rfl)
theorem dJ1_fixAfterInsertion_21 : decode cJ1_fixAfterInsertion 21 = .ok (.getfield 290, 3) := dk_180 1 34 (dk_at dksJ1_fixAfterInsertion_0 21 rfl rfl)
theorem dJ1_fixAfterInsertion_24 : decode cJ1_fixAfterInsertion 24 = .ok (.ifCond .ne 234, 3) := dk_154 0 234 (dk_at dksJ1_fixAfterInsertion_1 0 rfl rfl)
theorem dJ1_fixAfterInsertion_27 : decode cJ1_fixAfterInsertion 27 = .ok (.aload_n 1, 1) := dk_43 (dk_at dksJ1_fixAfterInsertion_1 3 rfl rfl)
theorem dJ1_fixAfterInsertion_28 : decode cJ1_fixAfterInsertion 28 = .ok (.invokestatic 294, 3) := dk_184 1 38 (dk_at dksJ1_fixAfterInsertion_1 4 rfl rfl)
theorem dJ1_fixAfterInsertion_31 : decode cJ1_fixAfterInsertion 31 = .ok (.aload_n 1, 1) := dk_43 (dk_at dksJ1_fixAfterInsertion_1 7 rfl rfl)
theorem dJ1_fixAfterInsertion_32 : decode cJ1_fixAfterInsertion 32 = .ok (.invokestatic 294, 3) := dk_184 1 38 (dk_at dksJ1_fixAfterInsertion_1 8 rfl rfl)
theorem dJ1_fixAfterInsertion_35 : decode cJ1_fixAfterInsertion 35 = .ok (.invokestatic 294, 3) := dk_184 1 38 (dk_at dksJ1_fixAfterInsertion_1 11 rfl rfl)
theorem dJ1_fixAfterInsertion_38 : decode cJ1_fixAfterInsertion 38 = .ok (.invokestatic 297, 3) := dk_184 1 41 (dk_at dksJ1_fixAfterInsertion_1 14 rfl rfl)
theorem dJ1_fixAfterInsertion_41 : decode cJ1_fixAfterInsertion 41 = .ok (.if_acmp .ne 110, 3) := dk_166 0 110 (dk_at dksJ1_fixAfterInsertion_1 17 rfl rfl)
theorem dJ1_fixAfterInsertion_44 : decode cJ1_fixAfterInsertion 44 = .ok (.aload_n 1, 1) := dk_43 (dk_at dksJ1_fixAfterInsertion_1 20 rfl rfl)
theorem dJ1_fixAfterInsertion_45 : decode cJ1_fixAfterInsertion 45 = .ok (.invokestatic 294, 3) := dk_184 1 38 (dk_at dksJ1_fixAfterInsertion_1 21 rfl rfl)
theorem dJ1_fixAfterInsertion_48 : decode cJ1_fixAfterInsertion 48 = .ok (.invokestatic 294, 3) := dk_184 1 38 (dk_at dksJ1_fixAfterInsertion_2 0 rfl rfl)
theorem dJ1_fixAfterInsertion_51 : decode cJ1_fixAfterInsertion 51 = .ok (.invokestatic 300, 3) := dk_184 1 44 (dk_at dksJ1_fixAfterInsertion_2 3 rfl rfl)
theorem dJ1_fixAfterInsertion_54 : decode cJ1_fixAfterInsertion 54 = .ok (.astore_n 2, 1) := dk_77 (dk_at dksJ1_fixAfterInsertion_2 6 rfl rfl)
theorem dJ1_fixAfterInsertion_55 : decode cJ1_fixAfterInsertion 55 = .ok (.aload_n 2, 1) := dk_44 (dk_at dksJ1_fixAfterInsertion_2 7 rfl rfl)
theorem dJ1_fixAfterInsertion_56 : decode cJ1_fixAfterInsertion 56 = .ok (.invokestatic 303, 3) := dk_184 1 47 (dk_at dksJ1_fixAfterInsertion_2 8 rfl rfl)
theorem dJ1_fixAfterInsertion_59 : decode cJ1_fixAfterInsertion 59 = .ok (.ifCond .ne 38, 3) := dk_154 0 38 (dk_at dksJ1_fixAfterInsertion_2 11 rfl rfl)
theorem dJ1_fixAfterInsertion_62 : decode cJ1_fixAfterInsertion 62 = .ok (.aload_n 1, 1) := dk_43 (dk_at dksJ1_fixAfterInsertion_2 14 rfl rfl)
theorem dJ1_fixAfterInsertion_63 : decode cJ1_fixAfterInsertion 63 = .ok (.invokestatic 294, 3) := dk_184 1 38 (dk_at dksJ1_fixAfterInsertion_2 15 rfl rfl)
theorem dJ1_fixAfterInsertion_66 : decode cJ1_fixAfterInsertion 66 = .ok (.iconst 1, 1) := dk_4 (dk_at dksJ1_fixAfterInsertion_2 18 rfl rfl)
theorem dJ1_fixAfterInsertion_67 : decode cJ1_fixAfterInsertion 67 = .ok (.invokestatic 307, 3) := dk_184 1 51 (dk_at dksJ1_fixAfterInsertion_2 19 rfl rfl)
theorem dJ1_fixAfterInsertion_70 : decode cJ1_fixAfterInsertion 70 = .ok (.aload_n 2, 1) := dk_44 (dk_at dksJ1_fixAfterInsertion_2 22 rfl rfl)
theorem dJ1_fixAfterInsertion_71 : decode cJ1_fixAfterInsertion 71 = .ok (.iconst 1, 1) := dk_4 (dk_at dksJ1_fixAfterInsertion_2 23 rfl rfl)
theorem dJ1_fixAfterInsertion_72 : decode cJ1_fixAfterInsertion 72 = .ok (.invokestatic 307, 3) := dk_184 1 51 (dk_at dksJ1_fixAfterInsertion_3 0 rfl rfl)
theorem dJ1_fixAfterInsertion_75 : decode cJ1_fixAfterInsertion 75 = .ok (.aload_n 1, 1) := dk_43 (dk_at dksJ1_fixAfterInsertion_3 3 rfl rfl)
theorem dJ1_fixAfterInsertion_76 : decode cJ1_fixAfterInsertion 76 = .ok (.invokestatic 294, 3) := dk_184 1 38 (dk_at dksJ1_fixAfterInsertion_3 4 rfl rfl)
theorem dJ1_fixAfterInsertion_79 : decode cJ1_fixAfterInsertion 79 = .ok (.invokestatic 294, 3) := dk_184 1 38 (dk_at dksJ1_fixAfterInsertion_3 7 rfl rfl)
theorem dJ1_fixAfterInsertion_82 : decode cJ1_fixAfterInsertion 82 = .ok (.iconst 0, 1) := dk_3 (dk_at dksJ1_fixAfterInsertion_3 10 rfl rfl)
theorem dJ1_fixAfterInsertion_83 : decode cJ1_fixAfterInsertion 83 = .ok (.invokestatic 307, 3) := dk_184 1 51 (dk_at dksJ1_fixAfterInsertion_3 11 rfl rfl)
theorem dJ1_fixAfterInsertion_86 : decode cJ1_fixAfterInsertion 86 = .ok (.aload_n 1, 1) := dk_43 (dk_at dksJ1_fixAfterInsertion_3 14 rfl rfl)
theorem dJ1_fixAfterInsertion_87 : decode cJ1_fixAfterInsertion 87 = .ok (.invokestatic 294, 3) := dk_184 1 38 (dk_at dksJ1_fixAfterInsertion_3 15 rfl rfl)
theorem dJ1_fixAfterInsertion_90 : decode cJ1_fixAfterInsertion 90 = .ok (.invokestatic 294, 3) := dk_184 1 38 (dk_at dksJ1_fixAfterInsertion_3 18 rfl rfl)
theorem dJ1_fixAfterInsertion_93 : decode cJ1_fixAfterInsertion 93 = .ok (.astore_n 1, 1) := dk_76 (dk_at dksJ1_fixAfterInsertion_3 21 rfl rfl)
theorem dJ1_fixAfterInsertion_94 : decode cJ1_fixAfterInsertion 94 = .ok (.goto 54, 3) := dk_167 0 54 (dk_at dksJ1_fixAfterInsertion_4 0 rfl rfl)
theorem dJ1_fixAfterInsertion_97 : decode cJ1_fixAfterInsertion 97 = .ok (.aload_n 1, 1) := dk_43 (dk_at dksJ1_fixAfterInsertion_4 3 rfl rfl)
theorem dJ1_fixAfterInsertion_98 : decode cJ1_fixAfterInsertion 98 = .ok (.aload_n 1, 1) := dk_43 (dk_at dksJ1_fixAfterInsertion_4 4 rfl rfl)
theorem dJ1_fixAfterInsertion_99 : decode cJ1_fixAfterInsertion 99 = .ok (.invokestatic 294, 3) := dk_184 1 38 (dk_at dksJ1_fixAfterInsertion_4 5 rfl rfl)
theorem dJ1_fixAfterInsertion_102 : decode cJ1_fixAfterInsertion 102 = .ok (.invokestatic 300, 3) := dk_184 1 44 (dk_at dksJ1_fixAfterInsertion_4 8 rfl rfl)
theorem dJ1_fixAfterInsertion_105 : decode cJ1_fixAfterInsertion 105 = .ok (.if_acmp .ne 13, 3) := dk_166 0 13 (dk_at dksJ1_fixAfterInsertion_4 11 rfl rfl)
theorem dJ1_fixAfterInsertion_108 : decode cJ1_fixAfterInsertion 108 = .ok (.aload_n 1, 1) := dk_43 (dk_at dksJ1_fixAfterInsertion_4 14 rfl rfl)
theorem dJ1_fixAfterInsertion_109 : decode cJ1_fixAfterInsertion 109 = .ok (.invokestatic 294, 3) := dk_184 1 38 (dk_at dksJ1_fixAfterInsertion_4 15 rfl rfl)
theorem dJ1_fixAfterInsertion_112 : decode cJ1_fixAfterInsertion 112 = .ok (.astore_n 1, 1) := dk_76 (dk_at dksJ1_fixAfterInsertion_4 18 rfl rfl)
theorem dJ1_fixAfterInsertion_113 : decode cJ1_fixAfterInsertion 113 = .ok (.aload_n 0, 1) := dk_42 (dk_at dksJ1_fixAfterInsertion_4 19 rfl rfl)
theorem dJ1_fixAfterInsertion_114 : decode cJ1_fixAfterInsertion 114 = .ok (.aload_n 1, 1) := dk_43 (dk_at dksJ1_fixAfterInsertion_4 20 rfl rfl)
theorem dJ1_fixAfterInsertion_115 : decode cJ1_fixAfterInsertion 115 = .ok (.invokevirtual 311, 3) := dk_182 1 55 (dk_at dksJ1_fixAfterInsertion_4 21 rfl rfl)
theorem dJ1_fixAfterInsertion_118 : decode cJ1_fixAfterInsertion 118 = .ok (.aload_n 1, 1) := dk_43 (dk_at dksJ1_fixAfterInsertion_5 0 rfl rfl)
theorem dJ1_fixAfterInsertion_119 : decode cJ1_fixAfterInsertion 119 = .ok (.invokestatic 294, 3) := dk_184 1 38 (dk_at dksJ1_fixAfterInsertion_5 1 rfl rfl)
theorem dJ1_fixAfterInsertion_122 : decode cJ1_fixAfterInsertion 122 = .ok (.iconst 1, 1) := dk_4 (dk_at dksJ1_fixAfterInsertion_5 4 rfl rfl)
theorem dJ1_fixAfterInsertion_123 : decode cJ1_fixAfterInsertion 123 = .ok (.invokestatic 307, 3) := dk_184 1 51 (dk_at dksJ1_fixAfterInsertion_5 5 rfl rfl)
theorem dJ1_fixAfterInsertion_126 : decode cJ1_fixAfterInsertion 126 = .ok (.aload_n 1, 1) := dk_43 (dk_at dksJ1_fixAfterInsertion_5 8 rfl rfl)
theorem dJ1_fixAfterInsertion_127 : decode cJ1_fixAfterInsertion 127 = .ok (.invokestatic 294, 3) := dk_184 1 38 (dk_at dksJ1_fixAfterInsertion_5 9 rfl rfl)
theorem dJ1_fixAfterInsertion_130 : decode cJ1_fixAfterInsertion 130 = .ok (.invokestatic 294, 3) := dk_184 1 38 (dk_at dksJ1_fixAfterInsertion_5 12 rfl rfl)
theorem dJ1_fixAfterInsertion_133 : decode cJ1_fixAfterInsertion 133 = .ok (.iconst 0, 1) := dk_3 (dk_at dksJ1_fixAfterInsertion_5 15 rfl rfl)
theorem dJ1_fixAfterInsertion_134 : decode cJ1_fixAfterInsertion 134 = .ok (.invokestatic 307, 3) := dk_184 1 51 (dk_at dksJ1_fixAfterInsertion_5 16 rfl rfl)
theorem dJ1_fixAfterInsertion_137 : decode cJ1_fixAfterInsertion 137 = .ok (.aload_n 0, 1) := dk_42 (dk_at dksJ1_fixAfterInsertion_5 19 rfl rfl)
theorem dJ1_fixAfterInsertion_138 : decode cJ1_fixAfterInsertion 138 = .ok (.aload_n 1, 1) := dk_43 (dk_at dksJ1_fixAfterInsertion_5 20 rfl rfl)
theorem dJ1_fixAfterInsertion_139 : decode cJ1_fixAfterInsertion 139 = .ok (.invokestatic 294, 3) := dk_184 1 38 (dk_at dksJ1_fixAfterInsertion_5 21 rfl rfl)
theorem dJ1_fixAfterInsertion_142 : decode cJ1_fixAfterInsertion 142 = .ok (.invokestatic 294, 3) := dk_184 1 38 (dk_at dksJ1_fixAfterInsertion_6 0 rfl rfl)
theorem dJ1_fixAfterInsertion_145 : decode cJ1_fixAfterInsertion 145 = .ok (.invokevirtual 314, 3) := dk_182 1 58 (dk_at dksJ1_fixAfterInsertion_6 3 rfl rfl)
theorem dJ1_fixAfterInsertion_148 : decode cJ1_fixAfterInsertion 148 = .ok (.goto (-143), 3) := dk_167 255 113 (dk_at dksJ1_fixAfterInsertion_6 6 rfl rfl)
theorem dJ1_fixAfterInsertion_151 : decode cJ1_fixAfterInsertion 151 = .ok (.aload_n 1, 1) := dk_43 (dk_at dksJ1_fixAfterInsertion_6 9 rfl rfl)
theorem dJ1_fixAfterInsertion_152 : decode cJ1_fixAfterInsertion 152 = .ok (.invokestatic 294, 3) := dk_184 1 38 (dk_at dksJ1_fixAfterInsertion_6 10 rfl rfl)
theorem dJ1_fixAfterInsertion_155 : decode cJ1_fixAfterInsertion 155 = .ok (.invokestatic 294, 3) := dk_184 1 38 (dk_at dksJ1_fixAfterInsertion_6 13 rfl rfl)
theorem dJ1_fixAfterInsertion_158 : decode cJ1_fixAfterInsertion 158 = .ok (.invokestatic 297, 3) := dk_184 1 41 (dk_at dksJ1_fixAfterInsertion_6 16 rfl rfl)
theorem dJ1_fixAfterInsertion_161 : decode cJ1_fixAfterInsertion 161 = .ok (.astore_n 2, 1) := dk_77 (dk_at dksJ1_fixAfterInsertion_6 19 rfl rfl)
theorem dJ1_fixAfterInsertion_162 : decode cJ1_fixAfterInsertion 162 = .ok (.aload_n 2, 1) := dk_44 (dk_at dksJ1_fixAfterInsertion_6 20 rfl rfl)
theorem dJ1_fixAfterInsertion_163 : decode cJ1_fixAfterInsertion 163 = .ok (.invokestatic 303, 3) := dk_184 1 47 (dk_at dksJ1_fixAfterInsertion_6 21 rfl rfl)
theorem dJ1_fixAfterInsertion_166 : decode cJ1_fixAfterInsertion 166 = .ok (.ifCond .ne 38, 3) := dk_154 0 38 (dk_at dksJ1_fixAfterInsertion_7 0 rfl rfl)
theorem dJ1_fixAfterInsertion_169 : decode cJ1_fixAfterInsertion 169 = .ok (.aload_n 1, 1) := dk_43 (dk_at dksJ1_fixAfterInsertion_7 3 rfl rfl)
theorem dJ1_fixAfterInsertion_170 : decode cJ1_fixAfterInsertion 170 = .ok (.invokestatic 294, 3) := dk_184 1 38 (dk_at dksJ1_fixAfterInsertion_7 4 rfl rfl)
theorem dJ1_fixAfterInsertion_173 : decode cJ1_fixAfterInsertion 173 = .ok (.iconst 1, 1) := dk_4 (dk_at dksJ1_fixAfterInsertion_7 7 rfl rfl)
theorem dJ1_fixAfterInsertion_174 : decode cJ1_fixAfterInsertion 174 = .ok (.invokestatic 307, 3) := dk_184 1 51 (dk_at dksJ1_fixAfterInsertion_7 8 rfl rfl)
theorem dJ1_fixAfterInsertion_177 : decode cJ1_fixAfterInsertion 177 = .ok (.aload_n 2, 1) := dk_44 (dk_at dksJ1_fixAfterInsertion_7 11 rfl rfl)
theorem dJ1_fixAfterInsertion_178 : decode cJ1_fixAfterInsertion 178 = .ok (.iconst 1, 1) := dk_4 (dk_at dksJ1_fixAfterInsertion_7 12 rfl rfl)
theorem dJ1_fixAfterInsertion_179 : decode cJ1_fixAfterInsertion 179 = .ok (.invokestatic 307, 3) := dk_184 1 51 (dk_at dksJ1_fixAfterInsertion_7 13 rfl rfl)
theorem dJ1_fixAfterInsertion_182 : decode cJ1_fixAfterInsertion 182 = .ok (.aload_n 1, 1) := dk_43 (dk_at dksJ1_fixAfterInsertion_7 16 rfl rfl)
theorem dJ1_fixAfterInsertion_183 : decode cJ1_fixAfterInsertion 183 = .ok (.invokestatic 294, 3) := dk_184 1 38 (dk_at dksJ1_fixAfterInsertion_7 17 rfl rfl)
theorem dJ1_fixAfterInsertion_186 : decode cJ1_fixAfterInsertion 186 = .ok (.invokestatic 294, 3) := dk_184 1 38 (dk_at dksJ1_fixAfterInsertion_7 20 rfl rfl)
theorem dJ1_fixAfterInsertion_189 : decode cJ1_fixAfterInsertion 189 = .ok (.iconst 0, 1) := dk_3 (dk_at dksJ1_fixAfterInsertion_7 23 rfl rfl)
theorem dJ1_fixAfterInsertion_190 : decode cJ1_fixAfterInsertion 190 = .ok (.invokestatic 307, 3) := dk_184 1 51 (dk_at dksJ1_fixAfterInsertion_8 0 rfl rfl)
theorem dJ1_fixAfterInsertion_193 : decode cJ1_fixAfterInsertion 193 = .ok (.aload_n 1, 1) := dk_43 (dk_at dksJ1_fixAfterInsertion_8 3 rfl rfl)
theorem dJ1_fixAfterInsertion_194 : decode cJ1_fixAfterInsertion 194 = .ok (.invokestatic 294, 3) := dk_184 1 38 (dk_at dksJ1_fixAfterInsertion_8 4 rfl rfl)
theorem dJ1_fixAfterInsertion_197 : decode cJ1_fixAfterInsertion 197 = .ok (.invokestatic 294, 3) := dk_184 1 38 (dk_at dksJ1_fixAfterInsertion_8 7 rfl rfl)
theorem dJ1_fixAfterInsertion_200 : decode cJ1_fixAfterInsertion 200 = .ok (.astore_n 1, 1) := dk_76 (dk_at dksJ1_fixAfterInsertion_8 10 rfl rfl)
theorem dJ1_fixAfterInsertion_201 : decode cJ1_fixAfterInsertion 201 = .ok (.goto 54, 3) := dk_167 0 54 (dk_at dksJ1_fixAfterInsertion_8 11 rfl rfl)
theorem dJ1_fixAfterInsertion_204 : decode cJ1_fixAfterInsertion 204 = .ok (.aload_n 1, 1) := dk_43 (dk_at dksJ1_fixAfterInsertion_8 14 rfl rfl)
theorem dJ1_fixAfterInsertion_205 : decode cJ1_fixAfterInsertion 205 = .ok (.aload_n 1, 1) := dk_43 (dk_at dksJ1_fixAfterInsertion_8 15 rfl rfl)
theorem dJ1_fixAfterInsertion_206 : decode cJ1_fixAfterInsertion 206 = .ok (.invokestatic 294, 3) := dk_184 1 38 (dk_at dksJ1_fixAfterInsertion_8 16 rfl rfl)
theorem dJ1_fixAfterInsertion_209 : decode cJ1_fixAfterInsertion 209 = .ok (.invokestatic 297, 3) := dk_184 1 41 (dk_at dksJ1_fixAfterInsertion_8 19 rfl rfl)
theorem dJ1_fixAfterInsertion_212 : decode cJ1_fixAfterInsertion 212 = .ok (.if_acmp .ne 13, 3) := dk_166 0 13 (dk_at dksJ1_fixAfterInsertion_9 0 rfl rfl)
theorem dJ1_fixAfterInsertion_215 : decode cJ1_fixAfterInsertion 215 = .ok (.aload_n 1, 1) := dk_43 (dk_at dksJ1_fixAfterInsertion_9 3 rfl rfl)
theorem dJ1_fixAfterInsertion_216 : decode cJ1_fixAfterInsertion 216 = .ok (.invokestatic 294, 3) := dk_184 1 38 (dk_at dksJ1_fixAfterInsertion_9 4 rfl rfl)
theorem dJ1_fixAfterInsertion_219 : decode cJ1_fixAfterInsertion 219 = .ok (.astore_n 1, 1) := dk_76 (dk_at dksJ1_fixAfterInsertion_9 7 rfl rfl)
theorem dJ1_fixAfterInsertion_220 : decode cJ1_fixAfterInsertion 220 = .ok (.aload_n 0, 1) := dk_42 (dk_at dksJ1_fixAfterInsertion_9 8 rfl rfl)
theorem dJ1_fixAfterInsertion_221 : decode cJ1_fixAfterInsertion 221 = .ok (.aload_n 1, 1) := dk_43 (dk_at dksJ1_fixAfterInsertion_9 9 rfl rfl)
theorem dJ1_fixAfterInsertion_222 : decode cJ1_fixAfterInsertion 222 = .ok (.invokevirtual 314, 3) := dk_182 1 58 (dk_at dksJ1_fixAfterInsertion_9 10 rfl rfl)
theorem dJ1_fixAfterInsertion_225 : decode cJ1_fixAfterInsertion 225 = .ok (.aload_n 1, 1) := dk_43 (dk_at dksJ1_fixAfterInsertion_9 13 rfl rfl)
theorem dJ1_fixAfterInsertion_226 : decode cJ1_fixAfterInsertion 226 = .ok (.invokestatic 294, 3) := dk_184 1 38 (dk_at dksJ1_fixAfterInsertion_9 14 rfl rfl)
theorem dJ1_fixAfterInsertion_229 : decode cJ1_fixAfterInsertion 229 = .ok (.iconst 1, 1) := dk_4 (dk_at dksJ1_fixAfterInsertion_9 17 rfl rfl)
theorem dJ1_fixAfterInsertion_230 : decode cJ1_fixAfterInsertion 230 = .ok (.invokestatic 307, 3) := dk_184 1 51 (dk_at dksJ1_fixAfterInsertion_9 18 rfl rfl)
theorem dJ1_fixAfterInsertion_233 : decode cJ1_fixAfterInsertion 233 = .ok (.aload_n 1, 1) := dk_43 (dk_at dksJ1_fixAfterInsertion_9 21 rfl rfl)
theorem dJ1_fixAfterInsertion_234 : decode cJ1_fixAfterInsertion 234 = .ok (.invokestatic 294, 3) := dk_184 1 38 (dk_at dksJ1_fixAfterInsertion_10 0 rfl rfl)
theorem dJ1_fixAfterInsertion_237 : decode cJ1_fixAfterInsertion 237 = .ok (.invokestatic 294, 3) := dk_184 1 38 (dk_at dksJ1_fixAfterInsertion_10 3 rfl rfl)
theorem dJ1_fixAfterInsertion_240 : decode cJ1_fixAfterInsertion 240 = .ok (.iconst 0, 1) := dk_3 (dk_at dksJ1_fixAfterInsertion_10 6 rfl rfl)
theorem dJ1_fixAfterInsertion_241 : decode cJ1_fixAfterInsertion 241 = .ok (.invokestatic 307, 3) := dk_184 1 51 (dk_at dksJ1_fixAfterInsertion_10 7 rfl rfl)
theorem dJ1_fixAfterInsertion_244 : decode cJ1_fixAfterInsertion 244 = .ok (.aload_n 0, 1) := dk_42 (dk_at dksJ1_fixAfterInsertion_10 10 rfl rfl)
theorem dJ1_fixAfterInsertion_245 : decode cJ1_fixAfterInsertion 245 = .ok (.aload_n 1, 1) := dk_43 (dk_at dksJ1_fixAfterInsertion_10 11 rfl rfl)
theorem dJ1_fixAfterInsertion_246 : decode cJ1_fixAfterInsertion 246 = .ok (.invokestatic 294, 3) := dk_184 1 38 (dk_at dksJ1_fixAfterInsertion_10 12 rfl rfl)
theorem dJ1_fixAfterInsertion_249 : decode cJ1_fixAfterInsertion 249 = .ok (.invokestatic 294, 3) := dk_184 1 38 (dk_at dksJ1_fixAfterInsertion_10 15 rfl rfl)
theorem dJ1_fixAfterInsertion_252 : decode cJ1_fixAfterInsertion 252 = .ok (.invokevirtual 311, 3) := dk_182 1 55 (dk_at dksJ1_fixAfterInsertion_10 18 rfl rfl)
theorem dJ1_fixAfterInsertion_255 : decode cJ1_fixAfterInsertion 255 = .ok (.goto (-250), 3) := dk_167 255 6 (dk_at dksJ1_fixAfterInsertion_10 21 rfl rfl)
theorem dJ1_fixAfterInsertion_258 : decode cJ1_fixAfterInsertion 258 = .ok (.aload_n 0, 1) := dk_42 (dk_at dksJ1_fixAfterInsertion_11 0 rfl rfl)
theorem dJ1_fixAfterInsertion_259 : decode cJ1_fixAfterInsertion 259 = .ok (.getfield 101, 3) := dk_180 0 101 (dk_at dksJ1_fixAfterInsertion_11 1 rfl rfl)
theorem dJ1_fixAfterInsertion_262 : decode cJ1_fixAfterInsertion 262 = .ok (.iconst 1, 1) := dk_4 (dk_at dksJ1_fixAfterInsertion_11 4 rfl rfl)
theorem dJ1_fixAfterInsertion_263 : decode cJ1_fixAfterInsertion 263 = .ok (.putfield 290, 3) := dk_181 1 34 (dk_at dksJ1_fixAfterInsertion_11 5 rfl rfl)
theorem dJ1_fixAfterInsertion_266 : decode cJ1_fixAfterInsertion 266 = .ok (.return_, 1) := dk_177 (dk_at dksJ1_fixAfterInsertion_11 8 rfl rfl)
abbrev cJ1_parentOf : ByteArray := prog_76_method_77_code
def yJ1_parentOf : MethodName := ⟨RJ1, "parentOf", "(Ljava/util/TreeMap$Entry;)Ljava/util/TreeMap$Entry;"⟩
def dkwJ1_parentOf_0 : List UInt8 := [42, 199, 0, 7, 1, 167, 0, 7, 42, 180, 0, 124, 176]
abbrev dktJ1_parentOf_0 : List UInt8 := dkwJ1_parentOf_0 ++ []
theorem dksJ1_parentOf_0 : cJ1_parentOf.data.toList.drop 0 = dktJ1_parentOf_0 := by decide +kernel
theorem dJ1_parentOf_0 : decode cJ1_parentOf 0 = .ok (.aload_n 0, 1) := dk_42 (dk_at dksJ1_parentOf_0 0 rfl rfl)
theorem dJ1_parentOf_1 : decode cJ1_parentOf 1 = .ok (.ifnonnull 7, 3) := dk_199 0 7 (dk_at dksJ1_parentOf_0 1 rfl rfl)
theorem dJ1_parentOf_4 : decode cJ1_parentOf 4 = .ok (.aconst_null, 1) := dk_1 (dk_at dksJ1_parentOf_0 4 rfl rfl)
theorem dJ1_parentOf_5 : decode cJ1_parentOf 5 = .ok (.goto 7, 3) := dk_167 0 7 (dk_at dksJ1_parentOf_0 5 rfl rfl)
theorem dJ1_parentOf_8 : decode cJ1_parentOf 8 = .ok (.aload_n 0, 1) := dk_42 (dk_at dksJ1_parentOf_0 8 rfl rfl)
theorem dJ1_parentOf_9 : decode cJ1_parentOf 9 = .ok (.getfield 124, 3) := dk_180 0 124 (dk_at dksJ1_parentOf_0 9 rfl rfl)
theorem dJ1_parentOf_12 : decode cJ1_parentOf 12 = .ok (.areturn, 1) := dk_176 (dk_at dksJ1_parentOf_0 12 rfl rfl)
abbrev cJ1_leftOf : ByteArray := prog_76_method_79_code
def yJ1_leftOf : MethodName := ⟨RJ1, "leftOf", "(Ljava/util/TreeMap$Entry;)Ljava/util/TreeMap$Entry;"⟩
def dkwJ1_leftOf_0 : List UInt8 := [42, 199, 0, 7, 1, 167, 0, 7, 42, 180, 0, 111, 176]
abbrev dktJ1_leftOf_0 : List UInt8 := dkwJ1_leftOf_0 ++ []
theorem dksJ1_leftOf_0 : cJ1_leftOf.data.toList.drop 0 = dktJ1_leftOf_0 := by decide +kernel
theorem dJ1_leftOf_0 : decode cJ1_leftOf 0 = .ok (.aload_n 0, 1) := dk_42 (dk_at dksJ1_leftOf_0 0 rfl rfl)
theorem dJ1_leftOf_1 : decode cJ1_leftOf 1 = .ok (.ifnonnull 7, 3) := dk_199 0 7 (dk_at dksJ1_leftOf_0 1 rfl rfl)
theorem dJ1_leftOf_4 : decode cJ1_leftOf 4 = .ok (.aconst_null, 1) := dk_1 (dk_at dksJ1_leftOf_0 4 rfl rfl)
theorem dJ1_leftOf_5 : decode cJ1_leftOf 5 = .ok (.goto 7, 3) := dk_167 0 7 (dk_at dksJ1_leftOf_0 5 rfl rfl)
theorem dJ1_leftOf_8 : decode cJ1_leftOf 8 = .ok (.aload_n 0, 1) := dk_42 (dk_at dksJ1_leftOf_0 8 rfl rfl)
theorem dJ1_leftOf_9 : decode cJ1_leftOf 9 = .ok (.getfield 111, 3) := dk_180 0 111 (dk_at dksJ1_leftOf_0 9 rfl rfl)
theorem dJ1_leftOf_12 : decode cJ1_leftOf 12 = .ok (.areturn, 1) := dk_176 (dk_at dksJ1_leftOf_0 12 rfl rfl)
abbrev cJ1_rightOf : ByteArray := prog_76_method_80_code
def yJ1_rightOf : MethodName := ⟨RJ1, "rightOf", "(Ljava/util/TreeMap$Entry;)Ljava/util/TreeMap$Entry;"⟩
def dkwJ1_rightOf_0 : List UInt8 := [42, 199, 0, 7, 1, 167, 0, 7, 42, 180, 0, 114, 176]
abbrev dktJ1_rightOf_0 : List UInt8 := dkwJ1_rightOf_0 ++ []
theorem dksJ1_rightOf_0 : cJ1_rightOf.data.toList.drop 0 = dktJ1_rightOf_0 := by decide +kernel
theorem dJ1_rightOf_0 : decode cJ1_rightOf 0 = .ok (.aload_n 0, 1) := dk_42 (dk_at dksJ1_rightOf_0 0 rfl rfl)
theorem dJ1_rightOf_1 : decode cJ1_rightOf 1 = .ok (.ifnonnull 7, 3) := dk_199 0 7 (dk_at dksJ1_rightOf_0 1 rfl rfl)
theorem dJ1_rightOf_4 : decode cJ1_rightOf 4 = .ok (.aconst_null, 1) := dk_1 (dk_at dksJ1_rightOf_0 4 rfl rfl)
theorem dJ1_rightOf_5 : decode cJ1_rightOf 5 = .ok (.goto 7, 3) := dk_167 0 7 (dk_at dksJ1_rightOf_0 5 rfl rfl)
theorem dJ1_rightOf_8 : decode cJ1_rightOf 8 = .ok (.aload_n 0, 1) := dk_42 (dk_at dksJ1_rightOf_0 8 rfl rfl)
theorem dJ1_rightOf_9 : decode cJ1_rightOf 9 = .ok (.getfield 114, 3) := dk_180 0 114 (dk_at dksJ1_rightOf_0 9 rfl rfl)
theorem dJ1_rightOf_12 : decode cJ1_rightOf 12 = .ok (.areturn, 1) := dk_176 (dk_at dksJ1_rightOf_0 12 rfl rfl)
abbrev cJ1_colorOf : ByteArray := prog_76_method_76_code
def yJ1_colorOf : MethodName := ⟨RJ1, "colorOf", "(Ljava/util/TreeMap$Entry;)Z"⟩
def dkwJ1_colorOf_0 : List UInt8 := [42, 199, 0, 7, 4, 167, 0, 7, 42, 180, 1, 34, 172]
abbrev dktJ1_colorOf_0 : List UInt8 := dkwJ1_colorOf_0 ++ []
theorem dksJ1_colorOf_0 : cJ1_colorOf.data.toList.drop 0 = dktJ1_colorOf_0 := by decide +kernel
theorem dJ1_colorOf_0 : decode cJ1_colorOf 0 = .ok (.aload_n 0, 1) := dk_42 (dk_at dksJ1_colorOf_0 0 rfl rfl)
theorem dJ1_colorOf_1 : decode cJ1_colorOf 1 = .ok (.ifnonnull 7, 3) := dk_199 0 7 (dk_at dksJ1_colorOf_0 1 rfl rfl)
theorem dJ1_colorOf_4 : decode cJ1_colorOf 4 = .ok (.iconst 1, 1) := dk_4 (dk_at dksJ1_colorOf_0 4 rfl rfl)
theorem dJ1_colorOf_5 : decode cJ1_colorOf 5 = .ok (.goto 7, 3) := dk_167 0 7 (dk_at dksJ1_colorOf_0 5 rfl rfl)
theorem dJ1_colorOf_8 : decode cJ1_colorOf 8 = .ok (.aload_n 0, 1) := dk_42 (dk_at dksJ1_colorOf_0 8 rfl rfl)
theorem dJ1_colorOf_9 : decode cJ1_colorOf 9 = .ok (.getfield 290, 3) := dk_180 1 34 (dk_at dksJ1_colorOf_0 9 rfl rfl)
theorem dJ1_colorOf_12 : decode cJ1_colorOf 12 = .ok (.ireturn, 1) := dk_172 (dk_at dksJ1_colorOf_0 12 rfl rfl)
abbrev cJ1_setColor : ByteArray := prog_76_method_78_code
def yJ1_setColor : MethodName := ⟨RJ1, "setColor", "(Ljava/util/TreeMap$Entry;Z)V"⟩
def dkwJ1_setColor_0 : List UInt8 := [42, 198, 0, 8, 42, 27, 181, 1, 34, 177]
abbrev dktJ1_setColor_0 : List UInt8 := dkwJ1_setColor_0 ++ []
theorem dksJ1_setColor_0 : cJ1_setColor.data.toList.drop 0 = dktJ1_setColor_0 := by decide +kernel
theorem dJ1_setColor_0 : decode cJ1_setColor 0 = .ok (.aload_n 0, 1) := dk_42 (dk_at dksJ1_setColor_0 0 rfl rfl)
theorem dJ1_setColor_1 : decode cJ1_setColor 1 = .ok (.ifnull 8, 3) := dk_198 0 8 (dk_at dksJ1_setColor_0 1 rfl rfl)
theorem dJ1_setColor_4 : decode cJ1_setColor 4 = .ok (.aload_n 0, 1) := dk_42 (dk_at dksJ1_setColor_0 4 rfl rfl)
theorem dJ1_setColor_5 : decode cJ1_setColor 5 = .ok (.iload_n 1, 1) := dk_27 (dk_at dksJ1_setColor_0 5 rfl rfl)
theorem dJ1_setColor_6 : decode cJ1_setColor 6 = .ok (.putfield 290, 3) := dk_181 1 34 (dk_at dksJ1_setColor_0 6 rfl rfl)
theorem dJ1_setColor_9 : decode cJ1_setColor 9 = .ok (.return_, 1) := dk_177 (dk_at dksJ1_setColor_0 9 rfl rfl)
abbrev cJ1_rotateLeft : ByteArray := prog_76_method_81_code
def yJ1_rotateLeft : MethodName := ⟨RJ1, "rotateLeft", "(Ljava/util/TreeMap$Entry;)V"⟩
def dkwJ1_rotateLeft_4 : List UInt8 := [177]
abbrev dktJ1_rotateLeft_4 : List UInt8 := dkwJ1_rotateLeft_4 ++ []
def dkwJ1_rotateLeft_3 : List UInt8 := [181, 0, 111, 167, 0, 11, 43, 180, 0, 124, 44, 181, 0, 114, 44, 43, 181, 0, 111, 43, 44, 181, 0, 124]
abbrev dktJ1_rotateLeft_3 : List UInt8 := dkwJ1_rotateLeft_3 ++ dktJ1_rotateLeft_4
def dkwJ1_rotateLeft_2 : List UInt8 := [44, 181, 0, 101, 167, 0, 33, 43, 180, 0, 124, 180, 0, 111, 43, 166, 0, 14, 43, 180, 0, 124, 44]
abbrev dktJ1_rotateLeft_2 : List UInt8 := dkwJ1_rotateLeft_2 ++ dktJ1_rotateLeft_3
def dkwJ1_rotateLeft_1 : List UInt8 := [44, 180, 0, 111, 43, 181, 0, 124, 44, 43, 180, 0, 124, 181, 0, 124, 43, 180, 0, 124, 199, 0, 11, 42]
abbrev dktJ1_rotateLeft_1 : List UInt8 := dkwJ1_rotateLeft_1 ++ dktJ1_rotateLeft_2
def dkwJ1_rotateLeft_0 : List UInt8 := [43, 198, 0, 94, 43, 180, 0, 114, 77, 43, 44, 180, 0, 111, 181, 0, 114, 44, 180, 0, 111, 198, 0, 11]
abbrev dktJ1_rotateLeft_0 : List UInt8 := dkwJ1_rotateLeft_0 ++ dktJ1_rotateLeft_1
theorem dksJ1_rotateLeft_0 : cJ1_rotateLeft.data.toList.drop 0 = dktJ1_rotateLeft_0 := by decide +kernel
theorem dksJ1_rotateLeft_1 : cJ1_rotateLeft.data.toList.drop 24 = dktJ1_rotateLeft_1 := dk_seg dksJ1_rotateLeft_0 24 rfl rfl
theorem dksJ1_rotateLeft_2 : cJ1_rotateLeft.data.toList.drop 48 = dktJ1_rotateLeft_2 := dk_seg dksJ1_rotateLeft_1 24 rfl rfl
theorem dksJ1_rotateLeft_3 : cJ1_rotateLeft.data.toList.drop 71 = dktJ1_rotateLeft_3 := dk_seg dksJ1_rotateLeft_2 23 rfl rfl
theorem dksJ1_rotateLeft_4 : cJ1_rotateLeft.data.toList.drop 95 = dktJ1_rotateLeft_4 := dk_seg dksJ1_rotateLeft_3 24 rfl rfl
theorem dJ1_rotateLeft_0 : decode cJ1_rotateLeft 0 = .ok (.aload_n 1, 1) := dk_43 (dk_at dksJ1_rotateLeft_0 0 rfl rfl)
theorem dJ1_rotateLeft_1 : decode cJ1_rotateLeft 1 = .ok (.ifnull 94, 3) := dk_198 0 94 (dk_at dksJ1_rotateLeft_0 1 rfl rfl)
theorem dJ1_rotateLeft_4 : decode cJ1_rotateLeft 4 = .ok (.aload_n 1, 1) := dk_43 (dk_at dksJ1_rotateLeft_0 4 rfl rfl)
theorem dJ1_rotateLeft_5 : decode cJ1_rotateLeft 5 = .ok (.getfield 114, 3) := dk_180 0 114 (dk_at dksJ1_rotateLeft_0 5 rfl rfl)
theorem dJ1_rotateLeft_8 : decode cJ1_rotateLeft 8 = .ok (.astore_n 2, 1) := dk_77 (dk_at dksJ1_rotateLeft_0 8 rfl rfl)
theorem dJ1_rotateLeft_9 : decode cJ1_rotateLeft 9 = .ok (.aload_n 1, 1) := dk_43 (dk_at dksJ1_rotateLeft_0 9 rfl rfl)
theorem dJ1_rotateLeft_10 : decode cJ1_rotateLeft 10 = .ok (.aload_n 2, 1) := dk_44 (dk_at dksJ1_rotateLeft_0 10 rfl rfl)
theorem dJ1_rotateLeft_11 : decode cJ1_rotateLeft 11 = .ok (.getfield 111, 3) := dk_180 0 111 (dk_at dksJ1_rotateLeft_0 11 rfl rfl)
theorem dJ1_rotateLeft_14 : decode cJ1_rotateLeft 14 = .ok (.putfield 114, 3) := dk_181 0 114 (dk_at dksJ1_rotateLeft_0 14 rfl rfl)
theorem dJ1_rotateLeft_17 : decode cJ1_rotateLeft 17 = .ok (.aload_n 2, 1) := dk_44 (dk_at dksJ1_rotateLeft_0 17 rfl rfl)
theorem dJ1_rotateLeft_18 : decode cJ1_rotateLeft 18 = .ok (.getfield 111, 3) := dk_180 0 111 (dk_at dksJ1_rotateLeft_0 18 rfl rfl)
theorem dJ1_rotateLeft_21 : decode cJ1_rotateLeft 21 = .ok (.ifnull 11, 3) := dk_198 0 11 (dk_at dksJ1_rotateLeft_0 21 rfl rfl)
theorem dJ1_rotateLeft_24 : decode cJ1_rotateLeft 24 = .ok (.aload_n 2, 1) := dk_44 (dk_at dksJ1_rotateLeft_1 0 rfl rfl)
theorem dJ1_rotateLeft_25 : decode cJ1_rotateLeft 25 = .ok (.getfield 111, 3) := dk_180 0 111 (dk_at dksJ1_rotateLeft_1 1 rfl rfl)
theorem dJ1_rotateLeft_28 : decode cJ1_rotateLeft 28 = .ok (.aload_n 1, 1) := dk_43 (dk_at dksJ1_rotateLeft_1 4 rfl rfl)
theorem dJ1_rotateLeft_29 : decode cJ1_rotateLeft 29 = .ok (.putfield 124, 3) := dk_181 0 124 (dk_at dksJ1_rotateLeft_1 5 rfl rfl)
theorem dJ1_rotateLeft_32 : decode cJ1_rotateLeft 32 = .ok (.aload_n 2, 1) := dk_44 (dk_at dksJ1_rotateLeft_1 8 rfl rfl)
theorem dJ1_rotateLeft_33 : decode cJ1_rotateLeft 33 = .ok (.aload_n 1, 1) := dk_43 (dk_at dksJ1_rotateLeft_1 9 rfl rfl)
theorem dJ1_rotateLeft_34 : decode cJ1_rotateLeft 34 = .ok (.getfield 124, 3) := dk_180 0 124 (dk_at dksJ1_rotateLeft_1 10 rfl rfl)
theorem dJ1_rotateLeft_37 : decode cJ1_rotateLeft 37 = .ok (.putfield 124, 3) := dk_181 0 124 (dk_at dksJ1_rotateLeft_1 13 rfl rfl)
theorem dJ1_rotateLeft_40 : decode cJ1_rotateLeft 40 = .ok (.aload_n 1, 1) := dk_43 (dk_at dksJ1_rotateLeft_1 16 rfl rfl)
theorem dJ1_rotateLeft_41 : decode cJ1_rotateLeft 41 = .ok (.getfield 124, 3) := dk_180 0 124 (dk_at dksJ1_rotateLeft_1 17 rfl rfl)
theorem dJ1_rotateLeft_44 : decode cJ1_rotateLeft 44 = .ok (.ifnonnull 11, 3) := dk_199 0 11 (dk_at dksJ1_rotateLeft_1 20 rfl rfl)
theorem dJ1_rotateLeft_47 : decode cJ1_rotateLeft 47 = .ok (.aload_n 0, 1) := dk_42 (dk_at dksJ1_rotateLeft_1 23 rfl rfl)
theorem dJ1_rotateLeft_48 : decode cJ1_rotateLeft 48 = .ok (.aload_n 2, 1) := dk_44 (dk_at dksJ1_rotateLeft_2 0 rfl rfl)
theorem dJ1_rotateLeft_49 : decode cJ1_rotateLeft 49 = .ok (.putfield 101, 3) := dk_181 0 101 (dk_at dksJ1_rotateLeft_2 1 rfl rfl)
theorem dJ1_rotateLeft_52 : decode cJ1_rotateLeft 52 = .ok (.goto 33, 3) := dk_167 0 33 (dk_at dksJ1_rotateLeft_2 4 rfl rfl)
theorem dJ1_rotateLeft_55 : decode cJ1_rotateLeft 55 = .ok (.aload_n 1, 1) := dk_43 (dk_at dksJ1_rotateLeft_2 7 rfl rfl)
theorem dJ1_rotateLeft_56 : decode cJ1_rotateLeft 56 = .ok (.getfield 124, 3) := dk_180 0 124 (dk_at dksJ1_rotateLeft_2 8 rfl rfl)
theorem dJ1_rotateLeft_59 : decode cJ1_rotateLeft 59 = .ok (.getfield 111, 3) := dk_180 0 111 (dk_at dksJ1_rotateLeft_2 11 rfl rfl)
theorem dJ1_rotateLeft_62 : decode cJ1_rotateLeft 62 = .ok (.aload_n 1, 1) := dk_43 (dk_at dksJ1_rotateLeft_2 14 rfl rfl)
theorem dJ1_rotateLeft_63 : decode cJ1_rotateLeft 63 = .ok (.if_acmp .ne 14, 3) := dk_166 0 14 (dk_at dksJ1_rotateLeft_2 15 rfl rfl)
theorem dJ1_rotateLeft_66 : decode cJ1_rotateLeft 66 = .ok (.aload_n 1, 1) := dk_43 (dk_at dksJ1_rotateLeft_2 18 rfl rfl)
theorem dJ1_rotateLeft_67 : decode cJ1_rotateLeft 67 = .ok (.getfield 124, 3) := dk_180 0 124 (dk_at dksJ1_rotateLeft_2 19 rfl rfl)
theorem dJ1_rotateLeft_70 : decode cJ1_rotateLeft 70 = .ok (.aload_n 2, 1) := dk_44 (dk_at dksJ1_rotateLeft_2 22 rfl rfl)
theorem dJ1_rotateLeft_71 : decode cJ1_rotateLeft 71 = .ok (.putfield 111, 3) := dk_181 0 111 (dk_at dksJ1_rotateLeft_3 0 rfl rfl)
theorem dJ1_rotateLeft_74 : decode cJ1_rotateLeft 74 = .ok (.goto 11, 3) := dk_167 0 11 (dk_at dksJ1_rotateLeft_3 3 rfl rfl)
theorem dJ1_rotateLeft_77 : decode cJ1_rotateLeft 77 = .ok (.aload_n 1, 1) := dk_43 (dk_at dksJ1_rotateLeft_3 6 rfl rfl)
theorem dJ1_rotateLeft_78 : decode cJ1_rotateLeft 78 = .ok (.getfield 124, 3) := dk_180 0 124 (dk_at dksJ1_rotateLeft_3 7 rfl rfl)
theorem dJ1_rotateLeft_81 : decode cJ1_rotateLeft 81 = .ok (.aload_n 2, 1) := dk_44 (dk_at dksJ1_rotateLeft_3 10 rfl rfl)
theorem dJ1_rotateLeft_82 : decode cJ1_rotateLeft 82 = .ok (.putfield 114, 3) := dk_181 0 114 (dk_at dksJ1_rotateLeft_3 11 rfl rfl)
theorem dJ1_rotateLeft_85 : decode cJ1_rotateLeft 85 = .ok (.aload_n 2, 1) := dk_44 (dk_at dksJ1_rotateLeft_3 14 rfl rfl)
theorem dJ1_rotateLeft_86 : decode cJ1_rotateLeft 86 = .ok (.aload_n 1, 1) := dk_43 (dk_at dksJ1_rotateLeft_3 15 rfl rfl)
theorem dJ1_rotateLeft_87 : decode cJ1_rotateLeft 87 = .ok (.putfield 111, 3) := dk_181 0 111 (dk_at dksJ1_rotateLeft_3 16 rfl rfl)
theorem dJ1_rotateLeft_90 : decode cJ1_rotateLeft 90 = .ok (.aload_n 1, 1) := dk_43 (dk_at dksJ1_rotateLeft_3 19 rfl rfl)
theorem dJ1_rotateLeft_91 : decode cJ1_rotateLeft 91 = .ok (.aload_n 2, 1) := dk_44 (dk_at dksJ1_rotateLeft_3 20 rfl rfl)
theorem dJ1_rotateLeft_92 : decode cJ1_rotateLeft 92 = .ok (.putfield 124, 3) := dk_181 0 124 (dk_at dksJ1_rotateLeft_3 21 rfl rfl)
theorem dJ1_rotateLeft_95 : decode cJ1_rotateLeft 95 = .ok (.return_, 1) := dk_177 (dk_at dksJ1_rotateLeft_4 0 rfl rfl)
abbrev cJ1_rotateRight : ByteArray := prog_76_method_82_code
def yJ1_rotateRight : MethodName := ⟨RJ1, "rotateRight", "(Ljava/util/TreeMap$Entry;)V"⟩
def dkwJ1_rotateRight_4 : List UInt8 := [177]
abbrev dktJ1_rotateRight_4 : List UInt8 := dkwJ1_rotateRight_4 ++ []
def dkwJ1_rotateRight_3 : List UInt8 := [181, 0, 114, 167, 0, 11, 43, 180, 0, 124, 44, 181, 0, 111, 44, 43, 181, 0, 114, 43, 44, 181, 0, 124]
abbrev dktJ1_rotateRight_3 : List UInt8 := dkwJ1_rotateRight_3 ++ dktJ1_rotateRight_4
def dkwJ1_rotateRight_2 : List UInt8 := [44, 181, 0, 101, 167, 0, 33, 43, 180, 0, 124, 180, 0, 114, 43, 166, 0, 14, 43, 180, 0, 124, 44]
abbrev dktJ1_rotateRight_2 : List UInt8 := dkwJ1_rotateRight_2 ++ dktJ1_rotateRight_3
def dkwJ1_rotateRight_1 : List UInt8 := [44, 180, 0, 114, 43, 181, 0, 124, 44, 43, 180, 0, 124, 181, 0, 124, 43, 180, 0, 124, 199, 0, 11, 42]
abbrev dktJ1_rotateRight_1 : List UInt8 := dkwJ1_rotateRight_1 ++ dktJ1_rotateRight_2
def dkwJ1_rotateRight_0 : List UInt8 := [43, 198, 0, 94, 43, 180, 0, 111, 77, 43, 44, 180, 0, 114, 181, 0, 111, 44, 180, 0, 114, 198, 0, 11]
abbrev dktJ1_rotateRight_0 : List UInt8 := dkwJ1_rotateRight_0 ++ dktJ1_rotateRight_1
theorem dksJ1_rotateRight_0 : cJ1_rotateRight.data.toList.drop 0 = dktJ1_rotateRight_0 := by decide +kernel
theorem dksJ1_rotateRight_1 : cJ1_rotateRight.data.toList.drop 24 = dktJ1_rotateRight_1 := dk_seg dksJ1_rotateRight_0 24 rfl rfl
theorem dksJ1_rotateRight_2 : cJ1_rotateRight.data.toList.drop 48 = dktJ1_rotateRight_2 := dk_seg dksJ1_rotateRight_1 24 rfl rfl
theorem dksJ1_rotateRight_3 : cJ1_rotateRight.data.toList.drop 71 = dktJ1_rotateRight_3 := dk_seg dksJ1_rotateRight_2 23 rfl rfl
theorem dksJ1_rotateRight_4 : cJ1_rotateRight.data.toList.drop 95 = dktJ1_rotateRight_4 := dk_seg dksJ1_rotateRight_3 24 rfl rfl
theorem dJ1_rotateRight_0 : decode cJ1_rotateRight 0 = .ok (.aload_n 1, 1) := dk_43 (dk_at dksJ1_rotateRight_0 0 rfl rfl)
theorem dJ1_rotateRight_1 : decode cJ1_rotateRight 1 = .ok (.ifnull 94, 3) := dk_198 0 94 (dk_at dksJ1_rotateRight_0 1 rfl rfl)
theorem dJ1_rotateRight_4 : decode cJ1_rotateRight 4 = .ok (.aload_n 1, 1) := dk_43 (dk_at dksJ1_rotateRight_0 4 rfl rfl)
theorem dJ1_rotateRight_5 : decode cJ1_rotateRight 5 = .ok (.getfield 111, 3) := dk_180 0 111 (dk_at dksJ1_rotateRight_0 5 rfl rfl)
theorem dJ1_rotateRight_8 : decode cJ1_rotateRight 8 = .ok (.astore_n 2, 1) := dk_77 (dk_at dksJ1_rotateRight_0 8 rfl rfl)
theorem dJ1_rotateRight_9 : decode cJ1_rotateRight 9 = .ok (.aload_n 1, 1) := dk_43 (dk_at dksJ1_rotateRight_0 9 rfl rfl)
theorem dJ1_rotateRight_10 : decode cJ1_rotateRight 10 = .ok (.aload_n 2, 1) := dk_44 (dk_at dksJ1_rotateRight_0 10 rfl rfl)
theorem dJ1_rotateRight_11 : decode cJ1_rotateRight 11 = .ok (.getfield 114, 3) := dk_180 0 114 (dk_at dksJ1_rotateRight_0 11 rfl rfl)
theorem dJ1_rotateRight_14 : decode cJ1_rotateRight 14 = .ok (.putfield 111, 3) := dk_181 0 111 (dk_at dksJ1_rotateRight_0 14 rfl rfl)
theorem dJ1_rotateRight_17 : decode cJ1_rotateRight 17 = .ok (.aload_n 2, 1) := dk_44 (dk_at dksJ1_rotateRight_0 17 rfl rfl)
theorem dJ1_rotateRight_18 : decode cJ1_rotateRight 18 = .ok (.getfield 114, 3) := dk_180 0 114 (dk_at dksJ1_rotateRight_0 18 rfl rfl)
theorem dJ1_rotateRight_21 : decode cJ1_rotateRight 21 = .ok (.ifnull 11, 3) := dk_198 0 11 (dk_at dksJ1_rotateRight_0 21 rfl rfl)
theorem dJ1_rotateRight_24 : decode cJ1_rotateRight 24 = .ok (.aload_n 2, 1) := dk_44 (dk_at dksJ1_rotateRight_1 0 rfl rfl)
theorem dJ1_rotateRight_25 : decode cJ1_rotateRight 25 = .ok (.getfield 114, 3) := dk_180 0 114 (dk_at dksJ1_rotateRight_1 1 rfl rfl)
theorem dJ1_rotateRight_28 : decode cJ1_rotateRight 28 = .ok (.aload_n 1, 1) := dk_43 (dk_at dksJ1_rotateRight_1 4 rfl rfl)
theorem dJ1_rotateRight_29 : decode cJ1_rotateRight 29 = .ok (.putfield 124, 3) := dk_181 0 124 (dk_at dksJ1_rotateRight_1 5 rfl rfl)
theorem dJ1_rotateRight_32 : decode cJ1_rotateRight 32 = .ok (.aload_n 2, 1) := dk_44 (dk_at dksJ1_rotateRight_1 8 rfl rfl)
theorem dJ1_rotateRight_33 : decode cJ1_rotateRight 33 = .ok (.aload_n 1, 1) := dk_43 (dk_at dksJ1_rotateRight_1 9 rfl rfl)
theorem dJ1_rotateRight_34 : decode cJ1_rotateRight 34 = .ok (.getfield 124, 3) := dk_180 0 124 (dk_at dksJ1_rotateRight_1 10 rfl rfl)
theorem dJ1_rotateRight_37 : decode cJ1_rotateRight 37 = .ok (.putfield 124, 3) := dk_181 0 124 (dk_at dksJ1_rotateRight_1 13 rfl rfl)
theorem dJ1_rotateRight_40 : decode cJ1_rotateRight 40 = .ok (.aload_n 1, 1) := dk_43 (dk_at dksJ1_rotateRight_1 16 rfl rfl)
theorem dJ1_rotateRight_41 : decode cJ1_rotateRight 41 = .ok (.getfield 124, 3) := dk_180 0 124 (dk_at dksJ1_rotateRight_1 17 rfl rfl)
theorem dJ1_rotateRight_44 : decode cJ1_rotateRight 44 = .ok (.ifnonnull 11, 3) := dk_199 0 11 (dk_at dksJ1_rotateRight_1 20 rfl rfl)
theorem dJ1_rotateRight_47 : decode cJ1_rotateRight 47 = .ok (.aload_n 0, 1) := dk_42 (dk_at dksJ1_rotateRight_1 23 rfl rfl)
theorem dJ1_rotateRight_48 : decode cJ1_rotateRight 48 = .ok (.aload_n 2, 1) := dk_44 (dk_at dksJ1_rotateRight_2 0 rfl rfl)
theorem dJ1_rotateRight_49 : decode cJ1_rotateRight 49 = .ok (.putfield 101, 3) := dk_181 0 101 (dk_at dksJ1_rotateRight_2 1 rfl rfl)
theorem dJ1_rotateRight_52 : decode cJ1_rotateRight 52 = .ok (.goto 33, 3) := dk_167 0 33 (dk_at dksJ1_rotateRight_2 4 rfl rfl)
theorem dJ1_rotateRight_55 : decode cJ1_rotateRight 55 = .ok (.aload_n 1, 1) := dk_43 (dk_at dksJ1_rotateRight_2 7 rfl rfl)
theorem dJ1_rotateRight_56 : decode cJ1_rotateRight 56 = .ok (.getfield 124, 3) := dk_180 0 124 (dk_at dksJ1_rotateRight_2 8 rfl rfl)
theorem dJ1_rotateRight_59 : decode cJ1_rotateRight 59 = .ok (.getfield 114, 3) := dk_180 0 114 (dk_at dksJ1_rotateRight_2 11 rfl rfl)
theorem dJ1_rotateRight_62 : decode cJ1_rotateRight 62 = .ok (.aload_n 1, 1) := dk_43 (dk_at dksJ1_rotateRight_2 14 rfl rfl)
theorem dJ1_rotateRight_63 : decode cJ1_rotateRight 63 = .ok (.if_acmp .ne 14, 3) := dk_166 0 14 (dk_at dksJ1_rotateRight_2 15 rfl rfl)
theorem dJ1_rotateRight_66 : decode cJ1_rotateRight 66 = .ok (.aload_n 1, 1) := dk_43 (dk_at dksJ1_rotateRight_2 18 rfl rfl)
theorem dJ1_rotateRight_67 : decode cJ1_rotateRight 67 = .ok (.getfield 124, 3) := dk_180 0 124 (dk_at dksJ1_rotateRight_2 19 rfl rfl)
theorem dJ1_rotateRight_70 : decode cJ1_rotateRight 70 = .ok (.aload_n 2, 1) := dk_44 (dk_at dksJ1_rotateRight_2 22 rfl rfl)
theorem dJ1_rotateRight_71 : decode cJ1_rotateRight 71 = .ok (.putfield 114, 3) := dk_181 0 114 (dk_at dksJ1_rotateRight_3 0 rfl rfl)
theorem dJ1_rotateRight_74 : decode cJ1_rotateRight 74 = .ok (.goto 11, 3) := dk_167 0 11 (dk_at dksJ1_rotateRight_3 3 rfl rfl)
theorem dJ1_rotateRight_77 : decode cJ1_rotateRight 77 = .ok (.aload_n 1, 1) := dk_43 (dk_at dksJ1_rotateRight_3 6 rfl rfl)
theorem dJ1_rotateRight_78 : decode cJ1_rotateRight 78 = .ok (.getfield 124, 3) := dk_180 0 124 (dk_at dksJ1_rotateRight_3 7 rfl rfl)
theorem dJ1_rotateRight_81 : decode cJ1_rotateRight 81 = .ok (.aload_n 2, 1) := dk_44 (dk_at dksJ1_rotateRight_3 10 rfl rfl)
theorem dJ1_rotateRight_82 : decode cJ1_rotateRight 82 = .ok (.putfield 111, 3) := dk_181 0 111 (dk_at dksJ1_rotateRight_3 11 rfl rfl)
theorem dJ1_rotateRight_85 : decode cJ1_rotateRight 85 = .ok (.aload_n 2, 1) := dk_44 (dk_at dksJ1_rotateRight_3 14 rfl rfl)
theorem dJ1_rotateRight_86 : decode cJ1_rotateRight 86 = .ok (.aload_n 1, 1) := dk_43 (dk_at dksJ1_rotateRight_3 15 rfl rfl)
theorem dJ1_rotateRight_87 : decode cJ1_rotateRight 87 = .ok (.putfield 114, 3) := dk_181 0 114 (dk_at dksJ1_rotateRight_3 16 rfl rfl)
theorem dJ1_rotateRight_90 : decode cJ1_rotateRight 90 = .ok (.aload_n 1, 1) := dk_43 (dk_at dksJ1_rotateRight_3 19 rfl rfl)
theorem dJ1_rotateRight_91 : decode cJ1_rotateRight 91 = .ok (.aload_n 2, 1) := dk_44 (dk_at dksJ1_rotateRight_3 20 rfl rfl)
theorem dJ1_rotateRight_92 : decode cJ1_rotateRight 92 = .ok (.putfield 124, 3) := dk_181 0 124 (dk_at dksJ1_rotateRight_3 21 rfl rfl)
theorem dJ1_rotateRight_95 : decode cJ1_rotateRight 95 = .ok (.return_, 1) := dk_177 (dk_at dksJ1_rotateRight_4 0 rfl rfl)
abbrev cJ1_get : ByteArray := prog_76_method_8_code
def yJ1_get : MethodName := ⟨RJ1, "get", "(Ljava/lang/Object;)Ljava/lang/Object;"⟩
def dkwJ1_get_0 : List UInt8 := [42, 43, 182, 0, 50, 77, 44, 199, 0, 7, 1, 167, 0, 7, 44, 180, 0, 58, 176]
abbrev dktJ1_get_0 : List UInt8 := dkwJ1_get_0 ++ []
theorem dksJ1_get_0 : cJ1_get.data.toList.drop 0 = dktJ1_get_0 := by decide +kernel
theorem dJ1_get_0 : decode cJ1_get 0 = .ok (.aload_n 0, 1) := dk_42 (dk_at dksJ1_get_0 0 rfl rfl)
theorem dJ1_get_1 : decode cJ1_get 1 = .ok (.aload_n 1, 1) := dk_43 (dk_at dksJ1_get_0 1 rfl rfl)
theorem dJ1_get_2 : decode cJ1_get 2 = .ok (.invokevirtual 50, 3) := dk_182 0 50 (dk_at dksJ1_get_0 2 rfl rfl)
theorem dJ1_get_5 : decode cJ1_get 5 = .ok (.astore_n 2, 1) := dk_77 (dk_at dksJ1_get_0 5 rfl rfl)
theorem dJ1_get_6 : decode cJ1_get 6 = .ok (.aload_n 2, 1) := dk_44 (dk_at dksJ1_get_0 6 rfl rfl)
theorem dJ1_get_7 : decode cJ1_get 7 = .ok (.ifnonnull 7, 3) := dk_199 0 7 (dk_at dksJ1_get_0 7 rfl rfl)
theorem dJ1_get_10 : decode cJ1_get 10 = .ok (.aconst_null, 1) := dk_1 (dk_at dksJ1_get_0 10 rfl rfl)
theorem dJ1_get_11 : decode cJ1_get 11 = .ok (.goto 7, 3) := dk_167 0 7 (dk_at dksJ1_get_0 11 rfl rfl)
theorem dJ1_get_14 : decode cJ1_get 14 = .ok (.aload_n 2, 1) := dk_44 (dk_at dksJ1_get_0 14 rfl rfl)
theorem dJ1_get_15 : decode cJ1_get 15 = .ok (.getfield 58, 3) := dk_180 0 58 (dk_at dksJ1_get_0 15 rfl rfl)
theorem dJ1_get_18 : decode cJ1_get 18 = .ok (.areturn, 1) := dk_176 (dk_at dksJ1_get_0 18 rfl rfl)
abbrev cJ1_init_2 : ByteArray := prog_76_method_2_code
def yJ1_init_2 : MethodName := ⟨RJ1, "<init>", "(Ljava/util/Comparator;)V"⟩
def dkwJ1_init_2_0 : List UInt8 := [42, 183, 0, 1, 42, 3, 181, 0, 7, 42, 3, 181, 0, 13, 42, 43, 181, 0, 16, 177]
abbrev dktJ1_init_2_0 : List UInt8 := dkwJ1_init_2_0 ++ []
theorem dksJ1_init_2_0 : cJ1_init_2.data.toList.drop 0 = dktJ1_init_2_0 := by decide +kernel
theorem dJ1_init_2_0 : decode cJ1_init_2 0 = .ok (.aload_n 0, 1) := dk_42 (dk_at dksJ1_init_2_0 0 rfl rfl)
theorem dJ1_init_2_1 : decode cJ1_init_2 1 = .ok (.invokespecial 1, 3) := dk_183 0 1 (dk_at dksJ1_init_2_0 1 rfl rfl)
theorem dJ1_init_2_4 : decode cJ1_init_2 4 = .ok (.aload_n 0, 1) := dk_42 (dk_at dksJ1_init_2_0 4 rfl rfl)
theorem dJ1_init_2_5 : decode cJ1_init_2 5 = .ok (.iconst 0, 1) := dk_3 (dk_at dksJ1_init_2_0 5 rfl rfl)
theorem dJ1_init_2_6 : decode cJ1_init_2 6 = .ok (.putfield 7, 3) := dk_181 0 7 (dk_at dksJ1_init_2_0 6 rfl rfl)
theorem dJ1_init_2_9 : decode cJ1_init_2 9 = .ok (.aload_n 0, 1) := dk_42 (dk_at dksJ1_init_2_0 9 rfl rfl)
theorem dJ1_init_2_10 : decode cJ1_init_2 10 = .ok (.iconst 0, 1) := dk_3 (dk_at dksJ1_init_2_0 10 rfl rfl)
theorem dJ1_init_2_11 : decode cJ1_init_2 11 = .ok (.putfield 13, 3) := dk_181 0 13 (dk_at dksJ1_init_2_0 11 rfl rfl)
theorem dJ1_init_2_14 : decode cJ1_init_2 14 = .ok (.aload_n 0, 1) := dk_42 (dk_at dksJ1_init_2_0 14 rfl rfl)
theorem dJ1_init_2_15 : decode cJ1_init_2 15 = .ok (.aload_n 1, 1) := dk_43 (dk_at dksJ1_init_2_0 15 rfl rfl)
theorem dJ1_init_2_16 : decode cJ1_init_2 16 = .ok (.putfield 16, 3) := dk_181 0 16 (dk_at dksJ1_init_2_0 16 rfl rfl)
theorem dJ1_init_2_19 : decode cJ1_init_2 19 = .ok (.return_, 1) := dk_177 (dk_at dksJ1_init_2_0 19 rfl rfl)
abbrev cJ1_firstKey : ByteArray := prog_76_method_10_code
def yJ1_firstKey : MethodName := ⟨RJ1, "firstKey", "()Ljava/lang/Object;"⟩
def dkwJ1_firstKey_0 : List UInt8 := [42, 182, 0, 54, 184, 0, 72, 176]
abbrev dktJ1_firstKey_0 : List UInt8 := dkwJ1_firstKey_0 ++ []
theorem dksJ1_firstKey_0 : cJ1_firstKey.data.toList.drop 0 = dktJ1_firstKey_0 := by decide +kernel
theorem dJ1_firstKey_0 : decode cJ1_firstKey 0 = .ok (.aload_n 0, 1) := dk_42 (dk_at dksJ1_firstKey_0 0 rfl rfl)
theorem dJ1_firstKey_1 : decode cJ1_firstKey 1 = .ok (.invokevirtual 54, 3) := dk_182 0 54 (dk_at dksJ1_firstKey_0 1 rfl rfl)
theorem dJ1_firstKey_4 : decode cJ1_firstKey 4 = .ok (.invokestatic 72, 3) := dk_184 0 72 (dk_at dksJ1_firstKey_0 4 rfl rfl)
theorem dJ1_firstKey_7 : decode cJ1_firstKey 7 = .ok (.areturn, 1) := dk_176 (dk_at dksJ1_firstKey_0 7 rfl rfl)
abbrev cJ1_getFirstEntry : ByteArray := prog_76_method_72_code
def yJ1_getFirstEntry : MethodName := ⟨RJ1, "getFirstEntry", "()Ljava/util/TreeMap$Entry;"⟩
def dkwJ1_getFirstEntry_1 : List UInt8 := [43, 176]
abbrev dktJ1_getFirstEntry_1 : List UInt8 := dkwJ1_getFirstEntry_1 ++ []
def dkwJ1_getFirstEntry_0 : List UInt8 := [42, 180, 0, 101, 76, 43, 198, 0, 18, 43, 180, 0, 111, 198, 0, 11, 43, 180, 0, 111, 76, 167, 255, 244]
abbrev dktJ1_getFirstEntry_0 : List UInt8 := dkwJ1_getFirstEntry_0 ++ dktJ1_getFirstEntry_1
theorem dksJ1_getFirstEntry_0 : cJ1_getFirstEntry.data.toList.drop 0 = dktJ1_getFirstEntry_0 := by decide +kernel
theorem dksJ1_getFirstEntry_1 : cJ1_getFirstEntry.data.toList.drop 24 = dktJ1_getFirstEntry_1 := dk_seg dksJ1_getFirstEntry_0 24 rfl rfl
theorem dJ1_getFirstEntry_0 : decode cJ1_getFirstEntry 0 = .ok (.aload_n 0, 1) := dk_42 (dk_at dksJ1_getFirstEntry_0 0 rfl rfl)
theorem dJ1_getFirstEntry_1 : decode cJ1_getFirstEntry 1 = .ok (.getfield 101, 3) := dk_180 0 101 (dk_at dksJ1_getFirstEntry_0 1 rfl rfl)
theorem dJ1_getFirstEntry_4 : decode cJ1_getFirstEntry 4 = .ok (.astore_n 1, 1) := dk_76 (dk_at dksJ1_getFirstEntry_0 4 rfl rfl)
theorem dJ1_getFirstEntry_5 : decode cJ1_getFirstEntry 5 = .ok (.aload_n 1, 1) := dk_43 (dk_at dksJ1_getFirstEntry_0 5 rfl rfl)
theorem dJ1_getFirstEntry_6 : decode cJ1_getFirstEntry 6 = .ok (.ifnull 18, 3) := dk_198 0 18 (dk_at dksJ1_getFirstEntry_0 6 rfl rfl)
theorem dJ1_getFirstEntry_9 : decode cJ1_getFirstEntry 9 = .ok (.aload_n 1, 1) := dk_43 (dk_at dksJ1_getFirstEntry_0 9 rfl rfl)
theorem dJ1_getFirstEntry_10 : decode cJ1_getFirstEntry 10 = .ok (.getfield 111, 3) := dk_180 0 111 (dk_at dksJ1_getFirstEntry_0 10 rfl rfl)
theorem dJ1_getFirstEntry_13 : decode cJ1_getFirstEntry 13 = .ok (.ifnull 11, 3) := dk_198 0 11 (dk_at dksJ1_getFirstEntry_0 13 rfl rfl)
theorem dJ1_getFirstEntry_16 : decode cJ1_getFirstEntry 16 = .ok (.aload_n 1, 1) := dk_43 (dk_at dksJ1_getFirstEntry_0 16 rfl rfl)
theorem dJ1_getFirstEntry_17 : decode cJ1_getFirstEntry 17 = .ok (.getfield 111, 3) := dk_180 0 111 (dk_at dksJ1_getFirstEntry_0 17 rfl rfl)
theorem dJ1_getFirstEntry_20 : decode cJ1_getFirstEntry 20 = .ok (.astore_n 1, 1) := dk_76 (dk_at dksJ1_getFirstEntry_0 20 rfl rfl)
theorem dJ1_getFirstEntry_21 : decode cJ1_getFirstEntry 21 = .ok (.goto (-12), 3) := dk_167 255 244 (dk_at dksJ1_getFirstEntry_0 21 rfl rfl)
theorem dJ1_getFirstEntry_24 : decode cJ1_getFirstEntry 24 = .ok (.aload_n 1, 1) := dk_43 (dk_at dksJ1_getFirstEntry_1 0 rfl rfl)
theorem dJ1_getFirstEntry_25 : decode cJ1_getFirstEntry 25 = .ok (.areturn, 1) := dk_176 (dk_at dksJ1_getFirstEntry_1 1 rfl rfl)
abbrev cJ1_key : ByteArray := prog_76_method_71_code
def yJ1_key : MethodName := ⟨RJ1, "key", "(Ljava/util/TreeMap$Entry;)Ljava/lang/Object;"⟩
def dkwJ1_key_0 : List UInt8 := [42, 199, 0, 11, 187, 1, 31, 89, 183, 1, 33, 191, 42, 180, 0, 105, 176]
abbrev dktJ1_key_0 : List UInt8 := dkwJ1_key_0 ++ []
theorem dksJ1_key_0 : cJ1_key.data.toList.drop 0 = dktJ1_key_0 := by decide +kernel
theorem dJ1_key_0 : decode cJ1_key 0 = .ok (.aload_n 0, 1) := dk_42 (dk_at dksJ1_key_0 0 rfl rfl)
theorem dJ1_key_1 : decode cJ1_key 1 = .ok (.ifnonnull 11, 3) := dk_199 0 11 (dk_at dksJ1_key_0 1 rfl rfl)
theorem dJ1_key_4 : decode cJ1_key 4 = .ok (.new 287, 3) := dk_187 1 31 (dk_at dksJ1_key_0 4 rfl rfl)
theorem dJ1_key_7 : decode cJ1_key 7 = .ok (.dup, 1) := dk_89 (dk_at dksJ1_key_0 7 rfl rfl)
theorem dJ1_key_8 : decode cJ1_key 8 = .ok (.invokespecial 289, 3) := dk_183 1 33 (dk_at dksJ1_key_0 8 rfl rfl)
theorem dJ1_key_11 : decode cJ1_key 11 = .ok (.athrow, 1) := dk_191 (dk_at dksJ1_key_0 11 rfl rfl)
theorem dJ1_key_12 : decode cJ1_key 12 = .ok (.aload_n 0, 1) := dk_42 (dk_at dksJ1_key_0 12 rfl rfl)
theorem dJ1_key_13 : decode cJ1_key 13 = .ok (.getfield 105, 3) := dk_180 0 105 (dk_at dksJ1_key_0 13 rfl rfl)
theorem dJ1_key_16 : decode cJ1_key 16 = .ok (.areturn, 1) := dk_176 (dk_at dksJ1_key_0 16 rfl rfl)
theorem q130 : (Jvm.Cond.initialized "java/util/TreeMap") ∈ lw_all := lw_g (lw_at lw_m1 6 rfl) rfl
theorem q210 : (Jvm.Cond.instantiable "java/util/TreeMap" (9 : Nat)) ∈ lw_all := lw_g (lw_at lw_m1 86 rfl) rfl
theorem q212 : (Jvm.Cond.instanceMethod ({ cls := "java/util/TreeMap", name := "<init>", desc := "()V" } : Jvm.MethodName)) ∈ lw_all := lw_g (lw_at lw_m1 88 rfl) rfl
theorem q213 : (Jvm.Cond.code ({ cls := "java/util/TreeMap", name := "<init>", desc := "()V" } : Jvm.MethodName) prog_76_method_1_code (1 : Nat) (Option.none : Option Jvm.ClassFile.FieldType)) ∈ lw_all := lw_g (lw_at lw_m1 89 rfl) rfl
theorem q214 : (Jvm.Cond.methodLink "java/util/TreeMap" (1 : Nat) ({ cls := "java/util/AbstractMap", name := "<init>", desc := "()V" } : Jvm.MethodName)) ∈ lw_all := lw_g (lw_at lw_m1 90 rfl) rfl
theorem q218 : (Jvm.Cond.fieldLink "java/util/TreeMap" (16 : Nat) "java/util/TreeMap" "comparator" "Ljava/util/Comparator;") ∈ lw_all := lw_g (lw_at lw_m1 94 rfl) rfl
theorem q219 : (Jvm.Cond.fieldLink "java/util/TreeMap" (101 : Nat) "java/util/TreeMap" "root" "Ljava/util/TreeMap$Entry;") ∈ lw_all := lw_g (lw_at lw_m1 95 rfl) rfl
theorem q220 : (Jvm.Cond.fieldLink "java/util/TreeMap" (7 : Nat) "java/util/TreeMap" "size" "I") ∈ lw_all := lw_g (lw_at lw_m1 96 rfl) rfl
theorem q221 : (Jvm.Cond.fieldLink "java/util/TreeMap" (13 : Nat) "java/util/TreeMap" "modCount" "I") ∈ lw_all := lw_g (lw_at lw_m1 97 rfl) rfl
theorem q222 : (Jvm.Cond.fieldLink "java/util/TreeMap" (188 : Nat) "java/util/TreeMap" "entrySet" "Ljava/util/TreeMap$EntrySet;") ∈ lw_all := lw_g (lw_at lw_m1 98 rfl) rfl
theorem q223 : (Jvm.Cond.laysFinal "java/util/TreeMap" "java/util/TreeMap" "comparator" "Ljava/util/Comparator;") ∈ lw_all := lw_g (lw_at lw_m1 99 rfl) rfl
theorem q224 : (Jvm.Cond.soleField "java/util/TreeMap" "comparator") ∈ lw_all := lw_g (lw_at lw_m1 100 rfl) rfl
theorem q225 : (Jvm.Cond.lays "java/util/TreeMap" "java/util/TreeMap" "root" "Ljava/util/TreeMap$Entry;") ∈ lw_all := lw_g (lw_at lw_m1 101 rfl) rfl
theorem q226 : (Jvm.Cond.soleField "java/util/TreeMap" "root") ∈ lw_all := lw_g (lw_at lw_m1 102 rfl) rfl
theorem q227 : (Jvm.Cond.lays "java/util/TreeMap" "java/util/TreeMap" "size" "I") ∈ lw_all := lw_g (lw_at lw_m1 103 rfl) rfl
theorem q228 : (Jvm.Cond.soleField "java/util/TreeMap" "size") ∈ lw_all := lw_g (lw_at lw_m1 104 rfl) rfl
theorem q229 : (Jvm.Cond.lays "java/util/TreeMap" "java/util/TreeMap" "modCount" "I") ∈ lw_all := lw_g (lw_at lw_m1 105 rfl) rfl
theorem q230 : (Jvm.Cond.soleField "java/util/TreeMap" "modCount") ∈ lw_all := lw_g (lw_at lw_m1 106 rfl) rfl
theorem q231 : (Jvm.Cond.lays "java/util/TreeMap" "java/util/TreeMap" "entrySet" "Ljava/util/TreeMap$EntrySet;") ∈ lw_all := lw_g (lw_at lw_m1 107 rfl) rfl
theorem q232 : (Jvm.Cond.soleField "java/util/TreeMap" "entrySet") ∈ lw_all := lw_g (lw_at lw_m1 108 rfl) rfl
theorem q233 : (Jvm.Cond.lays "java/util/TreeMap" "java/util/TreeMap" "navigableKeySet" "Ljava/util/TreeMap$KeySet;") ∈ lw_all := lw_g (lw_at lw_m1 109 rfl) rfl
theorem q234 : (Jvm.Cond.soleField "java/util/TreeMap" "navigableKeySet") ∈ lw_all := lw_g (lw_at lw_m1 110 rfl) rfl
theorem q235 : (Jvm.Cond.lays "java/util/TreeMap" "java/util/TreeMap" "descendingMap" "Ljava/util/NavigableMap;") ∈ lw_all := lw_g (lw_at lw_m1 111 rfl) rfl
theorem q236 : (Jvm.Cond.soleField "java/util/TreeMap" "descendingMap") ∈ lw_all := lw_g (lw_at lw_m1 112 rfl) rfl
theorem q237 : (Jvm.Cond.lays "java/util/TreeMap" "java/util/AbstractMap" "keySet" "Ljava/util/Set;") ∈ lw_all := lw_g (lw_at lw_m1 113 rfl) rfl
theorem q239 : (Jvm.Cond.lays "java/util/TreeMap" "java/util/AbstractMap" "values" "Ljava/util/Collection;") ∈ lw_all := lw_g (lw_at lw_m1 115 rfl) rfl
theorem q241 : (Jvm.Cond.superclass "java/util/TreeMap" "java/util/AbstractMap") ∈ lw_all := lw_g (lw_at lw_m1 117 rfl) rfl
theorem q265 : (Jvm.Cond.instanceMethod ({ cls := "java/util/TreeMap", name := "containsKey", desc := "(Ljava/lang/Object;)Z" } : Jvm.MethodName)) ∈ lw_all := lw_g (lw_at lw_m1 141 rfl) rfl
theorem q266 : (Jvm.Cond.selects "java/util/TreeMap" ({ cls := "java/util/TreeMap", name := "containsKey", desc := "(Ljava/lang/Object;)Z" } : Jvm.MethodName) ({ cls := "java/util/TreeMap", name := "containsKey", desc := "(Ljava/lang/Object;)Z" } : Jvm.MethodName)) ∈ lw_all := lw_g (lw_at lw_m1 142 rfl) rfl
theorem q267 : (Jvm.Cond.code ({ cls := "java/util/TreeMap", name := "containsKey", desc := "(Ljava/lang/Object;)Z" } : Jvm.MethodName) prog_76_method_6_code (2 : Nat) (Option.some Jvm.ClassFile.FieldType.boolean)) ∈ lw_all := lw_g (lw_at lw_m1 143 rfl) rfl
theorem q268 : (Jvm.Cond.methodLink "java/util/TreeMap" (50 : Nat) ({ cls := "java/util/TreeMap", name := "getEntry", desc := "(Ljava/lang/Object;)Ljava/util/TreeMap$Entry;" } : Jvm.MethodName)) ∈ lw_all := lw_g (lw_at lw_m1 144 rfl) rfl
theorem q269 : (Jvm.Cond.instanceMethod ({ cls := "java/util/TreeMap", name := "getEntry", desc := "(Ljava/lang/Object;)Ljava/util/TreeMap$Entry;" } : Jvm.MethodName)) ∈ lw_all := lw_g (lw_at lw_m1 145 rfl) rfl
theorem q270 : (Jvm.Cond.selects "java/util/TreeMap" ({ cls := "java/util/TreeMap", name := "getEntry", desc := "(Ljava/lang/Object;)Ljava/util/TreeMap$Entry;" } : Jvm.MethodName) ({ cls := "java/util/TreeMap", name := "getEntry", desc := "(Ljava/lang/Object;)Ljava/util/TreeMap$Entry;" } : Jvm.MethodName)) ∈ lw_all := lw_g (lw_at lw_m1 146 rfl) rfl
theorem q271 : (Jvm.Cond.code ({ cls := "java/util/TreeMap", name := "getEntry", desc := "(Ljava/lang/Object;)Ljava/util/TreeMap$Entry;" } : Jvm.MethodName) prog_76_method_15_code (5 : Nat) (Option.some (Jvm.ClassFile.FieldType.object "java/util/TreeMap$Entry"))) ∈ lw_all := lw_g (lw_at lw_m1 147 rfl) rfl
theorem q272 : (Jvm.Cond.methodLink "java/util/TreeMap" (92 : Nat) ({ cls := "java/util/TreeMap", name := "getEntryUsingComparator", desc := "(Ljava/lang/Object;)Ljava/util/TreeMap$Entry;" } : Jvm.MethodName)) ∈ lw_all := lw_g (lw_at lw_m1 148 rfl) rfl
theorem q273 : (Jvm.Cond.instanceMethod ({ cls := "java/util/TreeMap", name := "getEntryUsingComparator", desc := "(Ljava/lang/Object;)Ljava/util/TreeMap$Entry;" } : Jvm.MethodName)) ∈ lw_all := lw_g (lw_at lw_m1 149 rfl) rfl
theorem q274 : (Jvm.Cond.selects "java/util/TreeMap" ({ cls := "java/util/TreeMap", name := "getEntryUsingComparator", desc := "(Ljava/lang/Object;)Ljava/util/TreeMap$Entry;" } : Jvm.MethodName) ({ cls := "java/util/TreeMap", name := "getEntryUsingComparator", desc := "(Ljava/lang/Object;)Ljava/util/TreeMap$Entry;" } : Jvm.MethodName)) ∈ lw_all := lw_g (lw_at lw_m1 150 rfl) rfl
theorem q275 : (Jvm.Cond.code ({ cls := "java/util/TreeMap", name := "getEntryUsingComparator", desc := "(Ljava/lang/Object;)Ljava/util/TreeMap$Entry;" } : Jvm.MethodName) prog_76_method_16_code (6 : Nat) (Option.some (Jvm.ClassFile.FieldType.object "java/util/TreeMap$Entry"))) ∈ lw_all := lw_g (lw_at lw_m1 151 rfl) rfl
theorem q276 : (Jvm.Cond.interfaceEntry "java/util/TreeMap" (117 : Nat)) ∈ lw_tbl := lw_at lw_m1 152 rfl
theorem q277 : (Jvm.Cond.methodLink "java/util/TreeMap" (117 : Nat) ({ cls := "java/util/Comparator", name := "compare", desc := "(Ljava/lang/Object;Ljava/lang/Object;)I" } : Jvm.MethodName)) ∈ lw_all := lw_g (lw_at lw_m1 153 rfl) rfl
theorem q363 : (Jvm.Cond.methodLink "java/util/TreeMap" (95 : Nat) ({ cls := "java/util/Objects", name := "requireNonNull", desc := "(Ljava/lang/Object;)Ljava/lang/Object;" } : Jvm.MethodName)) ∈ lw_all := lw_g (lw_at lw_m1 239 rfl) rfl
theorem q366 : (Jvm.Cond.classLink "java/util/TreeMap" (99 : Nat) "java/lang/Comparable") ∈ lw_all := lw_g (lw_at lw_m2 2 rfl) rfl
theorem q367 : (Jvm.Cond.interfaceEntry "java/util/TreeMap" (107 : Nat)) ∈ lw_tbl := lw_at lw_m2 3 rfl
theorem q368 : (Jvm.Cond.methodLink "java/util/TreeMap" (107 : Nat) ({ cls := "java/lang/Comparable", name := "compareTo", desc := "(Ljava/lang/Object;)I" } : Jvm.MethodName)) ∈ lw_all := lw_g (lw_at lw_m2 4 rfl) rfl
theorem q594 : (Jvm.Cond.instanceMethod ({ cls := "java/util/TreeMap", name := "size", desc := "()I" } : Jvm.MethodName)) ∈ lw_all := lw_g (lw_at lw_m2 230 rfl) rfl
theorem q595 : (Jvm.Cond.selects "java/util/TreeMap" ({ cls := "java/util/TreeMap", name := "size", desc := "()I" } : Jvm.MethodName) ({ cls := "java/util/TreeMap", name := "size", desc := "()I" } : Jvm.MethodName)) ∈ lw_all := lw_g (lw_at lw_m2 231 rfl) rfl
theorem q596 : (Jvm.Cond.code ({ cls := "java/util/TreeMap", name := "size", desc := "()I" } : Jvm.MethodName) prog_76_method_5_code (1 : Nat) (Option.some Jvm.ClassFile.FieldType.int)) ∈ lw_all := lw_g (lw_at lw_m2 232 rfl) rfl
theorem q598 : (Jvm.Cond.instanceMethod ({ cls := "java/util/TreeMap", name := "put", desc := "(Ljava/lang/Object;Ljava/lang/Object;)Ljava/lang/Object;" } : Jvm.MethodName)) ∈ lw_all := lw_g (lw_at lw_m2 234 rfl) rfl
theorem q599 : (Jvm.Cond.selects "java/util/TreeMap" ({ cls := "java/util/TreeMap", name := "put", desc := "(Ljava/lang/Object;Ljava/lang/Object;)Ljava/lang/Object;" } : Jvm.MethodName) ({ cls := "java/util/TreeMap", name := "put", desc := "(Ljava/lang/Object;Ljava/lang/Object;)Ljava/lang/Object;" } : Jvm.MethodName)) ∈ lw_all := lw_g (lw_at lw_m2 235 rfl) rfl
theorem q600 : (Jvm.Cond.code ({ cls := "java/util/TreeMap", name := "put", desc := "(Ljava/lang/Object;Ljava/lang/Object;)Ljava/lang/Object;" } : Jvm.MethodName) prog_76_method_21_code (3 : Nat) (Option.some (Jvm.ClassFile.FieldType.object "java/lang/Object"))) ∈ lw_all := lw_g (lw_at lw_m2 236 rfl) rfl
theorem q601 : (Jvm.Cond.methodLink "java/util/TreeMap" (127 : Nat) ({ cls := "java/util/TreeMap", name := "put", desc := "(Ljava/lang/Object;Ljava/lang/Object;Z)Ljava/lang/Object;" } : Jvm.MethodName)) ∈ lw_all := lw_g (lw_at lw_m2 237 rfl) rfl
theorem q602 : (Jvm.Cond.privateMethod ({ cls := "java/util/TreeMap", name := "put", desc := "(Ljava/lang/Object;Ljava/lang/Object;Z)Ljava/lang/Object;" } : Jvm.MethodName)) ∈ lw_tbl := lw_at lw_m2 238 rfl
theorem q603 : (Jvm.Cond.instanceMethod ({ cls := "java/util/TreeMap", name := "put", desc := "(Ljava/lang/Object;Ljava/lang/Object;Z)Ljava/lang/Object;" } : Jvm.MethodName)) ∈ lw_all := lw_g (lw_at lw_m2 239 rfl) rfl
theorem q604 : (Jvm.Cond.code ({ cls := "java/util/TreeMap", name := "put", desc := "(Ljava/lang/Object;Ljava/lang/Object;Z)Ljava/lang/Object;" } : Jvm.MethodName) prog_76_method_31_code (10 : Nat) (Option.some (Jvm.ClassFile.FieldType.object "java/lang/Object"))) ∈ lw_all := lw_g (lw_at lw_m3 0 rfl) rfl
theorem q605 : (Jvm.Cond.methodLink "java/util/TreeMap" (135 : Nat) ({ cls := "java/util/TreeMap", name := "addEntryToEmptyMap", desc := "(Ljava/lang/Object;Ljava/lang/Object;)V" } : Jvm.MethodName)) ∈ lw_all := lw_g (lw_at lw_m3 1 rfl) rfl
theorem q606 : (Jvm.Cond.privateMethod ({ cls := "java/util/TreeMap", name := "addEntryToEmptyMap", desc := "(Ljava/lang/Object;Ljava/lang/Object;)V" } : Jvm.MethodName)) ∈ lw_tbl := lw_at lw_m3 2 rfl
theorem q607 : (Jvm.Cond.instanceMethod ({ cls := "java/util/TreeMap", name := "addEntryToEmptyMap", desc := "(Ljava/lang/Object;Ljava/lang/Object;)V" } : Jvm.MethodName)) ∈ lw_all := lw_g (lw_at lw_m3 3 rfl) rfl
theorem q608 : (Jvm.Cond.code ({ cls := "java/util/TreeMap", name := "addEntryToEmptyMap", desc := "(Ljava/lang/Object;Ljava/lang/Object;)V" } : Jvm.MethodName) prog_76_method_30_code (3 : Nat) (Option.none : Option Jvm.ClassFile.FieldType)) ∈ lw_all := lw_g (lw_at lw_m3 4 rfl) rfl
theorem q609 : (Jvm.Cond.methodLink "java/util/TreeMap" (123 : Nat) ({ cls := "java/util/TreeMap", name := "compare", desc := "(Ljava/lang/Object;Ljava/lang/Object;)I" } : Jvm.MethodName)) ∈ lw_all := lw_g (lw_at lw_m3 5 rfl) rfl
theorem q610 : (Jvm.Cond.instanceMethod ({ cls := "java/util/TreeMap", name := "compare", desc := "(Ljava/lang/Object;Ljava/lang/Object;)I" } : Jvm.MethodName)) ∈ lw_all := lw_g (lw_at lw_m3 6 rfl) rfl
theorem q611 : (Jvm.Cond.selects "java/util/TreeMap" ({ cls := "java/util/TreeMap", name := "compare", desc := "(Ljava/lang/Object;Ljava/lang/Object;)I" } : Jvm.MethodName) ({ cls := "java/util/TreeMap", name := "compare", desc := "(Ljava/lang/Object;Ljava/lang/Object;)I" } : Jvm.MethodName)) ∈ lw_all := lw_g (lw_at lw_m3 7 rfl) rfl
theorem q612 : (Jvm.Cond.code ({ cls := "java/util/TreeMap", name := "compare", desc := "(Ljava/lang/Object;Ljava/lang/Object;)I" } : Jvm.MethodName) prog_76_method_67_code (3 : Nat) (Option.some Jvm.ClassFile.FieldType.int)) ∈ lw_all := lw_g (lw_at lw_m3 8 rfl) rfl
theorem q613 : (Jvm.Cond.classLink "java/util/TreeMap" (59 : Nat) "java/util/TreeMap$Entry") ∈ lw_all := lw_g (lw_at lw_m3 9 rfl) rfl
theorem q615 : (Jvm.Cond.methodLink "java/util/TreeMap" (167 : Nat) ({ cls := "java/util/TreeMap$Entry", name := "<init>", desc := "(Ljava/lang/Object;Ljava/lang/Object;Ljava/util/TreeMap$Entry;)V" } : Jvm.MethodName)) ∈ lw_all := lw_g (lw_at lw_m3 11 rfl) rfl
theorem q620 : (Jvm.Cond.fieldLink "java/util/TreeMap" (105 : Nat) "java/util/TreeMap$Entry" "key" "Ljava/lang/Object;") ∈ lw_all := lw_g (lw_at lw_m3 16 rfl) rfl
theorem q622 : (Jvm.Cond.fieldLink "java/util/TreeMap" (58 : Nat) "java/util/TreeMap$Entry" "value" "Ljava/lang/Object;") ∈ lw_all := lw_g (lw_at lw_m3 18 rfl) rfl
theorem q623 : (Jvm.Cond.fieldLink "java/util/TreeMap" (111 : Nat) "java/util/TreeMap$Entry" "left" "Ljava/util/TreeMap$Entry;") ∈ lw_all := lw_g (lw_at lw_m3 19 rfl) rfl
theorem q624 : (Jvm.Cond.fieldLink "java/util/TreeMap" (114 : Nat) "java/util/TreeMap$Entry" "right" "Ljava/util/TreeMap$Entry;") ∈ lw_all := lw_g (lw_at lw_m3 20 rfl) rfl
theorem q626 : (Jvm.Cond.fieldLink "java/util/TreeMap" (124 : Nat) "java/util/TreeMap$Entry" "parent" "Ljava/util/TreeMap$Entry;") ∈ lw_all := lw_g (lw_at lw_m3 22 rfl) rfl
theorem q628 : (Jvm.Cond.fieldLink "java/util/TreeMap" (290 : Nat) "java/util/TreeMap$Entry" "color" "Z") ∈ lw_all := lw_g (lw_at lw_m3 24 rfl) rfl
theorem q642 : (Jvm.Cond.methodLink "java/util/TreeMap" (139 : Nat) ({ cls := "java/util/TreeMap", name := "addEntry", desc := "(Ljava/lang/Object;Ljava/lang/Object;Ljava/util/TreeMap$Entry;Z)V" } : Jvm.MethodName)) ∈ lw_all := lw_g (lw_at lw_m3 38 rfl) rfl
theorem q643 : (Jvm.Cond.privateMethod ({ cls := "java/util/TreeMap", name := "addEntry", desc := "(Ljava/lang/Object;Ljava/lang/Object;Ljava/util/TreeMap$Entry;Z)V" } : Jvm.MethodName)) ∈ lw_tbl := lw_at lw_m3 39 rfl
theorem q644 : (Jvm.Cond.instanceMethod ({ cls := "java/util/TreeMap", name := "addEntry", desc := "(Ljava/lang/Object;Ljava/lang/Object;Ljava/util/TreeMap$Entry;Z)V" } : Jvm.MethodName)) ∈ lw_all := lw_g (lw_at lw_m3 40 rfl) rfl
theorem q645 : (Jvm.Cond.code ({ cls := "java/util/TreeMap", name := "addEntry", desc := "(Ljava/lang/Object;Ljava/lang/Object;Ljava/util/TreeMap$Entry;Z)V" } : Jvm.MethodName) prog_76_method_29_code (6 : Nat) (Option.none : Option Jvm.ClassFile.FieldType)) ∈ lw_all := lw_g (lw_at lw_m3 41 rfl) rfl
theorem q646 : (Jvm.Cond.methodLink "java/util/TreeMap" (170 : Nat) ({ cls := "java/util/TreeMap", name := "fixAfterInsertion", desc := "(Ljava/util/TreeMap$Entry;)V" } : Jvm.MethodName)) ∈ lw_all := lw_g (lw_at lw_m3 42 rfl) rfl
theorem q647 : (Jvm.Cond.privateMethod ({ cls := "java/util/TreeMap", name := "fixAfterInsertion", desc := "(Ljava/util/TreeMap$Entry;)V" } : Jvm.MethodName)) ∈ lw_tbl := lw_at lw_m3 43 rfl
theorem q648 : (Jvm.Cond.instanceMethod ({ cls := "java/util/TreeMap", name := "fixAfterInsertion", desc := "(Ljava/util/TreeMap$Entry;)V" } : Jvm.MethodName)) ∈ lw_all := lw_g (lw_at lw_m3 44 rfl) rfl
theorem q649 : (Jvm.Cond.code ({ cls := "java/util/TreeMap", name := "fixAfterInsertion", desc := "(Ljava/util/TreeMap$Entry;)V" } : Jvm.MethodName) prog_76_method_83_code (3 : Nat) (Option.none : Option Jvm.ClassFile.FieldType)) ∈ lw_all := lw_g (lw_at lw_m3 45 rfl) rfl
theorem q650 : (Jvm.Cond.methodLink "java/util/TreeMap" (294 : Nat) ({ cls := "java/util/TreeMap", name := "parentOf", desc := "(Ljava/util/TreeMap$Entry;)Ljava/util/TreeMap$Entry;" } : Jvm.MethodName)) ∈ lw_all := lw_g (lw_at lw_m3 46 rfl) rfl
theorem q651 : (Jvm.Cond.static ({ cls := "java/util/TreeMap", name := "parentOf", desc := "(Ljava/util/TreeMap$Entry;)Ljava/util/TreeMap$Entry;" } : Jvm.MethodName)) ∈ lw_all := lw_g (lw_at lw_m3 47 rfl) rfl
theorem q652 : (Jvm.Cond.code ({ cls := "java/util/TreeMap", name := "parentOf", desc := "(Ljava/util/TreeMap$Entry;)Ljava/util/TreeMap$Entry;" } : Jvm.MethodName) prog_76_method_77_code (1 : Nat) (Option.some (Jvm.ClassFile.FieldType.object "java/util/TreeMap$Entry"))) ∈ lw_all := lw_g (lw_at lw_m3 48 rfl) rfl
theorem q653 : (Jvm.Cond.methodLink "java/util/TreeMap" (297 : Nat) ({ cls := "java/util/TreeMap", name := "leftOf", desc := "(Ljava/util/TreeMap$Entry;)Ljava/util/TreeMap$Entry;" } : Jvm.MethodName)) ∈ lw_all := lw_g (lw_at lw_m3 49 rfl) rfl
theorem q654 : (Jvm.Cond.static ({ cls := "java/util/TreeMap", name := "leftOf", desc := "(Ljava/util/TreeMap$Entry;)Ljava/util/TreeMap$Entry;" } : Jvm.MethodName)) ∈ lw_all := lw_g (lw_at lw_m3 50 rfl) rfl
theorem q655 : (Jvm.Cond.code ({ cls := "java/util/TreeMap", name := "leftOf", desc := "(Ljava/util/TreeMap$Entry;)Ljava/util/TreeMap$Entry;" } : Jvm.MethodName) prog_76_method_79_code (1 : Nat) (Option.some (Jvm.ClassFile.FieldType.object "java/util/TreeMap$Entry"))) ∈ lw_all := lw_g (lw_at lw_m3 51 rfl) rfl
theorem q656 : (Jvm.Cond.methodLink "java/util/TreeMap" (300 : Nat) ({ cls := "java/util/TreeMap", name := "rightOf", desc := "(Ljava/util/TreeMap$Entry;)Ljava/util/TreeMap$Entry;" } : Jvm.MethodName)) ∈ lw_all := lw_g (lw_at lw_m3 52 rfl) rfl
theorem q657 : (Jvm.Cond.static ({ cls := "java/util/TreeMap", name := "rightOf", desc := "(Ljava/util/TreeMap$Entry;)Ljava/util/TreeMap$Entry;" } : Jvm.MethodName)) ∈ lw_all := lw_g (lw_at lw_m3 53 rfl) rfl
theorem q658 : (Jvm.Cond.code ({ cls := "java/util/TreeMap", name := "rightOf", desc := "(Ljava/util/TreeMap$Entry;)Ljava/util/TreeMap$Entry;" } : Jvm.MethodName) prog_76_method_80_code (1 : Nat) (Option.some (Jvm.ClassFile.FieldType.object "java/util/TreeMap$Entry"))) ∈ lw_all := lw_g (lw_at lw_m3 54 rfl) rfl
theorem q659 : (Jvm.Cond.methodLink "java/util/TreeMap" (303 : Nat) ({ cls := "java/util/TreeMap", name := "colorOf", desc := "(Ljava/util/TreeMap$Entry;)Z" } : Jvm.MethodName)) ∈ lw_all := lw_g (lw_at lw_m3 55 rfl) rfl
theorem q660 : (Jvm.Cond.static ({ cls := "java/util/TreeMap", name := "colorOf", desc := "(Ljava/util/TreeMap$Entry;)Z" } : Jvm.MethodName)) ∈ lw_all := lw_g (lw_at lw_m3 56 rfl) rfl
theorem q661 : (Jvm.Cond.code ({ cls := "java/util/TreeMap", name := "colorOf", desc := "(Ljava/util/TreeMap$Entry;)Z" } : Jvm.MethodName) prog_76_method_76_code (1 : Nat) (Option.some Jvm.ClassFile.FieldType.boolean)) ∈ lw_all := lw_g (lw_at lw_m3 57 rfl) rfl
theorem q662 : (Jvm.Cond.methodLink "java/util/TreeMap" (307 : Nat) ({ cls := "java/util/TreeMap", name := "setColor", desc := "(Ljava/util/TreeMap$Entry;Z)V" } : Jvm.MethodName)) ∈ lw_all := lw_g (lw_at lw_m3 58 rfl) rfl
theorem q663 : (Jvm.Cond.static ({ cls := "java/util/TreeMap", name := "setColor", desc := "(Ljava/util/TreeMap$Entry;Z)V" } : Jvm.MethodName)) ∈ lw_all := lw_g (lw_at lw_m3 59 rfl) rfl
theorem q664 : (Jvm.Cond.code ({ cls := "java/util/TreeMap", name := "setColor", desc := "(Ljava/util/TreeMap$Entry;Z)V" } : Jvm.MethodName) prog_76_method_78_code (2 : Nat) (Option.none : Option Jvm.ClassFile.FieldType)) ∈ lw_all := lw_g (lw_at lw_m3 60 rfl) rfl
theorem q665 : (Jvm.Cond.methodLink "java/util/TreeMap" (311 : Nat) ({ cls := "java/util/TreeMap", name := "rotateLeft", desc := "(Ljava/util/TreeMap$Entry;)V" } : Jvm.MethodName)) ∈ lw_all := lw_g (lw_at lw_m3 61 rfl) rfl
theorem q666 : (Jvm.Cond.privateMethod ({ cls := "java/util/TreeMap", name := "rotateLeft", desc := "(Ljava/util/TreeMap$Entry;)V" } : Jvm.MethodName)) ∈ lw_tbl := lw_at lw_m3 62 rfl
theorem q667 : (Jvm.Cond.instanceMethod ({ cls := "java/util/TreeMap", name := "rotateLeft", desc := "(Ljava/util/TreeMap$Entry;)V" } : Jvm.MethodName)) ∈ lw_all := lw_g (lw_at lw_m3 63 rfl) rfl
theorem q668 : (Jvm.Cond.code ({ cls := "java/util/TreeMap", name := "rotateLeft", desc := "(Ljava/util/TreeMap$Entry;)V" } : Jvm.MethodName) prog_76_method_81_code (3 : Nat) (Option.none : Option Jvm.ClassFile.FieldType)) ∈ lw_all := lw_g (lw_at lw_m3 64 rfl) rfl
theorem q669 : (Jvm.Cond.methodLink "java/util/TreeMap" (314 : Nat) ({ cls := "java/util/TreeMap", name := "rotateRight", desc := "(Ljava/util/TreeMap$Entry;)V" } : Jvm.MethodName)) ∈ lw_all := lw_g (lw_at lw_m3 65 rfl) rfl
theorem q670 : (Jvm.Cond.privateMethod ({ cls := "java/util/TreeMap", name := "rotateRight", desc := "(Ljava/util/TreeMap$Entry;)V" } : Jvm.MethodName)) ∈ lw_tbl := lw_at lw_m3 66 rfl
theorem q671 : (Jvm.Cond.instanceMethod ({ cls := "java/util/TreeMap", name := "rotateRight", desc := "(Ljava/util/TreeMap$Entry;)V" } : Jvm.MethodName)) ∈ lw_all := lw_g (lw_at lw_m3 67 rfl) rfl
theorem q672 : (Jvm.Cond.code ({ cls := "java/util/TreeMap", name := "rotateRight", desc := "(Ljava/util/TreeMap$Entry;)V" } : Jvm.MethodName) prog_76_method_82_code (3 : Nat) (Option.none : Option Jvm.ClassFile.FieldType)) ∈ lw_all := lw_g (lw_at lw_m3 68 rfl) rfl
theorem q675 : (Jvm.Cond.instanceMethod ({ cls := "java/util/TreeMap", name := "get", desc := "(Ljava/lang/Object;)Ljava/lang/Object;" } : Jvm.MethodName)) ∈ lw_all := lw_g (lw_at lw_m3 71 rfl) rfl
theorem q676 : (Jvm.Cond.selects "java/util/TreeMap" ({ cls := "java/util/TreeMap", name := "get", desc := "(Ljava/lang/Object;)Ljava/lang/Object;" } : Jvm.MethodName) ({ cls := "java/util/TreeMap", name := "get", desc := "(Ljava/lang/Object;)Ljava/lang/Object;" } : Jvm.MethodName)) ∈ lw_all := lw_g (lw_at lw_m3 72 rfl) rfl
theorem q677 : (Jvm.Cond.code ({ cls := "java/util/TreeMap", name := "get", desc := "(Ljava/lang/Object;)Ljava/lang/Object;" } : Jvm.MethodName) prog_76_method_8_code (3 : Nat) (Option.some (Jvm.ClassFile.FieldType.object "java/lang/Object"))) ∈ lw_all := lw_g (lw_at lw_m3 73 rfl) rfl
theorem q1118 : (Jvm.Cond.selects "java/util/TreeMap" ({ cls := "java/lang/Object", name := "getClass", desc := "()Ljava/lang/Class;" } : Jvm.MethodName) ({ cls := "java/lang/Object", name := "getClass", desc := "()Ljava/lang/Class;" } : Jvm.MethodName)) ∈ lw_all := lw_g (lw_at lw_m5 34 rfl) rfl
theorem q2473 : (Jvm.Cond.instanceMethod ({ cls := "java/util/TreeMap", name := "<init>", desc := "(Ljava/util/Comparator;)V" } : Jvm.MethodName)) ∈ lw_all := lw_g (lw_at lw_m10 189 rfl) rfl
theorem q2474 : (Jvm.Cond.code ({ cls := "java/util/TreeMap", name := "<init>", desc := "(Ljava/util/Comparator;)V" } : Jvm.MethodName) prog_76_method_2_code (2 : Nat) (Option.none : Option Jvm.ClassFile.FieldType)) ∈ lw_all := lw_g (lw_at lw_m10 190 rfl) rfl
theorem q2476 : (Jvm.Cond.sameMethod "java/util/TreeMap" "java/util/AbstractMap" "isEmpty" "()Z") ∈ lw_all := lw_g (lw_at lw_m10 192 rfl) rfl
theorem q2478 : (Jvm.Cond.selects "java/util/TreeMap" ({ cls := "java/util/TreeMap", name := "isEmpty", desc := "()Z" } : Jvm.MethodName) ({ cls := "java/util/AbstractMap", name := "isEmpty", desc := "()Z" } : Jvm.MethodName)) ∈ lw_all := lw_g (lw_at lw_m10 194 rfl) rfl
theorem q2484 : (Jvm.Cond.selects "java/util/TreeMap" ({ cls := "java/util/AbstractMap", name := "size", desc := "()I" } : Jvm.MethodName) ({ cls := "java/util/TreeMap", name := "size", desc := "()I" } : Jvm.MethodName)) ∈ lw_all := lw_g (lw_at lw_m10 200 rfl) rfl
theorem q2487 : (Jvm.Cond.instanceMethod ({ cls := "java/util/TreeMap", name := "firstKey", desc := "()Ljava/lang/Object;" } : Jvm.MethodName)) ∈ lw_all := lw_g (lw_at lw_m10 203 rfl) rfl
theorem q2488 : (Jvm.Cond.selects "java/util/TreeMap" ({ cls := "java/util/TreeMap", name := "firstKey", desc := "()Ljava/lang/Object;" } : Jvm.MethodName) ({ cls := "java/util/TreeMap", name := "firstKey", desc := "()Ljava/lang/Object;" } : Jvm.MethodName)) ∈ lw_all := lw_g (lw_at lw_m10 204 rfl) rfl
theorem q2489 : (Jvm.Cond.code ({ cls := "java/util/TreeMap", name := "firstKey", desc := "()Ljava/lang/Object;" } : Jvm.MethodName) prog_76_method_10_code (1 : Nat) (Option.some (Jvm.ClassFile.FieldType.object "java/lang/Object"))) ∈ lw_all := lw_g (lw_at lw_m10 205 rfl) rfl
theorem q2490 : (Jvm.Cond.methodLink "java/util/TreeMap" (54 : Nat) ({ cls := "java/util/TreeMap", name := "getFirstEntry", desc := "()Ljava/util/TreeMap$Entry;" } : Jvm.MethodName)) ∈ lw_all := lw_g (lw_at lw_m10 206 rfl) rfl
theorem q2491 : (Jvm.Cond.instanceMethod ({ cls := "java/util/TreeMap", name := "getFirstEntry", desc := "()Ljava/util/TreeMap$Entry;" } : Jvm.MethodName)) ∈ lw_all := lw_g (lw_at lw_m10 207 rfl) rfl
theorem q2492 : (Jvm.Cond.selects "java/util/TreeMap" ({ cls := "java/util/TreeMap", name := "getFirstEntry", desc := "()Ljava/util/TreeMap$Entry;" } : Jvm.MethodName) ({ cls := "java/util/TreeMap", name := "getFirstEntry", desc := "()Ljava/util/TreeMap$Entry;" } : Jvm.MethodName)) ∈ lw_all := lw_g (lw_at lw_m10 208 rfl) rfl
theorem q2493 : (Jvm.Cond.code ({ cls := "java/util/TreeMap", name := "getFirstEntry", desc := "()Ljava/util/TreeMap$Entry;" } : Jvm.MethodName) prog_76_method_72_code (2 : Nat) (Option.some (Jvm.ClassFile.FieldType.object "java/util/TreeMap$Entry"))) ∈ lw_all := lw_g (lw_at lw_m10 209 rfl) rfl
theorem q2494 : (Jvm.Cond.methodLink "java/util/TreeMap" (72 : Nat) ({ cls := "java/util/TreeMap", name := "key", desc := "(Ljava/util/TreeMap$Entry;)Ljava/lang/Object;" } : Jvm.MethodName)) ∈ lw_all := lw_g (lw_at lw_m10 210 rfl) rfl
theorem q2495 : (Jvm.Cond.static ({ cls := "java/util/TreeMap", name := "key", desc := "(Ljava/util/TreeMap$Entry;)Ljava/lang/Object;" } : Jvm.MethodName)) ∈ lw_all := lw_g (lw_at lw_m10 211 rfl) rfl
theorem q2496 : (Jvm.Cond.code ({ cls := "java/util/TreeMap", name := "key", desc := "(Ljava/util/TreeMap$Entry;)Ljava/lang/Object;" } : Jvm.MethodName) prog_76_method_71_code (1 : Nat) (Option.some (Jvm.ClassFile.FieldType.object "java/lang/Object"))) ∈ lw_all := lw_g (lw_at lw_m10 212 rfl) rfl
theorem q3194 : (Jvm.Cond.castable "java/util/TreeMap" "java/lang/Object") ∈ lw_tbl := lw_at lw_m13 190 rfl
theorem in_J1 : ∀ w ∈ wsJ10, w ∈ lw_all := lw_in wsJ10 [237, 239, 223, 225, 227, 229, 231, 233, 235] (by decide +kernel) (by decide +kernel)
/-! java/lang/Number -/
set_option maxRecDepth 100000
def RJ2 : String := "java/lang/Number"
abbrev cJ2_init : ByteArray := prog_41_method_1_code
def yJ2_init : MethodName := ⟨RJ2, "<init>", "()V"⟩
theorem dJ2_init_0 : decode cJ2_init 0 = .ok (.aload_n 0, 1) := by decide +kernel
theorem dJ2_init_1 : decode cJ2_init 1 = .ok (.invokespecial 1, 3) := by decide +kernel
theorem dJ2_init_4 : decode cJ2_init 4 = .ok (.return_, 1) := by decide +kernel
theorem q131 : (Jvm.Cond.initialized "java/lang/Number") ∈ lw_all := lw_g (lw_at lw_m1 7 rfl) rfl
theorem q257 : (Jvm.Cond.instanceMethod ({ cls := "java/lang/Number", name := "<init>", desc := "()V" } : Jvm.MethodName)) ∈ lw_all := lw_g (lw_at lw_m1 133 rfl) rfl
theorem q258 : (Jvm.Cond.code ({ cls := "java/lang/Number", name := "<init>", desc := "()V" } : Jvm.MethodName) prog_41_method_1_code (1 : Nat) (Option.none : Option Jvm.ClassFile.FieldType)) ∈ lw_all := lw_g (lw_at lw_m1 134 rfl) rfl
theorem q259 : (Jvm.Cond.methodLink "java/lang/Number" (1 : Nat) ({ cls := "java/lang/Object", name := "<init>", desc := "()V" } : Jvm.MethodName)) ∈ lw_all := lw_g (lw_at lw_m1 135 rfl) rfl
/-! java/lang/Integer -/
set_option maxRecDepth 100000
def RJ3 : String := "java/lang/Integer"
def TJ3 : u_T := fun k => match k with
  | _ => ("java/lang/Integer", "value", "I", true)
def tyJ3 : Nat → FieldType := fun k => match k with
  | _ => .int
abbrev wsJ30 : List Cond := u_ws RJ3 TJ3 1
theorem nmJ3 : ∀ a, a < 1 → ∀ b, b < 1 → a ≠ b → (TJ3 a).2.1 ≠ (TJ3 b).2.1 := by decide +kernel
theorem tyJ3_ok : ∀ k, k < 1 → parseFieldDescriptor (TJ3 k).2.2.1 = some (tyJ3 k) := by decide +kernel
abbrev cJ3_valueOf : ByteArray := prog_36_method_22_code
def yJ3_valueOf : MethodName := ⟨RJ3, "valueOf", "(I)Ljava/lang/Integer;"⟩
def dkwJ3_valueOf_1 : List UInt8 := [187, 0, 1, 89, 26, 183, 0, 199, 176]
abbrev dktJ3_valueOf_1 : List UInt8 := dkwJ3_valueOf_1 ++ []
def dkwJ3_valueOf_0 : List UInt8 := [26, 16, 128, 161, 0, 20, 26, 178, 0, 191, 163, 0, 13, 178, 0, 195, 26, 17, 0, 128, 96, 50, 176]
abbrev dktJ3_valueOf_0 : List UInt8 := dkwJ3_valueOf_0 ++ dktJ3_valueOf_1
theorem dksJ3_valueOf_0 : cJ3_valueOf.data.toList.drop 0 = dktJ3_valueOf_0 := by decide +kernel
theorem dksJ3_valueOf_1 : cJ3_valueOf.data.toList.drop 23 = dktJ3_valueOf_1 := dk_seg dksJ3_valueOf_0 23 rfl rfl
theorem dJ3_valueOf_0 : decode cJ3_valueOf 0 = .ok (.iload_n 0, 1) := dk_26 (dk_at dksJ3_valueOf_0 0 rfl rfl)
theorem dJ3_valueOf_1 : decode cJ3_valueOf 1 = .ok (.bipush (-128), 2) := dk_16 128 (dk_at dksJ3_valueOf_0 1 rfl rfl)
theorem dJ3_valueOf_3 : decode cJ3_valueOf 3 = .ok (.if_icmp .lt 20, 3) := dk_161 0 20 (dk_at dksJ3_valueOf_0 3 rfl rfl)
theorem dJ3_valueOf_6 : decode cJ3_valueOf 6 = .ok (.iload_n 0, 1) := dk_26 (dk_at dksJ3_valueOf_0 6 rfl rfl)
theorem dJ3_valueOf_7 : decode cJ3_valueOf 7 = .ok (.getstatic 191, 3) := dk_178 0 191 (dk_at dksJ3_valueOf_0 7 rfl rfl)
theorem dJ3_valueOf_10 : decode cJ3_valueOf 10 = .ok (.if_icmp .gt 13, 3) := dk_163 0 13 (dk_at dksJ3_valueOf_0 10 rfl rfl)
theorem dJ3_valueOf_13 : decode cJ3_valueOf 13 = .ok (.getstatic 195, 3) := dk_178 0 195 (dk_at dksJ3_valueOf_0 13 rfl rfl)
theorem dJ3_valueOf_16 : decode cJ3_valueOf 16 = .ok (.iload_n 0, 1) := dk_26 (dk_at dksJ3_valueOf_0 16 rfl rfl)
theorem dJ3_valueOf_17 : decode cJ3_valueOf 17 = .ok (.sipush 128, 3) := dk_17 0 128 (dk_at dksJ3_valueOf_0 17 rfl rfl)
theorem dJ3_valueOf_20 : decode cJ3_valueOf 20 = .ok (.iadd, 1) := dk_96 (dk_at dksJ3_valueOf_0 20 rfl rfl)
theorem dJ3_valueOf_21 : decode cJ3_valueOf 21 = .ok (.aaload, 1) := dk_50 (dk_at dksJ3_valueOf_0 21 rfl rfl)
theorem dJ3_valueOf_22 : decode cJ3_valueOf 22 = .ok (.areturn, 1) := dk_176 (dk_at dksJ3_valueOf_0 22 rfl rfl)
theorem dJ3_valueOf_23 : decode cJ3_valueOf 23 = .ok (.new 1, 3) := dk_187 0 1 (dk_at dksJ3_valueOf_1 0 rfl rfl)
theorem dJ3_valueOf_26 : decode cJ3_valueOf 26 = .ok (.dup, 1) := dk_89 (dk_at dksJ3_valueOf_1 3 rfl rfl)
theorem dJ3_valueOf_27 : decode cJ3_valueOf 27 = .ok (.iload_n 0, 1) := dk_26 (dk_at dksJ3_valueOf_1 4 rfl rfl)
theorem dJ3_valueOf_28 : decode cJ3_valueOf 28 = .ok (.invokespecial 199, 3) := dk_183 0 199 (dk_at dksJ3_valueOf_1 5 rfl rfl)
theorem dJ3_valueOf_31 : decode cJ3_valueOf 31 = .ok (.areturn, 1) := dk_176 (dk_at dksJ3_valueOf_1 8 rfl rfl)
abbrev cJ3_init : ByteArray := prog_36_method_23_code
def yJ3_init : MethodName := ⟨RJ3, "<init>", "(I)V"⟩
def dkwJ3_init_0 : List UInt8 := [42, 183, 0, 202, 42, 27, 181, 0, 205, 177]
abbrev dktJ3_init_0 : List UInt8 := dkwJ3_init_0 ++ []
theorem dksJ3_init_0 : cJ3_init.data.toList.drop 0 = dktJ3_init_0 := by decide +kernel
theorem dJ3_init_0 : decode cJ3_init 0 = .ok (.aload_n 0, 1) := dk_42 (dk_at dksJ3_init_0 0 rfl rfl)
theorem dJ3_init_1 : decode cJ3_init 1 = .ok (.invokespecial 202, 3) := dk_183 0 202 (dk_at dksJ3_init_0 1 rfl rfl)
theorem dJ3_init_4 : decode cJ3_init 4 = .ok (.aload_n 0, 1) := dk_42 (dk_at dksJ3_init_0 4 rfl rfl)
theorem dJ3_init_5 : decode cJ3_init 5 = .ok (.iload_n 1, 1) := dk_27 (dk_at dksJ3_init_0 5 rfl rfl)
theorem dJ3_init_6 : decode cJ3_init 6 = .ok (.putfield 205, 3) := dk_181 0 205 (dk_at dksJ3_init_0 6 rfl rfl)
theorem dJ3_init_9 : decode cJ3_init 9 = .ok (.return_, 1) := dk_177 (dk_at dksJ3_init_0 9 rfl rfl)
abbrev cJ3_compare : ByteArray := prog_36_method_40_code
def yJ3_compare : MethodName := ⟨RJ3, "compare", "(II)I"⟩
def dkwJ3_compare_0 : List UInt8 := [26, 27, 162, 0, 7, 2, 167, 0, 13, 26, 27, 160, 0, 7, 3, 167, 0, 4, 4, 172]
abbrev dktJ3_compare_0 : List UInt8 := dkwJ3_compare_0 ++ []
theorem dksJ3_compare_0 : cJ3_compare.data.toList.drop 0 = dktJ3_compare_0 := by decide +kernel
theorem dJ3_compare_0 : decode cJ3_compare 0 = .ok (.iload_n 0, 1) := dk_26 (dk_at dksJ3_compare_0 0 rfl rfl)
theorem dJ3_compare_1 : decode cJ3_compare 1 = .ok (.iload_n 1, 1) := dk_27 (dk_at dksJ3_compare_0 1 rfl rfl)
theorem dJ3_compare_2 : decode cJ3_compare 2 = .ok (.if_icmp .ge 7, 3) := dk_162 0 7 (dk_at dksJ3_compare_0 2 rfl rfl)
theorem dJ3_compare_5 : decode cJ3_compare 5 = .ok (.iconst (-1), 1) := dk_2 (dk_at dksJ3_compare_0 5 rfl rfl)
theorem dJ3_compare_6 : decode cJ3_compare 6 = .ok (.goto 13, 3) := dk_167 0 13 (dk_at dksJ3_compare_0 6 rfl rfl)
theorem dJ3_compare_9 : decode cJ3_compare 9 = .ok (.iload_n 0, 1) := dk_26 (dk_at dksJ3_compare_0 9 rfl rfl)
theorem dJ3_compare_10 : decode cJ3_compare 10 = .ok (.iload_n 1, 1) := dk_27 (dk_at dksJ3_compare_0 10 rfl rfl)
theorem dJ3_compare_11 : decode cJ3_compare 11 = .ok (.if_icmp .ne 7, 3) := dk_160 0 7 (dk_at dksJ3_compare_0 11 rfl rfl)
theorem dJ3_compare_14 : decode cJ3_compare 14 = .ok (.iconst 0, 1) := dk_3 (dk_at dksJ3_compare_0 14 rfl rfl)
theorem dJ3_compare_15 : decode cJ3_compare 15 = .ok (.goto 4, 3) := dk_167 0 4 (dk_at dksJ3_compare_0 15 rfl rfl)
theorem dJ3_compare_18 : decode cJ3_compare 18 = .ok (.iconst 1, 1) := dk_4 (dk_at dksJ3_compare_0 18 rfl rfl)
theorem dJ3_compare_19 : decode cJ3_compare 19 = .ok (.ireturn, 1) := dk_172 (dk_at dksJ3_compare_0 19 rfl rfl)
abbrev cJ3_intValue : ByteArray := prog_36_method_27_code
def yJ3_intValue : MethodName := ⟨RJ3, "intValue", "()I"⟩
theorem dJ3_intValue_0 : decode cJ3_intValue 0 = .ok (.aload_n 0, 1) := by decide +kernel
theorem dJ3_intValue_1 : decode cJ3_intValue 1 = .ok (.getfield 205, 3) := by decide +kernel
theorem dJ3_intValue_4 : decode cJ3_intValue 4 = .ok (.ireturn, 1) := by decide +kernel
abbrev cJ3_bitCount : ByteArray := prog_36_method_49_code
def yJ3_bitCount : MethodName := ⟨RJ3, "bitCount", "(I)I"⟩
def dkwJ3_bitCount_2 : List UInt8 := [26, 16, 63, 126, 172]
abbrev dktJ3_bitCount_2 : List UInt8 := dkwJ3_bitCount_2 ++ []
def dkwJ3_bitCount_1 : List UInt8 := [26, 26, 7, 124, 96, 19, 1, 11, 126, 59, 26, 26, 16, 8, 124, 96, 59, 26, 26, 16, 16, 124, 96, 59]
abbrev dktJ3_bitCount_1 : List UInt8 := dkwJ3_bitCount_1 ++ dktJ3_bitCount_2
def dkwJ3_bitCount_0 : List UInt8 := [26, 26, 4, 124, 19, 1, 9, 126, 100, 59, 26, 19, 1, 10, 126, 26, 5, 124, 19, 1, 10, 126, 96, 59]
abbrev dktJ3_bitCount_0 : List UInt8 := dkwJ3_bitCount_0 ++ dktJ3_bitCount_1
theorem dksJ3_bitCount_0 : cJ3_bitCount.data.toList.drop 0 = dktJ3_bitCount_0 := by decide +kernel
theorem dksJ3_bitCount_1 : cJ3_bitCount.data.toList.drop 24 = dktJ3_bitCount_1 := dk_seg dksJ3_bitCount_0 24 rfl rfl
theorem dksJ3_bitCount_2 : cJ3_bitCount.data.toList.drop 48 = dktJ3_bitCount_2 := dk_seg dksJ3_bitCount_1 24 rfl rfl
theorem dJ3_bitCount_0 : decode cJ3_bitCount 0 = .ok (.iload_n 0, 1) := dk_26 (dk_at dksJ3_bitCount_0 0 rfl rfl)
theorem dJ3_bitCount_1 : decode cJ3_bitCount 1 = .ok (.iload_n 0, 1) := dk_26 (dk_at dksJ3_bitCount_0 1 rfl rfl)
theorem dJ3_bitCount_2 : decode cJ3_bitCount 2 = .ok (.iconst 1, 1) := dk_4 (dk_at dksJ3_bitCount_0 2 rfl rfl)
theorem dJ3_bitCount_3 : decode cJ3_bitCount 3 = .ok (.iushr, 1) := dk_124 (dk_at dksJ3_bitCount_0 3 rfl rfl)
theorem dJ3_bitCount_4 : decode cJ3_bitCount 4 = .ok (.ldc_w 265, 3) := dk_19 1 9 (dk_at dksJ3_bitCount_0 4 rfl rfl)
theorem dJ3_bitCount_7 : decode cJ3_bitCount 7 = .ok (.iand, 1) := dk_126 (dk_at dksJ3_bitCount_0 7 rfl rfl)
theorem dJ3_bitCount_8 : decode cJ3_bitCount 8 = .ok (.isub, 1) := dk_100 (dk_at dksJ3_bitCount_0 8 rfl rfl)
theorem dJ3_bitCount_9 : decode cJ3_bitCount 9 = .ok (.istore_n 0, 1) := dk_59 (dk_at dksJ3_bitCount_0 9 rfl rfl)
theorem dJ3_bitCount_10 : decode cJ3_bitCount 10 = .ok (.iload_n 0, 1) := dk_26 (dk_at dksJ3_bitCount_0 10 rfl rfl)
theorem dJ3_bitCount_11 : decode cJ3_bitCount 11 = .ok (.ldc_w 266, 3) := dk_19 1 10 (dk_at dksJ3_bitCount_0 11 rfl rfl)
theorem dJ3_bitCount_14 : decode cJ3_bitCount 14 = .ok (.iand, 1) := dk_126 (dk_at dksJ3_bitCount_0 14 rfl rfl)
theorem dJ3_bitCount_15 : decode cJ3_bitCount 15 = .ok (.iload_n 0, 1) := dk_26 (dk_at dksJ3_bitCount_0 15 rfl rfl)
theorem dJ3_bitCount_16 : decode cJ3_bitCount 16 = .ok (.iconst 2, 1) := dk_5 (dk_at dksJ3_bitCount_0 16 rfl rfl)
theorem dJ3_bitCount_17 : decode cJ3_bitCount 17 = .ok (.iushr, 1) := dk_124 (dk_at dksJ3_bitCount_0 17 rfl rfl)
theorem dJ3_bitCount_18 : decode cJ3_bitCount 18 = .ok (.ldc_w 266, 3) := dk_19 1 10 (dk_at dksJ3_bitCount_0 18 rfl rfl)
theorem dJ3_bitCount_21 : decode cJ3_bitCount 21 = .ok (.iand, 1) := dk_126 (dk_at dksJ3_bitCount_0 21 rfl rfl)
theorem dJ3_bitCount_22 : decode cJ3_bitCount 22 = .ok (.iadd, 1) := dk_96 (dk_at dksJ3_bitCount_0 22 rfl rfl)
theorem dJ3_bitCount_23 : decode cJ3_bitCount 23 = .ok (.istore_n 0, 1) := dk_59 (dk_at dksJ3_bitCount_0 23 rfl rfl)
theorem dJ3_bitCount_24 : decode cJ3_bitCount 24 = .ok (.iload_n 0, 1) := dk_26 (dk_at dksJ3_bitCount_1 0 rfl rfl)
theorem dJ3_bitCount_25 : decode cJ3_bitCount 25 = .ok (.iload_n 0, 1) := dk_26 (dk_at dksJ3_bitCount_1 1 rfl rfl)
theorem dJ3_bitCount_26 : decode cJ3_bitCount 26 = .ok (.iconst 4, 1) := dk_7 (dk_at dksJ3_bitCount_1 2 rfl rfl)
theorem dJ3_bitCount_27 : decode cJ3_bitCount 27 = .ok (.iushr, 1) := dk_124 (dk_at dksJ3_bitCount_1 3 rfl rfl)
theorem dJ3_bitCount_28 : decode cJ3_bitCount 28 = .ok (.iadd, 1) := dk_96 (dk_at dksJ3_bitCount_1 4 rfl rfl)
theorem dJ3_bitCount_29 : decode cJ3_bitCount 29 = .ok (.ldc_w 267, 3) := dk_19 1 11 (dk_at dksJ3_bitCount_1 5 rfl rfl)
theorem dJ3_bitCount_32 : decode cJ3_bitCount 32 = .ok (.iand, 1) := dk_126 (dk_at dksJ3_bitCount_1 8 rfl rfl)
theorem dJ3_bitCount_33 : decode cJ3_bitCount 33 = .ok (.istore_n 0, 1) := dk_59 (dk_at dksJ3_bitCount_1 9 rfl rfl)
theorem dJ3_bitCount_34 : decode cJ3_bitCount 34 = .ok (.iload_n 0, 1) := dk_26 (dk_at dksJ3_bitCount_1 10 rfl rfl)
theorem dJ3_bitCount_35 : decode cJ3_bitCount 35 = .ok (.iload_n 0, 1) := dk_26 (dk_at dksJ3_bitCount_1 11 rfl rfl)
theorem dJ3_bitCount_36 : decode cJ3_bitCount 36 = .ok (.bipush 8, 2) := dk_16 8 (dk_at dksJ3_bitCount_1 12 rfl rfl)
theorem dJ3_bitCount_38 : decode cJ3_bitCount 38 = .ok (.iushr, 1) := dk_124 (dk_at dksJ3_bitCount_1 14 rfl rfl)
theorem dJ3_bitCount_39 : decode cJ3_bitCount 39 = .ok (.iadd, 1) := dk_96 (dk_at dksJ3_bitCount_1 15 rfl rfl)
theorem dJ3_bitCount_40 : decode cJ3_bitCount 40 = .ok (.istore_n 0, 1) := dk_59 (dk_at dksJ3_bitCount_1 16 rfl rfl)
theorem dJ3_bitCount_41 : decode cJ3_bitCount 41 = .ok (.iload_n 0, 1) := dk_26 (dk_at dksJ3_bitCount_1 17 rfl rfl)
theorem dJ3_bitCount_42 : decode cJ3_bitCount 42 = .ok (.iload_n 0, 1) := dk_26 (dk_at dksJ3_bitCount_1 18 rfl rfl)
theorem dJ3_bitCount_43 : decode cJ3_bitCount 43 = .ok (.bipush 16, 2) := dk_16 16 (dk_at dksJ3_bitCount_1 19 rfl rfl)
theorem dJ3_bitCount_45 : decode cJ3_bitCount 45 = .ok (.iushr, 1) := dk_124 (dk_at dksJ3_bitCount_1 21 rfl rfl)
theorem dJ3_bitCount_46 : decode cJ3_bitCount 46 = .ok (.iadd, 1) := dk_96 (dk_at dksJ3_bitCount_1 22 rfl rfl)
theorem dJ3_bitCount_47 : decode cJ3_bitCount 47 = .ok (.istore_n 0, 1) := dk_59 (dk_at dksJ3_bitCount_1 23 rfl rfl)
theorem dJ3_bitCount_48 : decode cJ3_bitCount 48 = .ok (.iload_n 0, 1) := dk_26 (dk_at dksJ3_bitCount_2 0 rfl rfl)
theorem dJ3_bitCount_49 : decode cJ3_bitCount 49 = .ok (.bipush 63, 2) := dk_16 63 (dk_at dksJ3_bitCount_2 1 rfl rfl)
theorem dJ3_bitCount_51 : decode cJ3_bitCount 51 = .ok (.iand, 1) := dk_126 (dk_at dksJ3_bitCount_2 3 rfl rfl)
theorem dJ3_bitCount_52 : decode cJ3_bitCount 52 = .ok (.ireturn, 1) := dk_172 (dk_at dksJ3_bitCount_2 4 rfl rfl)
abbrev cJ3_compareTo : ByteArray := prog_36_method_63_code
def yJ3_compareTo : MethodName := ⟨RJ3, "compareTo", "(Ljava/lang/Object;)I"⟩
def dkwJ3_compareTo_0 : List UInt8 := [42, 43, 192, 0, 1, 182, 1, 28, 172]
abbrev dktJ3_compareTo_0 : List UInt8 := dkwJ3_compareTo_0 ++ []
theorem dksJ3_compareTo_0 : cJ3_compareTo.data.toList.drop 0 = dktJ3_compareTo_0 := by decide +kernel
theorem dJ3_compareTo_0 : decode cJ3_compareTo 0 = .ok (.aload_n 0, 1) := dk_42 (dk_at dksJ3_compareTo_0 0 rfl rfl)
theorem dJ3_compareTo_1 : decode cJ3_compareTo 1 = .ok (.aload_n 1, 1) := dk_43 (dk_at dksJ3_compareTo_0 1 rfl rfl)
theorem dJ3_compareTo_2 : decode cJ3_compareTo 2 = .ok (.checkcast 1, 3) := dk_192 0 1 (dk_at dksJ3_compareTo_0 2 rfl rfl)
theorem dJ3_compareTo_5 : decode cJ3_compareTo 5 = .ok (.invokevirtual 284, 3) := dk_182 1 28 (dk_at dksJ3_compareTo_0 5 rfl rfl)
theorem dJ3_compareTo_8 : decode cJ3_compareTo 8 = .ok (.ireturn, 1) := dk_172 (dk_at dksJ3_compareTo_0 8 rfl rfl)
abbrev cJ3_compareTo_2 : ByteArray := prog_36_method_39_code
def yJ3_compareTo_2 : MethodName := ⟨RJ3, "compareTo", "(Ljava/lang/Integer;)I"⟩
def dkwJ3_compareTo_2_0 : List UInt8 := [42, 180, 0, 205, 43, 180, 0, 205, 184, 1, 3, 172]
abbrev dktJ3_compareTo_2_0 : List UInt8 := dkwJ3_compareTo_2_0 ++ []
theorem dksJ3_compareTo_2_0 : cJ3_compareTo_2.data.toList.drop 0 = dktJ3_compareTo_2_0 := by decide +kernel
theorem dJ3_compareTo_2_0 : decode cJ3_compareTo_2 0 = .ok (.aload_n 0, 1) := dk_42 (dk_at dksJ3_compareTo_2_0 0 rfl rfl)
theorem dJ3_compareTo_2_1 : decode cJ3_compareTo_2 1 = .ok (.getfield 205, 3) := dk_180 0 205 (dk_at dksJ3_compareTo_2_0 1 rfl rfl)
theorem dJ3_compareTo_2_4 : decode cJ3_compareTo_2 4 = .ok (.aload_n 1, 1) := dk_43 (dk_at dksJ3_compareTo_2_0 4 rfl rfl)
theorem dJ3_compareTo_2_5 : decode cJ3_compareTo_2 5 = .ok (.getfield 205, 3) := dk_180 0 205 (dk_at dksJ3_compareTo_2_0 5 rfl rfl)
theorem dJ3_compareTo_2_8 : decode cJ3_compareTo_2 8 = .ok (.invokestatic 259, 3) := dk_184 1 3 (dk_at dksJ3_compareTo_2_0 8 rfl rfl)
theorem dJ3_compareTo_2_11 : decode cJ3_compareTo_2 11 = .ok (.ireturn, 1) := dk_172 (dk_at dksJ3_compareTo_2_0 11 rfl rfl)
abbrev cJ3_numberOfLeadingZeros : ByteArray := prog_36_method_47_code
def yJ3_numberOfLeadingZeros : MethodName := ⟨RJ3, "numberOfLeadingZeros", "(I)I"⟩
def dkwJ3_numberOfLeadingZeros_3 : List UInt8 := [5, 124, 59, 27, 26, 4, 124, 100, 172]
abbrev dktJ3_numberOfLeadingZeros_3 : List UInt8 := dkwJ3_numberOfLeadingZeros_3 ++ []
def dkwJ3_numberOfLeadingZeros_2 : List UInt8 := [124, 59, 26, 16, 16, 161, 0, 10, 132, 1, 252, 26, 7, 124, 59, 26, 7, 161, 0, 10, 132, 1, 254, 26]
abbrev dktJ3_numberOfLeadingZeros_2 : List UInt8 := dkwJ3_numberOfLeadingZeros_2 ++ dktJ3_numberOfLeadingZeros_3
def dkwJ3_numberOfLeadingZeros_1 : List UInt8 := [161, 0, 11, 132, 1, 240, 26, 16, 16, 124, 59, 26, 17, 1, 0, 161, 0, 11, 132, 1, 248, 26, 16, 8]
abbrev dktJ3_numberOfLeadingZeros_1 : List UInt8 := dkwJ3_numberOfLeadingZeros_1 ++ dktJ3_numberOfLeadingZeros_2
def dkwJ3_numberOfLeadingZeros_0 : List UInt8 := [26, 157, 0, 14, 26, 154, 0, 8, 16, 32, 167, 0, 4, 3, 172, 16, 31, 60, 26, 19, 1, 8]
abbrev dktJ3_numberOfLeadingZeros_0 : List UInt8 := dkwJ3_numberOfLeadingZeros_0 ++ dktJ3_numberOfLeadingZeros_1
theorem dksJ3_numberOfLeadingZeros_0 : cJ3_numberOfLeadingZeros.data.toList.drop 0 = dktJ3_numberOfLeadingZeros_0 := by decide +kernel
theorem dksJ3_numberOfLeadingZeros_1 : cJ3_numberOfLeadingZeros.data.toList.drop 22 = dktJ3_numberOfLeadingZeros_1 := dk_seg dksJ3_numberOfLeadingZeros_0 22 rfl rfl
theorem dksJ3_numberOfLeadingZeros_2 : cJ3_numberOfLeadingZeros.data.toList.drop 46 = dktJ3_numberOfLeadingZeros_2 := dk_seg dksJ3_numberOfLeadingZeros_1 24 rfl rfl
theorem dksJ3_numberOfLeadingZeros_3 : cJ3_numberOfLeadingZeros.data.toList.drop 70 = dktJ3_numberOfLeadingZeros_3 := dk_seg dksJ3_numberOfLeadingZeros_2 24 rfl rfl
theorem dJ3_numberOfLeadingZeros_0 : decode cJ3_numberOfLeadingZeros 0 = .ok (.iload_n 0, 1) := dk_26 (dk_at dksJ3_numberOfLeadingZeros_0 0 rfl rfl)
theorem dJ3_numberOfLeadingZeros_1 : decode cJ3_numberOfLeadingZeros 1 = .ok (.ifCond .gt 14, 3) := dk_157 0 14 (dk_at dksJ3_numberOfLeadingZeros_0 1 rfl rfl)
theorem dJ3_numberOfLeadingZeros_4 : decode cJ3_numberOfLeadingZeros 4 = .ok (.iload_n 0, 1) := dk_26 (dk_at dksJ3_numberOfLeadingZeros_0 4 rfl rfl)
theorem dJ3_numberOfLeadingZeros_5 : decode cJ3_numberOfLeadingZeros 5 = .ok (.ifCond .ne 8, 3) := dk_154 0 8 (dk_at dksJ3_numberOfLeadingZeros_0 5 rfl rfl)
theorem dJ3_numberOfLeadingZeros_8 : decode cJ3_numberOfLeadingZeros 8 = .ok (.bipush 32, 2) := dk_16 32 (dk_at dksJ3_numberOfLeadingZeros_0 8 rfl rfl)
theorem dJ3_numberOfLeadingZeros_10 : decode cJ3_numberOfLeadingZeros 10 = .ok (.goto 4, 3) := dk_167 0 4 (dk_at dksJ3_numberOfLeadingZeros_0 10 rfl rfl)
theorem dJ3_numberOfLeadingZeros_13 : decode cJ3_numberOfLeadingZeros 13 = .ok (.iconst 0, 1) := dk_3 (dk_at dksJ3_numberOfLeadingZeros_0 13 rfl rfl)
theorem dJ3_numberOfLeadingZeros_14 : decode cJ3_numberOfLeadingZeros 14 = .ok (.ireturn, 1) := dk_172 (dk_at dksJ3_numberOfLeadingZeros_0 14 rfl rfl)
theorem dJ3_numberOfLeadingZeros_15 : decode cJ3_numberOfLeadingZeros 15 = .ok (.bipush 31, 2) := dk_16 31 (dk_at dksJ3_numberOfLeadingZeros_0 15 rfl rfl)
theorem dJ3_numberOfLeadingZeros_17 : decode cJ3_numberOfLeadingZeros 17 = .ok (.istore_n 1, 1) := dk_60 (dk_at dksJ3_numberOfLeadingZeros_0 17 rfl rfl)
theorem dJ3_numberOfLeadingZeros_18 : decode cJ3_numberOfLeadingZeros 18 = .ok (.iload_n 0, 1) := dk_26 (dk_at dksJ3_numberOfLeadingZeros_0 18 rfl rfl)
theorem dJ3_numberOfLeadingZeros_19 : decode cJ3_numberOfLeadingZeros 19 = .ok (.ldc_w 264, 3) := dk_19 1 8 (dk_at dksJ3_numberOfLeadingZeros_0 19 rfl rfl)
theorem dJ3_numberOfLeadingZeros_22 : decode cJ3_numberOfLeadingZeros 22 = .ok (.if_icmp .lt 11, 3) := dk_161 0 11 (dk_at dksJ3_numberOfLeadingZeros_1 0 rfl rfl)
theorem dJ3_numberOfLeadingZeros_25 : decode cJ3_numberOfLeadingZeros 25 = .ok (.iinc 1 (-16), 3) := dk_132 1 240 (dk_at dksJ3_numberOfLeadingZeros_1 3 rfl rfl)
theorem dJ3_numberOfLeadingZeros_28 : decode cJ3_numberOfLeadingZeros 28 = .ok (.iload_n 0, 1) := dk_26 (dk_at dksJ3_numberOfLeadingZeros_1 6 rfl rfl)
theorem dJ3_numberOfLeadingZeros_29 : decode cJ3_numberOfLeadingZeros 29 = .ok (.bipush 16, 2) := dk_16 16 (dk_at dksJ3_numberOfLeadingZeros_1 7 rfl rfl)
theorem dJ3_numberOfLeadingZeros_31 : decode cJ3_numberOfLeadingZeros 31 = .ok (.iushr, 1) := dk_124 (dk_at dksJ3_numberOfLeadingZeros_1 9 rfl rfl)
theorem dJ3_numberOfLeadingZeros_32 : decode cJ3_numberOfLeadingZeros 32 = .ok (.istore_n 0, 1) := dk_59 (dk_at dksJ3_numberOfLeadingZeros_1 10 rfl rfl)
theorem dJ3_numberOfLeadingZeros_33 : decode cJ3_numberOfLeadingZeros 33 = .ok (.iload_n 0, 1) := dk_26 (dk_at dksJ3_numberOfLeadingZeros_1 11 rfl rfl)
theorem dJ3_numberOfLeadingZeros_34 : decode cJ3_numberOfLeadingZeros 34 = .ok (.sipush 256, 3) := dk_17 1 0 (dk_at dksJ3_numberOfLeadingZeros_1 12 rfl rfl)
theorem dJ3_numberOfLeadingZeros_37 : decode cJ3_numberOfLeadingZeros 37 = .ok (.if_icmp .lt 11, 3) := dk_161 0 11 (dk_at dksJ3_numberOfLeadingZeros_1 15 rfl rfl)
theorem dJ3_numberOfLeadingZeros_40 : decode cJ3_numberOfLeadingZeros 40 = .ok (.iinc 1 (-8), 3) := dk_132 1 248 (dk_at dksJ3_numberOfLeadingZeros_1 18 rfl rfl)
theorem dJ3_numberOfLeadingZeros_43 : decode cJ3_numberOfLeadingZeros 43 = .ok (.iload_n 0, 1) := dk_26 (dk_at dksJ3_numberOfLeadingZeros_1 21 rfl rfl)
theorem dJ3_numberOfLeadingZeros_44 : decode cJ3_numberOfLeadingZeros 44 = .ok (.bipush 8, 2) := dk_16 8 (dk_at dksJ3_numberOfLeadingZeros_1 22 rfl rfl)
theorem dJ3_numberOfLeadingZeros_46 : decode cJ3_numberOfLeadingZeros 46 = .ok (.iushr, 1) := dk_124 (dk_at dksJ3_numberOfLeadingZeros_2 0 rfl rfl)
theorem dJ3_numberOfLeadingZeros_47 : decode cJ3_numberOfLeadingZeros 47 = .ok (.istore_n 0, 1) := dk_59 (dk_at dksJ3_numberOfLeadingZeros_2 1 rfl rfl)
theorem dJ3_numberOfLeadingZeros_48 : decode cJ3_numberOfLeadingZeros 48 = .ok (.iload_n 0, 1) := dk_26 (dk_at dksJ3_numberOfLeadingZeros_2 2 rfl rfl)
theorem dJ3_numberOfLeadingZeros_49 : decode cJ3_numberOfLeadingZeros 49 = .ok (.bipush 16, 2) := dk_16 16 (dk_at dksJ3_numberOfLeadingZeros_2 3 rfl rfl)
theorem dJ3_numberOfLeadingZeros_51 : decode cJ3_numberOfLeadingZeros 51 = .ok (.if_icmp .lt 10, 3) := dk_161 0 10 (dk_at dksJ3_numberOfLeadingZeros_2 5 rfl rfl)
theorem dJ3_numberOfLeadingZeros_54 : decode cJ3_numberOfLeadingZeros 54 = .ok (.iinc 1 (-4), 3) := dk_132 1 252 (dk_at dksJ3_numberOfLeadingZeros_2 8 rfl rfl)
theorem dJ3_numberOfLeadingZeros_57 : decode cJ3_numberOfLeadingZeros 57 = .ok (.iload_n 0, 1) := dk_26 (dk_at dksJ3_numberOfLeadingZeros_2 11 rfl rfl)
theorem dJ3_numberOfLeadingZeros_58 : decode cJ3_numberOfLeadingZeros 58 = .ok (.iconst 4, 1) := dk_7 (dk_at dksJ3_numberOfLeadingZeros_2 12 rfl rfl)
theorem dJ3_numberOfLeadingZeros_59 : decode cJ3_numberOfLeadingZeros 59 = .ok (.iushr, 1) := dk_124 (dk_at dksJ3_numberOfLeadingZeros_2 13 rfl rfl)
theorem dJ3_numberOfLeadingZeros_60 : decode cJ3_numberOfLeadingZeros 60 = .ok (.istore_n 0, 1) := dk_59 (dk_at dksJ3_numberOfLeadingZeros_2 14 rfl rfl)
theorem dJ3_numberOfLeadingZeros_61 : decode cJ3_numberOfLeadingZeros 61 = .ok (.iload_n 0, 1) := dk_26 (dk_at dksJ3_numberOfLeadingZeros_2 15 rfl rfl)
theorem dJ3_numberOfLeadingZeros_62 : decode cJ3_numberOfLeadingZeros 62 = .ok (.iconst 4, 1) := dk_7 (dk_at dksJ3_numberOfLeadingZeros_2 16 rfl rfl)
theorem dJ3_numberOfLeadingZeros_63 : decode cJ3_numberOfLeadingZeros 63 = .ok (.if_icmp .lt 10, 3) := dk_161 0 10 (dk_at dksJ3_numberOfLeadingZeros_2 17 rfl rfl)
theorem dJ3_numberOfLeadingZeros_66 : decode cJ3_numberOfLeadingZeros 66 = .ok (.iinc 1 (-2), 3) := dk_132 1 254 (dk_at dksJ3_numberOfLeadingZeros_2 20 rfl rfl)
theorem dJ3_numberOfLeadingZeros_69 : decode cJ3_numberOfLeadingZeros 69 = .ok (.iload_n 0, 1) := dk_26 (dk_at dksJ3_numberOfLeadingZeros_2 23 rfl rfl)
theorem dJ3_numberOfLeadingZeros_70 : decode cJ3_numberOfLeadingZeros 70 = .ok (.iconst 2, 1) := dk_5 (dk_at dksJ3_numberOfLeadingZeros_3 0 rfl rfl)
theorem dJ3_numberOfLeadingZeros_71 : decode cJ3_numberOfLeadingZeros 71 = .ok (.iushr, 1) := dk_124 (dk_at dksJ3_numberOfLeadingZeros_3 1 rfl rfl)
theorem dJ3_numberOfLeadingZeros_72 : decode cJ3_numberOfLeadingZeros 72 = .ok (.istore_n 0, 1) := dk_59 (dk_at dksJ3_numberOfLeadingZeros_3 2 rfl rfl)
theorem dJ3_numberOfLeadingZeros_73 : decode cJ3_numberOfLeadingZeros 73 = .ok (.iload_n 1, 1) := dk_27 (dk_at dksJ3_numberOfLeadingZeros_3 3 rfl rfl)
theorem dJ3_numberOfLeadingZeros_74 : decode cJ3_numberOfLeadingZeros 74 = .ok (.iload_n 0, 1) := dk_26 (dk_at dksJ3_numberOfLeadingZeros_3 4 rfl rfl)
theorem dJ3_numberOfLeadingZeros_75 : decode cJ3_numberOfLeadingZeros 75 = .ok (.iconst 1, 1) := dk_4 (dk_at dksJ3_numberOfLeadingZeros_3 5 rfl rfl)
theorem dJ3_numberOfLeadingZeros_76 : decode cJ3_numberOfLeadingZeros 76 = .ok (.iushr, 1) := dk_124 (dk_at dksJ3_numberOfLeadingZeros_3 6 rfl rfl)
theorem dJ3_numberOfLeadingZeros_77 : decode cJ3_numberOfLeadingZeros 77 = .ok (.isub, 1) := dk_100 (dk_at dksJ3_numberOfLeadingZeros_3 7 rfl rfl)
theorem dJ3_numberOfLeadingZeros_78 : decode cJ3_numberOfLeadingZeros 78 = .ok (.ireturn, 1) := dk_172 (dk_at dksJ3_numberOfLeadingZeros_3 8 rfl rfl)
abbrev cJ3_numberOfTrailingZeros : ByteArray := prog_36_method_48_code
def yJ3_numberOfTrailingZeros : MethodName := ⟨RJ3, "numberOfTrailingZeros", "(I)I"⟩
def dkwJ3_numberOfTrailingZeros_3 : List UInt8 := [5, 124, 59, 27, 26, 4, 124, 96, 172]
abbrev dktJ3_numberOfTrailingZeros_3 : List UInt8 := dkwJ3_numberOfTrailingZeros_3 ++ []
def dkwJ3_numberOfTrailingZeros_2 : List UInt8 := [124, 59, 26, 16, 16, 164, 0, 10, 132, 1, 4, 26, 7, 124, 59, 26, 7, 164, 0, 10, 132, 1, 2, 26]
abbrev dktJ3_numberOfTrailingZeros_2 : List UInt8 := dkwJ3_numberOfTrailingZeros_2 ++ dktJ3_numberOfTrailingZeros_3
def dkwJ3_numberOfTrailingZeros_1 : List UInt8 := [164, 0, 11, 132, 1, 16, 26, 16, 16, 124, 59, 26, 17, 1, 0, 164, 0, 11, 132, 1, 8, 26, 16, 8]
abbrev dktJ3_numberOfTrailingZeros_1 : List UInt8 := dkwJ3_numberOfTrailingZeros_1 ++ dktJ3_numberOfTrailingZeros_2
def dkwJ3_numberOfTrailingZeros_0 : List UInt8 := [26, 2, 130, 26, 4, 100, 126, 59, 26, 157, 0, 8, 26, 16, 32, 126, 172, 4, 60, 26, 19, 1, 8]
abbrev dktJ3_numberOfTrailingZeros_0 : List UInt8 := dkwJ3_numberOfTrailingZeros_0 ++ dktJ3_numberOfTrailingZeros_1
theorem dksJ3_numberOfTrailingZeros_0 : cJ3_numberOfTrailingZeros.data.toList.drop 0 = dktJ3_numberOfTrailingZeros_0 := by decide +kernel
theorem dksJ3_numberOfTrailingZeros_1 : cJ3_numberOfTrailingZeros.data.toList.drop 23 = dktJ3_numberOfTrailingZeros_1 := dk_seg dksJ3_numberOfTrailingZeros_0 23 rfl rfl
theorem dksJ3_numberOfTrailingZeros_2 : cJ3_numberOfTrailingZeros.data.toList.drop 47 = dktJ3_numberOfTrailingZeros_2 := dk_seg dksJ3_numberOfTrailingZeros_1 24 rfl rfl
theorem dksJ3_numberOfTrailingZeros_3 : cJ3_numberOfTrailingZeros.data.toList.drop 71 = dktJ3_numberOfTrailingZeros_3 := dk_seg dksJ3_numberOfTrailingZeros_2 24 rfl rfl
theorem dJ3_numberOfTrailingZeros_0 : decode cJ3_numberOfTrailingZeros 0 = .ok (.iload_n 0, 1) := dk_26 (dk_at dksJ3_numberOfTrailingZeros_0 0 rfl rfl)
theorem dJ3_numberOfTrailingZeros_1 : decode cJ3_numberOfTrailingZeros 1 = .ok (.iconst (-1), 1) := dk_2 (dk_at dksJ3_numberOfTrailingZeros_0 1 rfl rfl)
theorem dJ3_numberOfTrailingZeros_2 : decode cJ3_numberOfTrailingZeros 2 = .ok (.ixor, 1) := dk_130 (dk_at dksJ3_numberOfTrailingZeros_0 2 rfl rfl)
theorem dJ3_numberOfTrailingZeros_3 : decode cJ3_numberOfTrailingZeros 3 = .ok (.iload_n 0, 1) := dk_26 (dk_at dksJ3_numberOfTrailingZeros_0 3 rfl rfl)
theorem dJ3_numberOfTrailingZeros_4 : decode cJ3_numberOfTrailingZeros 4 = .ok (.iconst 1, 1) := dk_4 (dk_at dksJ3_numberOfTrailingZeros_0 4 rfl rfl)
theorem dJ3_numberOfTrailingZeros_5 : decode cJ3_numberOfTrailingZeros 5 = .ok (.isub, 1) := dk_100 (dk_at dksJ3_numberOfTrailingZeros_0 5 rfl rfl)
theorem dJ3_numberOfTrailingZeros_6 : decode cJ3_numberOfTrailingZeros 6 = .ok (.iand, 1) := dk_126 (dk_at dksJ3_numberOfTrailingZeros_0 6 rfl rfl)
theorem dJ3_numberOfTrailingZeros_7 : decode cJ3_numberOfTrailingZeros 7 = .ok (.istore_n 0, 1) := dk_59 (dk_at dksJ3_numberOfTrailingZeros_0 7 rfl rfl)
theorem dJ3_numberOfTrailingZeros_8 : decode cJ3_numberOfTrailingZeros 8 = .ok (.iload_n 0, 1) := dk_26 (dk_at dksJ3_numberOfTrailingZeros_0 8 rfl rfl)
theorem dJ3_numberOfTrailingZeros_9 : decode cJ3_numberOfTrailingZeros 9 = .ok (.ifCond .gt 8, 3) := dk_157 0 8 (dk_at dksJ3_numberOfTrailingZeros_0 9 rfl rfl)
theorem dJ3_numberOfTrailingZeros_12 : decode cJ3_numberOfTrailingZeros 12 = .ok (.iload_n 0, 1) := dk_26 (dk_at dksJ3_numberOfTrailingZeros_0 12 rfl rfl)
theorem dJ3_numberOfTrailingZeros_13 : decode cJ3_numberOfTrailingZeros 13 = .ok (.bipush 32, 2) := dk_16 32 (dk_at dksJ3_numberOfTrailingZeros_0 13 rfl rfl)
theorem dJ3_numberOfTrailingZeros_15 : decode cJ3_numberOfTrailingZeros 15 = .ok (.iand, 1) := dk_126 (dk_at dksJ3_numberOfTrailingZeros_0 15 rfl rfl)
theorem dJ3_numberOfTrailingZeros_16 : decode cJ3_numberOfTrailingZeros 16 = .ok (.ireturn, 1) := dk_172 (dk_at dksJ3_numberOfTrailingZeros_0 16 rfl rfl)
theorem dJ3_numberOfTrailingZeros_17 : decode cJ3_numberOfTrailingZeros 17 = .ok (.iconst 1, 1) := dk_4 (dk_at dksJ3_numberOfTrailingZeros_0 17 rfl rfl)
theorem dJ3_numberOfTrailingZeros_18 : decode cJ3_numberOfTrailingZeros 18 = .ok (.istore_n 1, 1) := dk_60 (dk_at dksJ3_numberOfTrailingZeros_0 18 rfl rfl)
theorem dJ3_numberOfTrailingZeros_19 : decode cJ3_numberOfTrailingZeros 19 = .ok (.iload_n 0, 1) := dk_26 (dk_at dksJ3_numberOfTrailingZeros_0 19 rfl rfl)
theorem dJ3_numberOfTrailingZeros_20 : decode cJ3_numberOfTrailingZeros 20 = .ok (.ldc_w 264, 3) := dk_19 1 8 (dk_at dksJ3_numberOfTrailingZeros_0 20 rfl rfl)
theorem dJ3_numberOfTrailingZeros_23 : decode cJ3_numberOfTrailingZeros 23 = .ok (.if_icmp .le 11, 3) := dk_164 0 11 (dk_at dksJ3_numberOfTrailingZeros_1 0 rfl rfl)
theorem dJ3_numberOfTrailingZeros_26 : decode cJ3_numberOfTrailingZeros 26 = .ok (.iinc 1 16, 3) := dk_132 1 16 (dk_at dksJ3_numberOfTrailingZeros_1 3 rfl rfl)
theorem dJ3_numberOfTrailingZeros_29 : decode cJ3_numberOfTrailingZeros 29 = .ok (.iload_n 0, 1) := dk_26 (dk_at dksJ3_numberOfTrailingZeros_1 6 rfl rfl)
theorem dJ3_numberOfTrailingZeros_30 : decode cJ3_numberOfTrailingZeros 30 = .ok (.bipush 16, 2) := dk_16 16 (dk_at dksJ3_numberOfTrailingZeros_1 7 rfl rfl)
theorem dJ3_numberOfTrailingZeros_32 : decode cJ3_numberOfTrailingZeros 32 = .ok (.iushr, 1) := dk_124 (dk_at dksJ3_numberOfTrailingZeros_1 9 rfl rfl)
theorem dJ3_numberOfTrailingZeros_33 : decode cJ3_numberOfTrailingZeros 33 = .ok (.istore_n 0, 1) := dk_59 (dk_at dksJ3_numberOfTrailingZeros_1 10 rfl rfl)
theorem dJ3_numberOfTrailingZeros_34 : decode cJ3_numberOfTrailingZeros 34 = .ok (.iload_n 0, 1) := dk_26 (dk_at dksJ3_numberOfTrailingZeros_1 11 rfl rfl)
theorem dJ3_numberOfTrailingZeros_35 : decode cJ3_numberOfTrailingZeros 35 = .ok (.sipush 256, 3) := dk_17 1 0 (dk_at dksJ3_numberOfTrailingZeros_1 12 rfl rfl)
theorem dJ3_numberOfTrailingZeros_38 : decode cJ3_numberOfTrailingZeros 38 = .ok (.if_icmp .le 11, 3) := dk_164 0 11 (dk_at dksJ3_numberOfTrailingZeros_1 15 rfl rfl)
theorem dJ3_numberOfTrailingZeros_41 : decode cJ3_numberOfTrailingZeros 41 = .ok (.iinc 1 8, 3) := dk_132 1 8 (dk_at dksJ3_numberOfTrailingZeros_1 18 rfl rfl)
theorem dJ3_numberOfTrailingZeros_44 : decode cJ3_numberOfTrailingZeros 44 = .ok (.iload_n 0, 1) := dk_26 (dk_at dksJ3_numberOfTrailingZeros_1 21 rfl rfl)
theorem dJ3_numberOfTrailingZeros_45 : decode cJ3_numberOfTrailingZeros 45 = .ok (.bipush 8, 2) := dk_16 8 (dk_at dksJ3_numberOfTrailingZeros_1 22 rfl rfl)
theorem dJ3_numberOfTrailingZeros_47 : decode cJ3_numberOfTrailingZeros 47 = .ok (.iushr, 1) := dk_124 (dk_at dksJ3_numberOfTrailingZeros_2 0 rfl rfl)
theorem dJ3_numberOfTrailingZeros_48 : decode cJ3_numberOfTrailingZeros 48 = .ok (.istore_n 0, 1) := dk_59 (dk_at dksJ3_numberOfTrailingZeros_2 1 rfl rfl)
theorem dJ3_numberOfTrailingZeros_49 : decode cJ3_numberOfTrailingZeros 49 = .ok (.iload_n 0, 1) := dk_26 (dk_at dksJ3_numberOfTrailingZeros_2 2 rfl rfl)
theorem dJ3_numberOfTrailingZeros_50 : decode cJ3_numberOfTrailingZeros 50 = .ok (.bipush 16, 2) := dk_16 16 (dk_at dksJ3_numberOfTrailingZeros_2 3 rfl rfl)
theorem dJ3_numberOfTrailingZeros_52 : decode cJ3_numberOfTrailingZeros 52 = .ok (.if_icmp .le 10, 3) := dk_164 0 10 (dk_at dksJ3_numberOfTrailingZeros_2 5 rfl rfl)
theorem dJ3_numberOfTrailingZeros_55 : decode cJ3_numberOfTrailingZeros 55 = .ok (.iinc 1 4, 3) := dk_132 1 4 (dk_at dksJ3_numberOfTrailingZeros_2 8 rfl rfl)
theorem dJ3_numberOfTrailingZeros_58 : decode cJ3_numberOfTrailingZeros 58 = .ok (.iload_n 0, 1) := dk_26 (dk_at dksJ3_numberOfTrailingZeros_2 11 rfl rfl)
theorem dJ3_numberOfTrailingZeros_59 : decode cJ3_numberOfTrailingZeros 59 = .ok (.iconst 4, 1) := dk_7 (dk_at dksJ3_numberOfTrailingZeros_2 12 rfl rfl)
theorem dJ3_numberOfTrailingZeros_60 : decode cJ3_numberOfTrailingZeros 60 = .ok (.iushr, 1) := dk_124 (dk_at dksJ3_numberOfTrailingZeros_2 13 rfl rfl)
theorem dJ3_numberOfTrailingZeros_61 : decode cJ3_numberOfTrailingZeros 61 = .ok (.istore_n 0, 1) := dk_59 (dk_at dksJ3_numberOfTrailingZeros_2 14 rfl rfl)
theorem dJ3_numberOfTrailingZeros_62 : decode cJ3_numberOfTrailingZeros 62 = .ok (.iload_n 0, 1) := dk_26 (dk_at dksJ3_numberOfTrailingZeros_2 15 rfl rfl)
theorem dJ3_numberOfTrailingZeros_63 : decode cJ3_numberOfTrailingZeros 63 = .ok (.iconst 4, 1) := dk_7 (dk_at dksJ3_numberOfTrailingZeros_2 16 rfl rfl)
theorem dJ3_numberOfTrailingZeros_64 : decode cJ3_numberOfTrailingZeros 64 = .ok (.if_icmp .le 10, 3) := dk_164 0 10 (dk_at dksJ3_numberOfTrailingZeros_2 17 rfl rfl)
theorem dJ3_numberOfTrailingZeros_67 : decode cJ3_numberOfTrailingZeros 67 = .ok (.iinc 1 2, 3) := dk_132 1 2 (dk_at dksJ3_numberOfTrailingZeros_2 20 rfl rfl)
theorem dJ3_numberOfTrailingZeros_70 : decode cJ3_numberOfTrailingZeros 70 = .ok (.iload_n 0, 1) := dk_26 (dk_at dksJ3_numberOfTrailingZeros_2 23 rfl rfl)
theorem dJ3_numberOfTrailingZeros_71 : decode cJ3_numberOfTrailingZeros 71 = .ok (.iconst 2, 1) := dk_5 (dk_at dksJ3_numberOfTrailingZeros_3 0 rfl rfl)
theorem dJ3_numberOfTrailingZeros_72 : decode cJ3_numberOfTrailingZeros 72 = .ok (.iushr, 1) := dk_124 (dk_at dksJ3_numberOfTrailingZeros_3 1 rfl rfl)
theorem dJ3_numberOfTrailingZeros_73 : decode cJ3_numberOfTrailingZeros 73 = .ok (.istore_n 0, 1) := dk_59 (dk_at dksJ3_numberOfTrailingZeros_3 2 rfl rfl)
theorem dJ3_numberOfTrailingZeros_74 : decode cJ3_numberOfTrailingZeros 74 = .ok (.iload_n 1, 1) := dk_27 (dk_at dksJ3_numberOfTrailingZeros_3 3 rfl rfl)
theorem dJ3_numberOfTrailingZeros_75 : decode cJ3_numberOfTrailingZeros 75 = .ok (.iload_n 0, 1) := dk_26 (dk_at dksJ3_numberOfTrailingZeros_3 4 rfl rfl)
theorem dJ3_numberOfTrailingZeros_76 : decode cJ3_numberOfTrailingZeros 76 = .ok (.iconst 1, 1) := dk_4 (dk_at dksJ3_numberOfTrailingZeros_3 5 rfl rfl)
theorem dJ3_numberOfTrailingZeros_77 : decode cJ3_numberOfTrailingZeros 77 = .ok (.iushr, 1) := dk_124 (dk_at dksJ3_numberOfTrailingZeros_3 6 rfl rfl)
theorem dJ3_numberOfTrailingZeros_78 : decode cJ3_numberOfTrailingZeros 78 = .ok (.iadd, 1) := dk_96 (dk_at dksJ3_numberOfTrailingZeros_3 7 rfl rfl)
theorem dJ3_numberOfTrailingZeros_79 : decode cJ3_numberOfTrailingZeros 79 = .ok (.ireturn, 1) := dk_172 (dk_at dksJ3_numberOfTrailingZeros_3 8 rfl rfl)
abbrev cJ3_toString : ByteArray := prog_36_method_10_code
def yJ3_toString : MethodName := ⟨RJ3, "toString", "(I)Ljava/lang/String;"⟩
def dkwJ3_toString_2 : List UInt8 := [187, 0, 5, 89, 44, 4, 183, 0, 65, 176]
abbrev dktJ3_toString_2 : List UInt8 := dkwJ3_toString_2 ++ []
def dkwJ3_toString_1 : List UInt8 := [187, 0, 5, 89, 44, 3, 183, 0, 65, 176, 27, 5, 104, 188, 8, 77, 26, 27, 44, 184, 0, 79, 87]
abbrev dktJ3_toString_1 : List UInt8 := dkwJ3_toString_1 ++ dktJ3_toString_2
def dkwJ3_toString_0 : List UInt8 := [26, 184, 0, 72, 60, 178, 0, 13, 153, 0, 24, 27, 188, 8, 77, 26, 27, 44, 184, 0, 75, 87]
abbrev dktJ3_toString_0 : List UInt8 := dkwJ3_toString_0 ++ dktJ3_toString_1
theorem dksJ3_toString_0 : cJ3_toString.data.toList.drop 0 = dktJ3_toString_0 := by decide +kernel
theorem dksJ3_toString_1 : cJ3_toString.data.toList.drop 22 = dktJ3_toString_1 := dk_seg dksJ3_toString_0 22 rfl rfl
theorem dksJ3_toString_2 : cJ3_toString.data.toList.drop 45 = dktJ3_toString_2 := dk_seg dksJ3_toString_1 23 rfl rfl
theorem dJ3_toString_0 : decode cJ3_toString 0 = .ok (.iload_n 0, 1) := dk_26 (dk_at dksJ3_toString_0 0 rfl rfl)
theorem dJ3_toString_1 : decode cJ3_toString 1 = .ok (.invokestatic 72, 3) := dk_184 0 72 (dk_at dksJ3_toString_0 1 rfl rfl)
theorem dJ3_toString_4 : decode cJ3_toString 4 = .ok (.istore_n 1, 1) := dk_60 (dk_at dksJ3_toString_0 4 rfl rfl)
theorem dJ3_toString_5 : decode cJ3_toString 5 = .ok (.getstatic 13, 3) := dk_178 0 13 (dk_at dksJ3_toString_0 5 rfl rfl)
theorem dJ3_toString_8 : decode cJ3_toString 8 = .ok (.ifCond .eq 24, 3) := dk_153 0 24 (dk_at dksJ3_toString_0 8 rfl rfl)
theorem dJ3_toString_11 : decode cJ3_toString 11 = .ok (.iload_n 1, 1) := dk_27 (dk_at dksJ3_toString_0 11 rfl rfl)
theorem dJ3_toString_12 : decode cJ3_toString 12 = .ok (.newarray .byte, 2) := dk_188_8 (dk_at dksJ3_toString_0 12 rfl rfl)
theorem dJ3_toString_14 : decode cJ3_toString 14 = .ok (.astore_n 2, 1) := dk_77 (dk_at dksJ3_toString_0 14 rfl rfl)
theorem dJ3_toString_15 : decode cJ3_toString 15 = .ok (.iload_n 0, 1) := dk_26 (dk_at dksJ3_toString_0 15 rfl rfl)
theorem dJ3_toString_16 : decode cJ3_toString 16 = .ok (.iload_n 1, 1) := dk_27 (dk_at dksJ3_toString_0 16 rfl rfl)
theorem dJ3_toString_17 : decode cJ3_toString 17 = .ok (.aload_n 2, 1) := dk_44 (dk_at dksJ3_toString_0 17 rfl rfl)
theorem dJ3_toString_18 : decode cJ3_toString 18 = .ok (.invokestatic 75, 3) := dk_184 0 75 (dk_at dksJ3_toString_0 18 rfl rfl)
theorem dJ3_toString_21 : decode cJ3_toString 21 = .ok (.pop, 1) := dk_87 (dk_at dksJ3_toString_0 21 rfl rfl)
theorem dJ3_toString_22 : decode cJ3_toString 22 = .ok (.new 5, 3) := dk_187 0 5 (dk_at dksJ3_toString_1 0 rfl rfl)
theorem dJ3_toString_25 : decode cJ3_toString 25 = .ok (.dup, 1) := dk_89 (dk_at dksJ3_toString_1 3 rfl rfl)
theorem dJ3_toString_26 : decode cJ3_toString 26 = .ok (.aload_n 2, 1) := dk_44 (dk_at dksJ3_toString_1 4 rfl rfl)
theorem dJ3_toString_27 : decode cJ3_toString 27 = .ok (.iconst 0, 1) := dk_3 (dk_at dksJ3_toString_1 5 rfl rfl)
theorem dJ3_toString_28 : decode cJ3_toString 28 = .ok (.invokespecial 65, 3) := dk_183 0 65 (dk_at dksJ3_toString_1 6 rfl rfl)
theorem dJ3_toString_31 : decode cJ3_toString 31 = .ok (.areturn, 1) := dk_176 (dk_at dksJ3_toString_1 9 rfl rfl)
theorem dJ3_toString_32 : decode cJ3_toString 32 = .ok (.iload_n 1, 1) := dk_27 (dk_at dksJ3_toString_1 10 rfl rfl)
theorem dJ3_toString_33 : decode cJ3_toString 33 = .ok (.iconst 2, 1) := dk_5 (dk_at dksJ3_toString_1 11 rfl rfl)
theorem dJ3_toString_34 : decode cJ3_toString 34 = .ok (.imul, 1) := dk_104 (dk_at dksJ3_toString_1 12 rfl rfl)
theorem dJ3_toString_35 : decode cJ3_toString 35 = .ok (.newarray .byte, 2) := dk_188_8 (dk_at dksJ3_toString_1 13 rfl rfl)
theorem dJ3_toString_37 : decode cJ3_toString 37 = .ok (.astore_n 2, 1) := dk_77 (dk_at dksJ3_toString_1 15 rfl rfl)
theorem dJ3_toString_38 : decode cJ3_toString 38 = .ok (.iload_n 0, 1) := dk_26 (dk_at dksJ3_toString_1 16 rfl rfl)
theorem dJ3_toString_39 : decode cJ3_toString 39 = .ok (.iload_n 1, 1) := dk_27 (dk_at dksJ3_toString_1 17 rfl rfl)
theorem dJ3_toString_40 : decode cJ3_toString 40 = .ok (.aload_n 2, 1) := dk_44 (dk_at dksJ3_toString_1 18 rfl rfl)
theorem dJ3_toString_41 : decode cJ3_toString 41 = .ok (.invokestatic 79, 3) := dk_184 0 79 (dk_at dksJ3_toString_1 19 rfl rfl)
theorem dJ3_toString_44 : decode cJ3_toString 44 = .ok (.pop, 1) := dk_87 (dk_at dksJ3_toString_1 22 rfl rfl)
theorem dJ3_toString_45 : decode cJ3_toString 45 = .ok (.new 5, 3) := dk_187 0 5 (dk_at dksJ3_toString_2 0 rfl rfl)
theorem dJ3_toString_48 : decode cJ3_toString 48 = .ok (.dup, 1) := dk_89 (dk_at dksJ3_toString_2 3 rfl rfl)
theorem dJ3_toString_49 : decode cJ3_toString 49 = .ok (.aload_n 2, 1) := dk_44 (dk_at dksJ3_toString_2 4 rfl rfl)
theorem dJ3_toString_50 : decode cJ3_toString 50 = .ok (.iconst 1, 1) := dk_4 (dk_at dksJ3_toString_2 5 rfl rfl)
theorem dJ3_toString_51 : decode cJ3_toString 51 = .ok (.invokespecial 65, 3) := dk_183 0 65 (dk_at dksJ3_toString_2 6 rfl rfl)
theorem dJ3_toString_54 : decode cJ3_toString 54 = .ok (.areturn, 1) := dk_176 (dk_at dksJ3_toString_2 9 rfl rfl)
abbrev cJ3_stringSize : ByteArray := prog_36_method_13_code
def yJ3_stringSize : MethodName := ⟨RJ3, "stringSize", "(I)I"⟩
def dkwJ3_stringSize_1 : List UInt8 := [164, 0, 7, 29, 27, 96, 172, 16, 10, 28, 104, 61, 132, 3, 1, 167, 255, 233, 16, 10, 27, 96, 172]
abbrev dktJ3_stringSize_1 : List UInt8 := dkwJ3_stringSize_1 ++ []
def dkwJ3_stringSize_0 : List UInt8 := [4, 60, 26, 155, 0, 8, 3, 60, 26, 116, 59, 16, 246, 61, 4, 62, 29, 16, 10, 162, 0, 23, 26, 28]
abbrev dktJ3_stringSize_0 : List UInt8 := dkwJ3_stringSize_0 ++ dktJ3_stringSize_1
theorem dksJ3_stringSize_0 : cJ3_stringSize.data.toList.drop 0 = dktJ3_stringSize_0 := by decide +kernel
theorem dksJ3_stringSize_1 : cJ3_stringSize.data.toList.drop 24 = dktJ3_stringSize_1 := dk_seg dksJ3_stringSize_0 24 rfl rfl
theorem dJ3_stringSize_0 : decode cJ3_stringSize 0 = .ok (.iconst 1, 1) := dk_4 (dk_at dksJ3_stringSize_0 0 rfl rfl)
theorem dJ3_stringSize_1 : decode cJ3_stringSize 1 = .ok (.istore_n 1, 1) := dk_60 (dk_at dksJ3_stringSize_0 1 rfl rfl)
theorem dJ3_stringSize_2 : decode cJ3_stringSize 2 = .ok (.iload_n 0, 1) := dk_26 (dk_at dksJ3_stringSize_0 2 rfl rfl)
theorem dJ3_stringSize_3 : decode cJ3_stringSize 3 = .ok (.ifCond .lt 8, 3) := dk_155 0 8 (dk_at dksJ3_stringSize_0 3 rfl rfl)
theorem dJ3_stringSize_6 : decode cJ3_stringSize 6 = .ok (.iconst 0, 1) := dk_3 (dk_at dksJ3_stringSize_0 6 rfl rfl)
theorem dJ3_stringSize_7 : decode cJ3_stringSize 7 = .ok (.istore_n 1, 1) := dk_60 (dk_at dksJ3_stringSize_0 7 rfl rfl)
theorem dJ3_stringSize_8 : decode cJ3_stringSize 8 = .ok (.iload_n 0, 1) := dk_26 (dk_at dksJ3_stringSize_0 8 rfl rfl)
theorem dJ3_stringSize_9 : decode cJ3_stringSize 9 = .ok (.ineg, 1) := dk_116 (dk_at dksJ3_stringSize_0 9 rfl rfl)
theorem dJ3_stringSize_10 : decode cJ3_stringSize 10 = .ok (.istore_n 0, 1) := dk_59 (dk_at dksJ3_stringSize_0 10 rfl rfl)
theorem dJ3_stringSize_11 : decode cJ3_stringSize 11 = .ok (.bipush (-10), 2) := dk_16 246 (dk_at dksJ3_stringSize_0 11 rfl rfl)
theorem dJ3_stringSize_13 : decode cJ3_stringSize 13 = .ok (.istore_n 2, 1) := dk_61 (dk_at dksJ3_stringSize_0 13 rfl rfl)
theorem dJ3_stringSize_14 : decode cJ3_stringSize 14 = .ok (.iconst 1, 1) := dk_4 (dk_at dksJ3_stringSize_0 14 rfl rfl)
theorem dJ3_stringSize_15 : decode cJ3_stringSize 15 = .ok (.istore_n 3, 1) := dk_62 (dk_at dksJ3_stringSize_0 15 rfl rfl)
theorem dJ3_stringSize_16 : decode cJ3_stringSize 16 = .ok (.iload_n 3, 1) := dk_29 (dk_at dksJ3_stringSize_0 16 rfl rfl)
theorem dJ3_stringSize_17 : decode cJ3_stringSize 17 = .ok (.bipush 10, 2) := dk_16 10 (dk_at dksJ3_stringSize_0 17 rfl rfl)
theorem dJ3_stringSize_19 : decode cJ3_stringSize 19 = .ok (.if_icmp .ge 23, 3) := dk_162 0 23 (dk_at dksJ3_stringSize_0 19 rfl rfl)
theorem dJ3_stringSize_22 : decode cJ3_stringSize 22 = .ok (.iload_n 0, 1) := dk_26 (dk_at dksJ3_stringSize_0 22 rfl rfl)
theorem dJ3_stringSize_23 : decode cJ3_stringSize 23 = .ok (.iload_n 2, 1) := dk_28 (dk_at dksJ3_stringSize_0 23 rfl rfl)
theorem dJ3_stringSize_24 : decode cJ3_stringSize 24 = .ok (.if_icmp .le 7, 3) := dk_164 0 7 (dk_at dksJ3_stringSize_1 0 rfl rfl)
theorem dJ3_stringSize_27 : decode cJ3_stringSize 27 = .ok (.iload_n 3, 1) := dk_29 (dk_at dksJ3_stringSize_1 3 rfl rfl)
theorem dJ3_stringSize_28 : decode cJ3_stringSize 28 = .ok (.iload_n 1, 1) := dk_27 (dk_at dksJ3_stringSize_1 4 rfl rfl)
theorem dJ3_stringSize_29 : decode cJ3_stringSize 29 = .ok (.iadd, 1) := dk_96 (dk_at dksJ3_stringSize_1 5 rfl rfl)
theorem dJ3_stringSize_30 : decode cJ3_stringSize 30 = .ok (.ireturn, 1) := dk_172 (dk_at dksJ3_stringSize_1 6 rfl rfl)
theorem dJ3_stringSize_31 : decode cJ3_stringSize 31 = .ok (.bipush 10, 2) := dk_16 10 (dk_at dksJ3_stringSize_1 7 rfl rfl)
theorem dJ3_stringSize_33 : decode cJ3_stringSize 33 = .ok (.iload_n 2, 1) := dk_28 (dk_at dksJ3_stringSize_1 9 rfl rfl)
theorem dJ3_stringSize_34 : decode cJ3_stringSize 34 = .ok (.imul, 1) := dk_104 (dk_at dksJ3_stringSize_1 10 rfl rfl)
theorem dJ3_stringSize_35 : decode cJ3_stringSize 35 = .ok (.istore_n 2, 1) := dk_61 (dk_at dksJ3_stringSize_1 11 rfl rfl)
theorem dJ3_stringSize_36 : decode cJ3_stringSize 36 = .ok (.iinc 3 1, 3) := dk_132 3 1 (dk_at dksJ3_stringSize_1 12 rfl rfl)
theorem dJ3_stringSize_39 : decode cJ3_stringSize 39 = .ok (.goto (-23), 3) := dk_167 255 233 (dk_at dksJ3_stringSize_1 15 rfl rfl)
theorem dJ3_stringSize_42 : decode cJ3_stringSize 42 = .ok (.bipush 10, 2) := dk_16 10 (dk_at dksJ3_stringSize_1 18 rfl rfl)
theorem dJ3_stringSize_44 : decode cJ3_stringSize 44 = .ok (.iload_n 1, 1) := dk_27 (dk_at dksJ3_stringSize_1 20 rfl rfl)
theorem dJ3_stringSize_45 : decode cJ3_stringSize 45 = .ok (.iadd, 1) := dk_96 (dk_at dksJ3_stringSize_1 21 rfl rfl)
theorem dJ3_stringSize_46 : decode cJ3_stringSize 46 = .ok (.ireturn, 1) := dk_172 (dk_at dksJ3_stringSize_1 22 rfl rfl)
abbrev cJ3_getChars : ByteArray := prog_36_method_12_code
def yJ3_getChars : MethodName := ⟨RJ3, "getChars", "(II[B)I"⟩
def dkwJ3_getChars_5 : List UInt8 := [16, 45, 84, 21, 5, 172]
abbrev dktJ3_getChars_5 : List UInt8 := dkwJ3_getChars_5 ++ []
def dkwJ3_getChars_4 : List UInt8 := [132, 5, 255, 21, 5, 178, 0, 87, 26, 116, 51, 84, 21, 6, 153, 0, 12, 44, 132, 5, 255, 21, 5]
abbrev dktJ3_getChars_4 : List UInt8 := dkwJ3_getChars_4 ++ dktJ3_getChars_5
def dkwJ3_getChars_3 : List UInt8 := [167, 255, 209, 44, 132, 5, 255, 21, 5, 178, 0, 83, 26, 116, 51, 84, 26, 16, 247, 162, 0, 16, 44]
abbrev dktJ3_getChars_3 : List UInt8 := dkwJ3_getChars_3 ++ dktJ3_getChars_4
def dkwJ3_getChars_2 : List UInt8 := [21, 5, 178, 0, 83, 21, 4, 51, 84, 44, 132, 5, 255, 21, 5, 178, 0, 87, 21, 4, 51, 84]
abbrev dktJ3_getChars_2 : List UInt8 := dkwJ3_getChars_2 ++ dktJ3_getChars_3
def dkwJ3_getChars_1 : List UInt8 := [16, 156, 163, 0, 47, 26, 16, 100, 108, 62, 29, 16, 100, 104, 26, 100, 54, 4, 29, 59, 44, 132, 5, 255]
abbrev dktJ3_getChars_1 : List UInt8 := dkwJ3_getChars_1 ++ dktJ3_getChars_2
def dkwJ3_getChars_0 : List UInt8 := [27, 54, 5, 26, 156, 0, 7, 4, 167, 0, 4, 3, 54, 6, 21, 6, 154, 0, 6, 26, 116, 59, 26]
abbrev dktJ3_getChars_0 : List UInt8 := dkwJ3_getChars_0 ++ dktJ3_getChars_1
theorem dksJ3_getChars_0 : cJ3_getChars.data.toList.drop 0 = dktJ3_getChars_0 := by decide +kernel
theorem dksJ3_getChars_1 : cJ3_getChars.data.toList.drop 23 = dktJ3_getChars_1 := dk_seg dksJ3_getChars_0 23 rfl rfl
theorem dksJ3_getChars_2 : cJ3_getChars.data.toList.drop 47 = dktJ3_getChars_2 := dk_seg dksJ3_getChars_1 24 rfl rfl
theorem dksJ3_getChars_3 : cJ3_getChars.data.toList.drop 69 = dktJ3_getChars_3 := dk_seg dksJ3_getChars_2 22 rfl rfl
theorem dksJ3_getChars_4 : cJ3_getChars.data.toList.drop 92 = dktJ3_getChars_4 := dk_seg dksJ3_getChars_3 23 rfl rfl
theorem dksJ3_getChars_5 : cJ3_getChars.data.toList.drop 115 = dktJ3_getChars_5 := dk_seg dksJ3_getChars_4 23 rfl rfl
theorem dJ3_getChars_0 : decode cJ3_getChars 0 = .ok (.iload_n 1, 1) := dk_27 (dk_at dksJ3_getChars_0 0 rfl rfl)
theorem dJ3_getChars_1 : decode cJ3_getChars 1 = .ok (.istore 5, 2) := dk_54 5 (dk_at dksJ3_getChars_0 1 rfl rfl)
theorem dJ3_getChars_3 : decode cJ3_getChars 3 = .ok (.iload_n 0, 1) := dk_26 (dk_at dksJ3_getChars_0 3 rfl rfl)
theorem dJ3_getChars_4 : decode cJ3_getChars 4 = .ok (.ifCond .ge 7, 3) := dk_156 0 7 (dk_at dksJ3_getChars_0 4 rfl rfl)
theorem dJ3_getChars_7 : decode cJ3_getChars 7 = .ok (.iconst 1, 1) := dk_4 (dk_at dksJ3_getChars_0 7 rfl rfl)
theorem dJ3_getChars_8 : decode cJ3_getChars 8 = .ok (.goto 4, 3) := dk_167 0 4 (dk_at dksJ3_getChars_0 8 rfl rfl)
theorem dJ3_getChars_11 : decode cJ3_getChars 11 = .ok (.iconst 0, 1) := dk_3 (dk_at dksJ3_getChars_0 11 rfl rfl)
theorem dJ3_getChars_12 : decode cJ3_getChars 12 = .ok (.istore 6, 2) := dk_54 6 (dk_at dksJ3_getChars_0 12 rfl rfl)
theorem dJ3_getChars_14 : decode cJ3_getChars 14 = .ok (.iload 6, 2) := dk_21 6 (dk_at dksJ3_getChars_0 14 rfl rfl)
theorem dJ3_getChars_16 : decode cJ3_getChars 16 = .ok (.ifCond .ne 6, 3) := dk_154 0 6 (dk_at dksJ3_getChars_0 16 rfl rfl)
theorem dJ3_getChars_19 : decode cJ3_getChars 19 = .ok (.iload_n 0, 1) := dk_26 (dk_at dksJ3_getChars_0 19 rfl rfl)
theorem dJ3_getChars_20 : decode cJ3_getChars 20 = .ok (.ineg, 1) := dk_116 (dk_at dksJ3_getChars_0 20 rfl rfl)
theorem dJ3_getChars_21 : decode cJ3_getChars 21 = .ok (.istore_n 0, 1) := dk_59 (dk_at dksJ3_getChars_0 21 rfl rfl)
theorem dJ3_getChars_22 : decode cJ3_getChars 22 = .ok (.iload_n 0, 1) := dk_26 (dk_at dksJ3_getChars_0 22 rfl rfl)
theorem dJ3_getChars_23 : decode cJ3_getChars 23 = .ok (.bipush (-100), 2) := dk_16 156 (dk_at dksJ3_getChars_1 0 rfl rfl)
theorem dJ3_getChars_25 : decode cJ3_getChars 25 = .ok (.if_icmp .gt 47, 3) := dk_163 0 47 (dk_at dksJ3_getChars_1 2 rfl rfl)
theorem dJ3_getChars_28 : decode cJ3_getChars 28 = .ok (.iload_n 0, 1) := dk_26 (dk_at dksJ3_getChars_1 5 rfl rfl)
theorem dJ3_getChars_29 : decode cJ3_getChars 29 = .ok (.bipush 100, 2) := dk_16 100 (dk_at dksJ3_getChars_1 6 rfl rfl)
theorem dJ3_getChars_31 : decode cJ3_getChars 31 = .ok (.idiv, 1) := dk_108 (dk_at dksJ3_getChars_1 8 rfl rfl)
theorem dJ3_getChars_32 : decode cJ3_getChars 32 = .ok (.istore_n 3, 1) := dk_62 (dk_at dksJ3_getChars_1 9 rfl rfl)
theorem dJ3_getChars_33 : decode cJ3_getChars 33 = .ok (.iload_n 3, 1) := dk_29 (dk_at dksJ3_getChars_1 10 rfl rfl)
theorem dJ3_getChars_34 : decode cJ3_getChars 34 = .ok (.bipush 100, 2) := dk_16 100 (dk_at dksJ3_getChars_1 11 rfl rfl)
theorem dJ3_getChars_36 : decode cJ3_getChars 36 = .ok (.imul, 1) := dk_104 (dk_at dksJ3_getChars_1 13 rfl rfl)
theorem dJ3_getChars_37 : decode cJ3_getChars 37 = .ok (.iload_n 0, 1) := dk_26 (dk_at dksJ3_getChars_1 14 rfl rfl)
theorem dJ3_getChars_38 : decode cJ3_getChars 38 = .ok (.isub, 1) := dk_100 (dk_at dksJ3_getChars_1 15 rfl rfl)
theorem dJ3_getChars_39 : decode cJ3_getChars 39 = .ok (.istore 4, 2) := dk_54 4 (dk_at dksJ3_getChars_1 16 rfl rfl)
theorem dJ3_getChars_41 : decode cJ3_getChars 41 = .ok (.iload_n 3, 1) := dk_29 (dk_at dksJ3_getChars_1 18 rfl rfl)
theorem dJ3_getChars_42 : decode cJ3_getChars 42 = .ok (.istore_n 0, 1) := dk_59 (dk_at dksJ3_getChars_1 19 rfl rfl)
theorem dJ3_getChars_43 : decode cJ3_getChars 43 = .ok (.aload_n 2, 1) := dk_44 (dk_at dksJ3_getChars_1 20 rfl rfl)
theorem dJ3_getChars_44 : decode cJ3_getChars 44 = .ok (.iinc 5 (-1), 3) := dk_132 5 255 (dk_at dksJ3_getChars_1 21 rfl rfl)
theorem dJ3_getChars_47 : decode cJ3_getChars 47 = .ok (.iload 5, 2) := dk_21 5 (dk_at dksJ3_getChars_2 0 rfl rfl)
theorem dJ3_getChars_49 : decode cJ3_getChars 49 = .ok (.getstatic 83, 3) := dk_178 0 83 (dk_at dksJ3_getChars_2 2 rfl rfl)
theorem dJ3_getChars_52 : decode cJ3_getChars 52 = .ok (.iload 4, 2) := dk_21 4 (dk_at dksJ3_getChars_2 5 rfl rfl)
theorem dJ3_getChars_54 : decode cJ3_getChars 54 = .ok (.baload, 1) := dk_51 (dk_at dksJ3_getChars_2 7 rfl rfl)
theorem dJ3_getChars_55 : decode cJ3_getChars 55 = .ok (.bastore, 1) := dk_84 (dk_at dksJ3_getChars_2 8 rfl rfl)
theorem dJ3_getChars_56 : decode cJ3_getChars 56 = .ok (.aload_n 2, 1) := dk_44 (dk_at dksJ3_getChars_2 9 rfl rfl)
theorem dJ3_getChars_57 : decode cJ3_getChars 57 = .ok (.iinc 5 (-1), 3) := dk_132 5 255 (dk_at dksJ3_getChars_2 10 rfl rfl)
theorem dJ3_getChars_60 : decode cJ3_getChars 60 = .ok (.iload 5, 2) := dk_21 5 (dk_at dksJ3_getChars_2 13 rfl rfl)
theorem dJ3_getChars_62 : decode cJ3_getChars 62 = .ok (.getstatic 87, 3) := dk_178 0 87 (dk_at dksJ3_getChars_2 15 rfl rfl)
theorem dJ3_getChars_65 : decode cJ3_getChars 65 = .ok (.iload 4, 2) := dk_21 4 (dk_at dksJ3_getChars_2 18 rfl rfl)
theorem dJ3_getChars_67 : decode cJ3_getChars 67 = .ok (.baload, 1) := dk_51 (dk_at dksJ3_getChars_2 20 rfl rfl)
theorem dJ3_getChars_68 : decode cJ3_getChars 68 = .ok (.bastore, 1) := dk_84 (dk_at dksJ3_getChars_2 21 rfl rfl)
theorem dJ3_getChars_69 : decode cJ3_getChars 69 = .ok (.goto (-47), 3) := dk_167 255 209 (dk_at dksJ3_getChars_3 0 rfl rfl)
theorem dJ3_getChars_72 : decode cJ3_getChars 72 = .ok (.aload_n 2, 1) := dk_44 (dk_at dksJ3_getChars_3 3 rfl rfl)
theorem dJ3_getChars_73 : decode cJ3_getChars 73 = .ok (.iinc 5 (-1), 3) := dk_132 5 255 (dk_at dksJ3_getChars_3 4 rfl rfl)
theorem dJ3_getChars_76 : decode cJ3_getChars 76 = .ok (.iload 5, 2) := dk_21 5 (dk_at dksJ3_getChars_3 7 rfl rfl)
theorem dJ3_getChars_78 : decode cJ3_getChars 78 = .ok (.getstatic 83, 3) := dk_178 0 83 (dk_at dksJ3_getChars_3 9 rfl rfl)
theorem dJ3_getChars_81 : decode cJ3_getChars 81 = .ok (.iload_n 0, 1) := dk_26 (dk_at dksJ3_getChars_3 12 rfl rfl)
theorem dJ3_getChars_82 : decode cJ3_getChars 82 = .ok (.ineg, 1) := dk_116 (dk_at dksJ3_getChars_3 13 rfl rfl)
theorem dJ3_getChars_83 : decode cJ3_getChars 83 = .ok (.baload, 1) := dk_51 (dk_at dksJ3_getChars_3 14 rfl rfl)
theorem dJ3_getChars_84 : decode cJ3_getChars 84 = .ok (.bastore, 1) := dk_84 (dk_at dksJ3_getChars_3 15 rfl rfl)
theorem dJ3_getChars_85 : decode cJ3_getChars 85 = .ok (.iload_n 0, 1) := dk_26 (dk_at dksJ3_getChars_3 16 rfl rfl)
theorem dJ3_getChars_86 : decode cJ3_getChars 86 = .ok (.bipush (-9), 2) := dk_16 247 (dk_at dksJ3_getChars_3 17 rfl rfl)
theorem dJ3_getChars_88 : decode cJ3_getChars 88 = .ok (.if_icmp .ge 16, 3) := dk_162 0 16 (dk_at dksJ3_getChars_3 19 rfl rfl)
theorem dJ3_getChars_91 : decode cJ3_getChars 91 = .ok (.aload_n 2, 1) := dk_44 (dk_at dksJ3_getChars_3 22 rfl rfl)
theorem dJ3_getChars_92 : decode cJ3_getChars 92 = .ok (.iinc 5 (-1), 3) := dk_132 5 255 (dk_at dksJ3_getChars_4 0 rfl rfl)
theorem dJ3_getChars_95 : decode cJ3_getChars 95 = .ok (.iload 5, 2) := dk_21 5 (dk_at dksJ3_getChars_4 3 rfl rfl)
theorem dJ3_getChars_97 : decode cJ3_getChars 97 = .ok (.getstatic 87, 3) := dk_178 0 87 (dk_at dksJ3_getChars_4 5 rfl rfl)
theorem dJ3_getChars_100 : decode cJ3_getChars 100 = .ok (.iload_n 0, 1) := dk_26 (dk_at dksJ3_getChars_4 8 rfl rfl)
theorem dJ3_getChars_101 : decode cJ3_getChars 101 = .ok (.ineg, 1) := dk_116 (dk_at dksJ3_getChars_4 9 rfl rfl)
theorem dJ3_getChars_102 : decode cJ3_getChars 102 = .ok (.baload, 1) := dk_51 (dk_at dksJ3_getChars_4 10 rfl rfl)
theorem dJ3_getChars_103 : decode cJ3_getChars 103 = .ok (.bastore, 1) := dk_84 (dk_at dksJ3_getChars_4 11 rfl rfl)
theorem dJ3_getChars_104 : decode cJ3_getChars 104 = .ok (.iload 6, 2) := dk_21 6 (dk_at dksJ3_getChars_4 12 rfl rfl)
theorem dJ3_getChars_106 : decode cJ3_getChars 106 = .ok (.ifCond .eq 12, 3) := dk_153 0 12 (dk_at dksJ3_getChars_4 14 rfl rfl)
theorem dJ3_getChars_109 : decode cJ3_getChars 109 = .ok (.aload_n 2, 1) := dk_44 (dk_at dksJ3_getChars_4 17 rfl rfl)
theorem dJ3_getChars_110 : decode cJ3_getChars 110 = .ok (.iinc 5 (-1), 3) := dk_132 5 255 (dk_at dksJ3_getChars_4 18 rfl rfl)
theorem dJ3_getChars_113 : decode cJ3_getChars 113 = .ok (.iload 5, 2) := dk_21 5 (dk_at dksJ3_getChars_4 21 rfl rfl)
theorem dJ3_getChars_115 : decode cJ3_getChars 115 = .ok (.bipush 45, 2) := dk_16 45 (dk_at dksJ3_getChars_5 0 rfl rfl)
theorem dJ3_getChars_117 : decode cJ3_getChars 117 = .ok (.bastore, 1) := dk_84 (dk_at dksJ3_getChars_5 2 rfl rfl)
theorem dJ3_getChars_118 : decode cJ3_getChars 118 = .ok (.iload 5, 2) := dk_21 5 (dk_at dksJ3_getChars_5 3 rfl rfl)
theorem dJ3_getChars_120 : decode cJ3_getChars 120 = .ok (.ireturn, 1) := dk_172 (dk_at dksJ3_getChars_5 5 rfl rfl)
theorem q132 : (Jvm.Cond.initialized "java/lang/Integer") ∈ lw_all := lw_g (lw_at lw_m1 8 rfl) rfl
theorem q245 : (Jvm.Cond.static ({ cls := "java/lang/Integer", name := "valueOf", desc := "(I)Ljava/lang/Integer;" } : Jvm.MethodName)) ∈ lw_all := lw_g (lw_at lw_m1 121 rfl) rfl
theorem q246 : (Jvm.Cond.code ({ cls := "java/lang/Integer", name := "valueOf", desc := "(I)Ljava/lang/Integer;" } : Jvm.MethodName) prog_36_method_22_code (1 : Nat) (Option.some (Jvm.ClassFile.FieldType.object "java/lang/Integer"))) ∈ lw_all := lw_g (lw_at lw_m1 122 rfl) rfl
theorem q247 : (Jvm.Cond.fieldLink "java/lang/Integer" (191 : Nat) "java/lang/Integer$IntegerCache" "high" "I") ∈ lw_all := lw_g (lw_at lw_m1 123 rfl) rfl
theorem q249 : (Jvm.Cond.fieldLink "java/lang/Integer" (195 : Nat) "java/lang/Integer$IntegerCache" "cache" "[Ljava/lang/Integer;") ∈ lw_all := lw_g (lw_at lw_m1 125 rfl) rfl
theorem q251 : (Jvm.Cond.classLink "java/lang/Integer" (1 : Nat) "java/lang/Integer") ∈ lw_all := lw_g (lw_at lw_m1 127 rfl) rfl
theorem q252 : (Jvm.Cond.instantiable "java/lang/Integer" (1 : Nat)) ∈ lw_all := lw_g (lw_at lw_m1 128 rfl) rfl
theorem q253 : (Jvm.Cond.methodLink "java/lang/Integer" (199 : Nat) ({ cls := "java/lang/Integer", name := "<init>", desc := "(I)V" } : Jvm.MethodName)) ∈ lw_all := lw_g (lw_at lw_m1 129 rfl) rfl
theorem q254 : (Jvm.Cond.instanceMethod ({ cls := "java/lang/Integer", name := "<init>", desc := "(I)V" } : Jvm.MethodName)) ∈ lw_all := lw_g (lw_at lw_m1 130 rfl) rfl
theorem q255 : (Jvm.Cond.code ({ cls := "java/lang/Integer", name := "<init>", desc := "(I)V" } : Jvm.MethodName) prog_36_method_23_code (2 : Nat) (Option.none : Option Jvm.ClassFile.FieldType)) ∈ lw_all := lw_g (lw_at lw_m1 131 rfl) rfl
theorem q256 : (Jvm.Cond.methodLink "java/lang/Integer" (202 : Nat) ({ cls := "java/lang/Number", name := "<init>", desc := "()V" } : Jvm.MethodName)) ∈ lw_all := lw_g (lw_at lw_m1 132 rfl) rfl
theorem q260 : (Jvm.Cond.fieldLink "java/lang/Integer" (205 : Nat) "java/lang/Integer" "value" "I") ∈ lw_all := lw_g (lw_at lw_m1 136 rfl) rfl
theorem q261 : (Jvm.Cond.laysFinal "java/lang/Integer" "java/lang/Integer" "value" "I") ∈ lw_all := lw_g (lw_at lw_m1 137 rfl) rfl
theorem q262 : (Jvm.Cond.soleField "java/lang/Integer" "value") ∈ lw_all := lw_g (lw_at lw_m1 138 rfl) rfl
theorem q263 : (Jvm.Cond.superclass "java/lang/Integer" "java/lang/Number") ∈ lw_all := lw_g (lw_at lw_m1 139 rfl) rfl
theorem q292 : (Jvm.Cond.static ({ cls := "java/lang/Integer", name := "compare", desc := "(II)I" } : Jvm.MethodName)) ∈ lw_all := lw_g (lw_at lw_m1 168 rfl) rfl
theorem q293 : (Jvm.Cond.code ({ cls := "java/lang/Integer", name := "compare", desc := "(II)I" } : Jvm.MethodName) prog_36_method_40_code (2 : Nat) (Option.some Jvm.ClassFile.FieldType.int)) ∈ lw_all := lw_g (lw_at lw_m1 169 rfl) rfl
theorem q306 : (Jvm.Cond.instanceMethod ({ cls := "java/lang/Integer", name := "intValue", desc := "()I" } : Jvm.MethodName)) ∈ lw_all := lw_g (lw_at lw_m1 182 rfl) rfl
theorem q307 : (Jvm.Cond.selects "java/lang/Integer" ({ cls := "java/lang/Integer", name := "intValue", desc := "()I" } : Jvm.MethodName) ({ cls := "java/lang/Integer", name := "intValue", desc := "()I" } : Jvm.MethodName)) ∈ lw_all := lw_g (lw_at lw_m1 183 rfl) rfl
theorem q308 : (Jvm.Cond.code ({ cls := "java/lang/Integer", name := "intValue", desc := "()I" } : Jvm.MethodName) prog_36_method_27_code (1 : Nat) (Option.some Jvm.ClassFile.FieldType.int)) ∈ lw_all := lw_g (lw_at lw_m1 184 rfl) rfl
theorem q310 : (Jvm.Cond.static ({ cls := "java/lang/Integer", name := "bitCount", desc := "(I)I" } : Jvm.MethodName)) ∈ lw_all := lw_g (lw_at lw_m1 186 rfl) rfl
theorem q311 : (Jvm.Cond.code ({ cls := "java/lang/Integer", name := "bitCount", desc := "(I)I" } : Jvm.MethodName) prog_36_method_49_code (1 : Nat) (Option.some Jvm.ClassFile.FieldType.int)) ∈ lw_all := lw_g (lw_at lw_m1 187 rfl) rfl
theorem q312 : (Jvm.Cond.constant "java/lang/Integer" (265 : Nat) (1431655765 : Int32)) ∈ lw_all := lw_g (lw_at lw_m1 188 rfl) rfl
theorem q313 : (Jvm.Cond.constant "java/lang/Integer" (266 : Nat) (858993459 : Int32)) ∈ lw_all := lw_g (lw_at lw_m1 189 rfl) rfl
theorem q314 : (Jvm.Cond.constant "java/lang/Integer" (267 : Nat) (252645135 : Int32)) ∈ lw_all := lw_g (lw_at lw_m1 190 rfl) rfl
theorem q371 : (Jvm.Cond.castable "java/lang/Integer" "java/lang/Comparable") ∈ lw_tbl := lw_at lw_m2 7 rfl
theorem q372 : (Jvm.Cond.selects "java/lang/Integer" ({ cls := "java/lang/Comparable", name := "compareTo", desc := "(Ljava/lang/Object;)I" } : Jvm.MethodName) ({ cls := "java/lang/Integer", name := "compareTo", desc := "(Ljava/lang/Object;)I" } : Jvm.MethodName)) ∈ lw_all := lw_g (lw_at lw_m2 8 rfl) rfl
theorem q373 : (Jvm.Cond.unhidden "java/lang/Integer" "compareTo" "(Ljava/lang/Object;)I") ∈ lw_tbl := lw_at lw_m2 9 rfl
theorem q374 : (Jvm.Cond.instanceMethod ({ cls := "java/lang/Integer", name := "compareTo", desc := "(Ljava/lang/Object;)I" } : Jvm.MethodName)) ∈ lw_all := lw_g (lw_at lw_m2 10 rfl) rfl
theorem q375 : (Jvm.Cond.publicMethod ({ cls := "java/lang/Integer", name := "compareTo", desc := "(Ljava/lang/Object;)I" } : Jvm.MethodName)) ∈ lw_tbl := lw_at lw_m2 11 rfl
theorem q376 : (Jvm.Cond.code ({ cls := "java/lang/Integer", name := "compareTo", desc := "(Ljava/lang/Object;)I" } : Jvm.MethodName) prog_36_method_63_code (2 : Nat) (Option.some Jvm.ClassFile.FieldType.int)) ∈ lw_all := lw_g (lw_at lw_m2 12 rfl) rfl
theorem q377 : (Jvm.Cond.methodLink "java/lang/Integer" (284 : Nat) ({ cls := "java/lang/Integer", name := "compareTo", desc := "(Ljava/lang/Integer;)I" } : Jvm.MethodName)) ∈ lw_all := lw_g (lw_at lw_m2 13 rfl) rfl
theorem q378 : (Jvm.Cond.instanceMethod ({ cls := "java/lang/Integer", name := "compareTo", desc := "(Ljava/lang/Integer;)I" } : Jvm.MethodName)) ∈ lw_all := lw_g (lw_at lw_m2 14 rfl) rfl
theorem q379 : (Jvm.Cond.selects "java/lang/Integer" ({ cls := "java/lang/Integer", name := "compareTo", desc := "(Ljava/lang/Integer;)I" } : Jvm.MethodName) ({ cls := "java/lang/Integer", name := "compareTo", desc := "(Ljava/lang/Integer;)I" } : Jvm.MethodName)) ∈ lw_all := lw_g (lw_at lw_m2 15 rfl) rfl
theorem q380 : (Jvm.Cond.code ({ cls := "java/lang/Integer", name := "compareTo", desc := "(Ljava/lang/Integer;)I" } : Jvm.MethodName) prog_36_method_39_code (2 : Nat) (Option.some Jvm.ClassFile.FieldType.int)) ∈ lw_all := lw_g (lw_at lw_m2 16 rfl) rfl
theorem q381 : (Jvm.Cond.methodLink "java/lang/Integer" (259 : Nat) ({ cls := "java/lang/Integer", name := "compare", desc := "(II)I" } : Jvm.MethodName)) ∈ lw_all := lw_g (lw_at lw_m2 17 rfl) rfl
theorem q480 : (Jvm.Cond.static ({ cls := "java/lang/Integer", name := "numberOfLeadingZeros", desc := "(I)I" } : Jvm.MethodName)) ∈ lw_all := lw_g (lw_at lw_m2 116 rfl) rfl
theorem q481 : (Jvm.Cond.code ({ cls := "java/lang/Integer", name := "numberOfLeadingZeros", desc := "(I)I" } : Jvm.MethodName) prog_36_method_47_code (2 : Nat) (Option.some Jvm.ClassFile.FieldType.int)) ∈ lw_all := lw_g (lw_at lw_m2 117 rfl) rfl
theorem q482 : (Jvm.Cond.constant "java/lang/Integer" (264 : Nat) (65536 : Int32)) ∈ lw_all := lw_g (lw_at lw_m2 118 rfl) rfl
theorem q489 : (Jvm.Cond.static ({ cls := "java/lang/Integer", name := "numberOfTrailingZeros", desc := "(I)I" } : Jvm.MethodName)) ∈ lw_all := lw_g (lw_at lw_m2 125 rfl) rfl
theorem q490 : (Jvm.Cond.code ({ cls := "java/lang/Integer", name := "numberOfTrailingZeros", desc := "(I)I" } : Jvm.MethodName) prog_36_method_48_code (2 : Nat) (Option.some Jvm.ClassFile.FieldType.int)) ∈ lw_all := lw_g (lw_at lw_m2 126 rfl) rfl
theorem q1110 : (Jvm.Cond.selects "java/lang/Integer" ({ cls := "java/lang/Object", name := "getClass", desc := "()Ljava/lang/Class;" } : Jvm.MethodName) ({ cls := "java/lang/Object", name := "getClass", desc := "()Ljava/lang/Class;" } : Jvm.MethodName)) ∈ lw_all := lw_g (lw_at lw_m5 26 rfl) rfl
theorem q2558 : (Jvm.Cond.static ({ cls := "java/lang/Integer", name := "toString", desc := "(I)Ljava/lang/String;" } : Jvm.MethodName)) ∈ lw_all := lw_g (lw_at lw_m11 34 rfl) rfl
theorem q2559 : (Jvm.Cond.code ({ cls := "java/lang/Integer", name := "toString", desc := "(I)Ljava/lang/String;" } : Jvm.MethodName) prog_36_method_10_code (3 : Nat) (Option.some (Jvm.ClassFile.FieldType.object "java/lang/String"))) ∈ lw_all := lw_g (lw_at lw_m11 35 rfl) rfl
theorem q2560 : (Jvm.Cond.methodLink "java/lang/Integer" (72 : Nat) ({ cls := "java/lang/Integer", name := "stringSize", desc := "(I)I" } : Jvm.MethodName)) ∈ lw_all := lw_g (lw_at lw_m11 36 rfl) rfl
theorem q2561 : (Jvm.Cond.static ({ cls := "java/lang/Integer", name := "stringSize", desc := "(I)I" } : Jvm.MethodName)) ∈ lw_all := lw_g (lw_at lw_m11 37 rfl) rfl
theorem q2562 : (Jvm.Cond.code ({ cls := "java/lang/Integer", name := "stringSize", desc := "(I)I" } : Jvm.MethodName) prog_36_method_13_code (4 : Nat) (Option.some Jvm.ClassFile.FieldType.int)) ∈ lw_all := lw_g (lw_at lw_m11 38 rfl) rfl
theorem q2563 : (Jvm.Cond.fieldLink "java/lang/Integer" (13 : Nat) "java/lang/String" "COMPACT_STRINGS" "Z") ∈ lw_all := lw_g (lw_at lw_m11 39 rfl) rfl
theorem q2564 : (Jvm.Cond.methodLink "java/lang/Integer" (75 : Nat) ({ cls := "java/lang/Integer", name := "getChars", desc := "(II[B)I" } : Jvm.MethodName)) ∈ lw_all := lw_g (lw_at lw_m11 40 rfl) rfl
theorem q2565 : (Jvm.Cond.static ({ cls := "java/lang/Integer", name := "getChars", desc := "(II[B)I" } : Jvm.MethodName)) ∈ lw_all := lw_g (lw_at lw_m11 41 rfl) rfl
theorem q2566 : (Jvm.Cond.code ({ cls := "java/lang/Integer", name := "getChars", desc := "(II[B)I" } : Jvm.MethodName) prog_36_method_12_code (7 : Nat) (Option.some Jvm.ClassFile.FieldType.int)) ∈ lw_all := lw_g (lw_at lw_m11 42 rfl) rfl
theorem q2567 : (Jvm.Cond.fieldLink "java/lang/Integer" (83 : Nat) "java/lang/Integer" "DigitOnes" "[B") ∈ lw_all := lw_g (lw_at lw_m11 43 rfl) rfl
theorem q2568 : (Jvm.Cond.laysStatic "java/lang/Integer" "DigitOnes" "[B") ∈ lw_tbl := lw_at lw_m11 44 rfl
theorem q2569 : (Jvm.Cond.fieldLink "java/lang/Integer" (87 : Nat) "java/lang/Integer" "DigitTens" "[B") ∈ lw_all := lw_g (lw_at lw_m11 45 rfl) rfl
theorem q2570 : (Jvm.Cond.laysStatic "java/lang/Integer" "DigitTens" "[B") ∈ lw_tbl := lw_at lw_m11 46 rfl
theorem q2571 : (Jvm.Cond.classLink "java/lang/Integer" (5 : Nat) "java/lang/String") ∈ lw_all := lw_g (lw_at lw_m11 47 rfl) rfl
theorem q2572 : (Jvm.Cond.methodLink "java/lang/Integer" (65 : Nat) ({ cls := "java/lang/String", name := "<init>", desc := "([BB)V" } : Jvm.MethodName)) ∈ lw_all := lw_g (lw_at lw_m11 48 rfl) rfl
theorem q2575 : (Jvm.Cond.methodLink "java/lang/Integer" (79 : Nat) ({ cls := "java/lang/StringUTF16", name := "getChars", desc := "(II[B)I" } : Jvm.MethodName)) ∈ lw_all := lw_g (lw_at lw_m11 51 rfl) rfl
theorem q3195 : (Jvm.Cond.castable "java/lang/Integer" "java/lang/Object") ∈ lw_tbl := lw_at lw_m13 191 rfl
theorem in_J3 : ∀ w ∈ wsJ30, w ∈ lw_all := lw_in wsJ30 [261] (by decide +kernel) (by decide +kernel)
/-! java/util/Objects -/
set_option maxRecDepth 100000
def RJ4 : String := "java/util/Objects"
abbrev cJ4_requireNonNull : ByteArray := prog_68_method_10_code
def yJ4_requireNonNull : MethodName := ⟨RJ4, "requireNonNull", "(Ljava/lang/Object;)Ljava/lang/Object;"⟩
def dkwJ4_requireNonNull_0 : List UInt8 := [42, 199, 0, 11, 187, 0, 84, 89, 183, 0, 86, 191, 42, 176]
abbrev dktJ4_requireNonNull_0 : List UInt8 := dkwJ4_requireNonNull_0 ++ []
theorem dksJ4_requireNonNull_0 : cJ4_requireNonNull.data.toList.drop 0 = dktJ4_requireNonNull_0 := by decide +kernel
theorem dJ4_requireNonNull_0 : decode cJ4_requireNonNull 0 = .ok (.aload_n 0, 1) := dk_42 (dk_at dksJ4_requireNonNull_0 0 rfl rfl)
theorem dJ4_requireNonNull_1 : decode cJ4_requireNonNull 1 = .ok (.ifnonnull 11, 3) := dk_199 0 11 (dk_at dksJ4_requireNonNull_0 1 rfl rfl)
theorem dJ4_requireNonNull_4 : decode cJ4_requireNonNull 4 = .ok (.new 84, 3) := dk_187 0 84 (dk_at dksJ4_requireNonNull_0 4 rfl rfl)
theorem dJ4_requireNonNull_7 : decode cJ4_requireNonNull 7 = .ok (.dup, 1) := dk_89 (dk_at dksJ4_requireNonNull_0 7 rfl rfl)
theorem dJ4_requireNonNull_8 : decode cJ4_requireNonNull 8 = .ok (.invokespecial 86, 3) := dk_183 0 86 (dk_at dksJ4_requireNonNull_0 8 rfl rfl)
theorem dJ4_requireNonNull_11 : decode cJ4_requireNonNull 11 = .ok (.athrow, 1) := dk_191 (dk_at dksJ4_requireNonNull_0 11 rfl rfl)
theorem dJ4_requireNonNull_12 : decode cJ4_requireNonNull 12 = .ok (.aload_n 0, 1) := dk_42 (dk_at dksJ4_requireNonNull_0 12 rfl rfl)
theorem dJ4_requireNonNull_13 : decode cJ4_requireNonNull 13 = .ok (.areturn, 1) := dk_176 (dk_at dksJ4_requireNonNull_0 13 rfl rfl)
abbrev cJ4_checkIndex : ByteArray := prog_68_method_17_code
def yJ4_checkIndex : MethodName := ⟨RJ4, "checkIndex", "(II)I"⟩
def dkwJ4_checkIndex_0 : List UInt8 := [26, 27, 1, 184, 0, 105, 172]
abbrev dktJ4_checkIndex_0 : List UInt8 := dkwJ4_checkIndex_0 ++ []
theorem dksJ4_checkIndex_0 : cJ4_checkIndex.data.toList.drop 0 = dktJ4_checkIndex_0 := by decide +kernel
theorem dJ4_checkIndex_0 : decode cJ4_checkIndex 0 = .ok (.iload_n 0, 1) := dk_26 (dk_at dksJ4_checkIndex_0 0 rfl rfl)
theorem dJ4_checkIndex_1 : decode cJ4_checkIndex 1 = .ok (.iload_n 1, 1) := dk_27 (dk_at dksJ4_checkIndex_0 1 rfl rfl)
theorem dJ4_checkIndex_2 : decode cJ4_checkIndex 2 = .ok (.aconst_null, 1) := dk_1 (dk_at dksJ4_checkIndex_0 2 rfl rfl)
theorem dJ4_checkIndex_3 : decode cJ4_checkIndex 3 = .ok (.invokestatic 105, 3) := dk_184 0 105 (dk_at dksJ4_checkIndex_0 3 rfl rfl)
theorem dJ4_checkIndex_6 : decode cJ4_checkIndex 6 = .ok (.ireturn, 1) := dk_172 (dk_at dksJ4_checkIndex_0 6 rfl rfl)
theorem q134 : (Jvm.Cond.initialized "java/util/Objects") ∈ lw_all := lw_g (lw_at lw_m1 10 rfl) rfl
theorem q364 : (Jvm.Cond.static ({ cls := "java/util/Objects", name := "requireNonNull", desc := "(Ljava/lang/Object;)Ljava/lang/Object;" } : Jvm.MethodName)) ∈ lw_all := lw_g (lw_at lw_m2 0 rfl) rfl
theorem q365 : (Jvm.Cond.code ({ cls := "java/util/Objects", name := "requireNonNull", desc := "(Ljava/lang/Object;)Ljava/lang/Object;" } : Jvm.MethodName) prog_68_method_10_code (1 : Nat) (Option.some (Jvm.ClassFile.FieldType.object "java/lang/Object"))) ∈ lw_all := lw_g (lw_at lw_m2 1 rfl) rfl
theorem q2092 : (Jvm.Cond.static ({ cls := "java/util/Objects", name := "checkIndex", desc := "(II)I" } : Jvm.MethodName)) ∈ lw_all := lw_g (lw_at lw_m9 48 rfl) rfl
theorem q2093 : (Jvm.Cond.code ({ cls := "java/util/Objects", name := "checkIndex", desc := "(II)I" } : Jvm.MethodName) prog_68_method_17_code (2 : Nat) (Option.some Jvm.ClassFile.FieldType.int)) ∈ lw_all := lw_g (lw_at lw_m9 49 rfl) rfl
theorem q2094 : (Jvm.Cond.methodLink "java/util/Objects" (105 : Nat) ({ cls := "jdk/internal/util/Preconditions", name := "checkIndex", desc := "(IILjava/util/function/BiFunction;)I" } : Jvm.MethodName)) ∈ lw_all := lw_g (lw_at lw_m9 50 rfl) rfl
/-! java/lang/String -/
set_option maxRecDepth 100000
def RJ5 : String := "java/lang/String"
def TJ5 : u_T := fun k => match k with
  | 0 => ("java/lang/String", "value", "[B", true)
  | 1 => ("java/lang/String", "coder", "B", true)
  | 2 => ("java/lang/String", "hash", "I", false)
  | _ => ("java/lang/String", "hashIsZero", "Z", false)
def tyJ5 : Nat → FieldType := fun k => match k with
  | 0 => .array .byte
  | 1 => .byte
  | 2 => .int
  | _ => .boolean
abbrev wsJ50 : List Cond := u_ws RJ5 TJ5 4
theorem nmJ5 : ∀ a, a < 4 → ∀ b, b < 4 → a ≠ b → (TJ5 a).2.1 ≠ (TJ5 b).2.1 := by decide +kernel
theorem tyJ5_ok : ∀ k, k < 4 → parseFieldDescriptor (TJ5 k).2.2.1 = some (tyJ5 k) := by decide +kernel
abbrev cJ5_compareTo : ByteArray := prog_42_method_162_code
def yJ5_compareTo : MethodName := ⟨RJ5, "compareTo", "(Ljava/lang/Object;)I"⟩
def dkwJ5_compareTo_0 : List UInt8 := [42, 43, 192, 0, 10, 182, 4, 60, 172]
abbrev dktJ5_compareTo_0 : List UInt8 := dkwJ5_compareTo_0 ++ []
theorem dksJ5_compareTo_0 : cJ5_compareTo.data.toList.drop 0 = dktJ5_compareTo_0 := by decide +kernel
theorem dJ5_compareTo_0 : decode cJ5_compareTo 0 = .ok (.aload_n 0, 1) := dk_42 (dk_at dksJ5_compareTo_0 0 rfl rfl)
theorem dJ5_compareTo_1 : decode cJ5_compareTo 1 = .ok (.aload_n 1, 1) := dk_43 (dk_at dksJ5_compareTo_0 1 rfl rfl)
theorem dJ5_compareTo_2 : decode cJ5_compareTo 2 = .ok (.checkcast 10, 3) := dk_192 0 10 (dk_at dksJ5_compareTo_0 2 rfl rfl)
theorem dJ5_compareTo_5 : decode cJ5_compareTo 5 = .ok (.invokevirtual 1084, 3) := dk_182 4 60 (dk_at dksJ5_compareTo_0 5 rfl rfl)
theorem dJ5_compareTo_8 : decode cJ5_compareTo 8 = .ok (.ireturn, 1) := dk_172 (dk_at dksJ5_compareTo_0 8 rfl rfl)
abbrev cJ5_compareTo_2 : ByteArray := prog_42_method_71_code
def yJ5_compareTo_2 : MethodName := ⟨RJ5, "compareTo", "(Ljava/lang/String;)I"⟩
def dkwJ5_compareTo_2_2 : List UInt8 := [154, 0, 11, 44, 45, 184, 2, 79, 167, 0, 8, 44, 45, 184, 2, 82, 172]
abbrev dktJ5_compareTo_2_2 : List UInt8 := dkwJ5_compareTo_2_2 ++ []
def dkwJ5_compareTo_2_1 : List UInt8 := [160, 0, 22, 21, 4, 154, 0, 11, 44, 45, 184, 2, 74, 167, 0, 8, 44, 45, 184, 2, 78, 172, 21, 4]
abbrev dktJ5_compareTo_2_1 : List UInt8 := dkwJ5_compareTo_2_1 ++ dktJ5_compareTo_2_2
def dkwJ5_compareTo_2_0 : List UInt8 := [42, 180, 0, 9, 77, 43, 180, 0, 9, 78, 42, 182, 1, 79, 54, 4, 21, 4, 43, 182, 1, 79]
abbrev dktJ5_compareTo_2_0 : List UInt8 := dkwJ5_compareTo_2_0 ++ dktJ5_compareTo_2_1
theorem dksJ5_compareTo_2_0 : cJ5_compareTo_2.data.toList.drop 0 = dktJ5_compareTo_2_0 := by decide +kernel
theorem dksJ5_compareTo_2_1 : cJ5_compareTo_2.data.toList.drop 22 = dktJ5_compareTo_2_1 := dk_seg dksJ5_compareTo_2_0 22 rfl rfl
theorem dksJ5_compareTo_2_2 : cJ5_compareTo_2.data.toList.drop 46 = dktJ5_compareTo_2_2 := dk_seg dksJ5_compareTo_2_1 24 rfl rfl
theorem dJ5_compareTo_2_0 : decode cJ5_compareTo_2 0 = .ok (.aload_n 0, 1) := dk_42 (dk_at dksJ5_compareTo_2_0 0 rfl rfl)
theorem dJ5_compareTo_2_1 : decode cJ5_compareTo_2 1 = .ok (.getfield 9, 3) := dk_180 0 9 (dk_at dksJ5_compareTo_2_0 1 rfl rfl)
theorem dJ5_compareTo_2_4 : decode cJ5_compareTo_2 4 = .ok (.astore_n 2, 1) := dk_77 (dk_at dksJ5_compareTo_2_0 4 rfl rfl)
theorem dJ5_compareTo_2_5 : decode cJ5_compareTo_2 5 = .ok (.aload_n 1, 1) := dk_43 (dk_at dksJ5_compareTo_2_0 5 rfl rfl)
theorem dJ5_compareTo_2_6 : decode cJ5_compareTo_2 6 = .ok (.getfield 9, 3) := dk_180 0 9 (dk_at dksJ5_compareTo_2_0 6 rfl rfl)
theorem dJ5_compareTo_2_9 : decode cJ5_compareTo_2 9 = .ok (.astore_n 3, 1) := dk_78 (dk_at dksJ5_compareTo_2_0 9 rfl rfl)
theorem dJ5_compareTo_2_10 : decode cJ5_compareTo_2 10 = .ok (.aload_n 0, 1) := dk_42 (dk_at dksJ5_compareTo_2_0 10 rfl rfl)
theorem dJ5_compareTo_2_11 : decode cJ5_compareTo_2 11 = .ok (.invokevirtual 335, 3) := dk_182 1 79 (dk_at dksJ5_compareTo_2_0 11 rfl rfl)
theorem dJ5_compareTo_2_14 : decode cJ5_compareTo_2 14 = .ok (.istore 4, 2) := dk_54 4 (dk_at dksJ5_compareTo_2_0 14 rfl rfl)
theorem dJ5_compareTo_2_16 : decode cJ5_compareTo_2 16 = .ok (.iload 4, 2) := dk_21 4 (dk_at dksJ5_compareTo_2_0 16 rfl rfl)
theorem dJ5_compareTo_2_18 : decode cJ5_compareTo_2 18 = .ok (.aload_n 1, 1) := dk_43 (dk_at dksJ5_compareTo_2_0 18 rfl rfl)
theorem dJ5_compareTo_2_19 : decode cJ5_compareTo_2 19 = .ok (.invokevirtual 335, 3) := dk_182 1 79 (dk_at dksJ5_compareTo_2_0 19 rfl rfl)
theorem dJ5_compareTo_2_22 : decode cJ5_compareTo_2 22 = .ok (.if_icmp .ne 22, 3) := dk_160 0 22 (dk_at dksJ5_compareTo_2_1 0 rfl rfl)
theorem dJ5_compareTo_2_25 : decode cJ5_compareTo_2 25 = .ok (.iload 4, 2) := dk_21 4 (dk_at dksJ5_compareTo_2_1 3 rfl rfl)
theorem dJ5_compareTo_2_27 : decode cJ5_compareTo_2 27 = .ok (.ifCond .ne 11, 3) := dk_154 0 11 (dk_at dksJ5_compareTo_2_1 5 rfl rfl)
theorem dJ5_compareTo_2_30 : decode cJ5_compareTo_2 30 = .ok (.aload_n 2, 1) := dk_44 (dk_at dksJ5_compareTo_2_1 8 rfl rfl)
theorem dJ5_compareTo_2_31 : decode cJ5_compareTo_2 31 = .ok (.aload_n 3, 1) := dk_45 (dk_at dksJ5_compareTo_2_1 9 rfl rfl)
theorem dJ5_compareTo_2_32 : decode cJ5_compareTo_2 32 = .ok (.invokestatic 586, 3) := dk_184 2 74 (dk_at dksJ5_compareTo_2_1 10 rfl rfl)
theorem dJ5_compareTo_2_35 : decode cJ5_compareTo_2 35 = .ok (.goto 8, 3) := dk_167 0 8 (dk_at dksJ5_compareTo_2_1 13 rfl rfl)
theorem dJ5_compareTo_2_38 : decode cJ5_compareTo_2 38 = .ok (.aload_n 2, 1) := dk_44 (dk_at dksJ5_compareTo_2_1 16 rfl rfl)
theorem dJ5_compareTo_2_39 : decode cJ5_compareTo_2 39 = .ok (.aload_n 3, 1) := dk_45 (dk_at dksJ5_compareTo_2_1 17 rfl rfl)
theorem dJ5_compareTo_2_40 : decode cJ5_compareTo_2 40 = .ok (.invokestatic 590, 3) := dk_184 2 78 (dk_at dksJ5_compareTo_2_1 18 rfl rfl)
theorem dJ5_compareTo_2_43 : decode cJ5_compareTo_2 43 = .ok (.ireturn, 1) := dk_172 (dk_at dksJ5_compareTo_2_1 21 rfl rfl)
theorem dJ5_compareTo_2_44 : decode cJ5_compareTo_2 44 = .ok (.iload 4, 2) := dk_21 4 (dk_at dksJ5_compareTo_2_1 22 rfl rfl)
theorem dJ5_compareTo_2_46 : decode cJ5_compareTo_2 46 = .ok (.ifCond .ne 11, 3) := dk_154 0 11 (dk_at dksJ5_compareTo_2_2 0 rfl rfl)
theorem dJ5_compareTo_2_49 : decode cJ5_compareTo_2 49 = .ok (.aload_n 2, 1) := dk_44 (dk_at dksJ5_compareTo_2_2 3 rfl rfl)
theorem dJ5_compareTo_2_50 : decode cJ5_compareTo_2 50 = .ok (.aload_n 3, 1) := dk_45 (dk_at dksJ5_compareTo_2_2 4 rfl rfl)
theorem dJ5_compareTo_2_51 : decode cJ5_compareTo_2 51 = .ok (.invokestatic 591, 3) := dk_184 2 79 (dk_at dksJ5_compareTo_2_2 5 rfl rfl)
theorem dJ5_compareTo_2_54 : decode cJ5_compareTo_2 54 = .ok (.goto 8, 3) := dk_167 0 8 (dk_at dksJ5_compareTo_2_2 8 rfl rfl)
theorem dJ5_compareTo_2_57 : decode cJ5_compareTo_2 57 = .ok (.aload_n 2, 1) := dk_44 (dk_at dksJ5_compareTo_2_2 11 rfl rfl)
theorem dJ5_compareTo_2_58 : decode cJ5_compareTo_2 58 = .ok (.aload_n 3, 1) := dk_45 (dk_at dksJ5_compareTo_2_2 12 rfl rfl)
theorem dJ5_compareTo_2_59 : decode cJ5_compareTo_2 59 = .ok (.invokestatic 594, 3) := dk_184 2 82 (dk_at dksJ5_compareTo_2_2 13 rfl rfl)
theorem dJ5_compareTo_2_62 : decode cJ5_compareTo_2 62 = .ok (.ireturn, 1) := dk_172 (dk_at dksJ5_compareTo_2_2 16 rfl rfl)
abbrev cJ5_coder : ByteArray := prog_42_method_152_code
def yJ5_coder : MethodName := ⟨RJ5, "coder", "()B"⟩
def dkwJ5_coder_0 : List UInt8 := [178, 0, 38, 153, 0, 10, 42, 180, 0, 15, 167, 0, 4, 4, 172]
abbrev dktJ5_coder_0 : List UInt8 := dkwJ5_coder_0 ++ []
theorem dksJ5_coder_0 : cJ5_coder.data.toList.drop 0 = dktJ5_coder_0 := by decide +kernel
theorem dJ5_coder_0 : decode cJ5_coder 0 = .ok (.getstatic 38, 3) := dk_178 0 38 (dk_at dksJ5_coder_0 0 rfl rfl)
theorem dJ5_coder_3 : decode cJ5_coder 3 = .ok (.ifCond .eq 10, 3) := dk_153 0 10 (dk_at dksJ5_coder_0 3 rfl rfl)
theorem dJ5_coder_6 : decode cJ5_coder 6 = .ok (.aload_n 0, 1) := dk_42 (dk_at dksJ5_coder_0 6 rfl rfl)
theorem dJ5_coder_7 : decode cJ5_coder 7 = .ok (.getfield 15, 3) := dk_180 0 15 (dk_at dksJ5_coder_0 7 rfl rfl)
theorem dJ5_coder_10 : decode cJ5_coder 10 = .ok (.goto 4, 3) := dk_167 0 4 (dk_at dksJ5_coder_0 10 rfl rfl)
theorem dJ5_coder_13 : decode cJ5_coder 13 = .ok (.iconst 1, 1) := dk_4 (dk_at dksJ5_coder_0 13 rfl rfl)
theorem dJ5_coder_14 : decode cJ5_coder 14 = .ok (.ireturn, 1) := dk_172 (dk_at dksJ5_coder_0 14 rfl rfl)
abbrev cJ5_checkOffset : ByteArray := prog_42_method_156_code
def yJ5_checkOffset : MethodName := ⟨RJ5, "checkOffset", "(II)V"⟩
def dkwJ5_checkOffset_0 : List UInt8 := [26, 27, 27, 178, 4, 29, 184, 4, 38, 87, 177]
abbrev dktJ5_checkOffset_0 : List UInt8 := dkwJ5_checkOffset_0 ++ []
theorem dksJ5_checkOffset_0 : cJ5_checkOffset.data.toList.drop 0 = dktJ5_checkOffset_0 := by decide +kernel
theorem dJ5_checkOffset_0 : decode cJ5_checkOffset 0 = .ok (.iload_n 0, 1) := dk_26 (dk_at dksJ5_checkOffset_0 0 rfl rfl)
theorem dJ5_checkOffset_1 : decode cJ5_checkOffset 1 = .ok (.iload_n 1, 1) := dk_27 (dk_at dksJ5_checkOffset_0 1 rfl rfl)
theorem dJ5_checkOffset_2 : decode cJ5_checkOffset 2 = .ok (.iload_n 1, 1) := dk_27 (dk_at dksJ5_checkOffset_0 2 rfl rfl)
theorem dJ5_checkOffset_3 : decode cJ5_checkOffset 3 = .ok (.getstatic 1053, 3) := dk_178 4 29 (dk_at dksJ5_checkOffset_0 3 rfl rfl)
theorem dJ5_checkOffset_6 : decode cJ5_checkOffset 6 = .ok (.invokestatic 1062, 3) := dk_184 4 38 (dk_at dksJ5_checkOffset_0 6 rfl rfl)
theorem dJ5_checkOffset_9 : decode cJ5_checkOffset 9 = .ok (.pop, 1) := dk_87 (dk_at dksJ5_checkOffset_0 9 rfl rfl)
theorem dJ5_checkOffset_10 : decode cJ5_checkOffset 10 = .ok (.return_, 1) := dk_177 (dk_at dksJ5_checkOffset_0 10 rfl rfl)
abbrev cJ5_hashCode : ByteArray := prog_42_method_78_code
def yJ5_hashCode : MethodName := ⟨RJ5, "hashCode", "()I"⟩
def dkwJ5_hashCode_2 : List UInt8 := [181, 0, 23, 167, 0, 8, 42, 27, 181, 0, 19, 27, 172]
abbrev dktJ5_hashCode_2 : List UInt8 := dkwJ5_hashCode_2 ++ []
def dkwJ5_hashCode_1 : List UInt8 := [180, 0, 9, 184, 2, 116, 167, 0, 10, 42, 180, 0, 9, 184, 2, 120, 60, 27, 154, 0, 11, 42, 4]
abbrev dktJ5_hashCode_1 : List UInt8 := dkwJ5_hashCode_1 ++ dktJ5_hashCode_2
def dkwJ5_hashCode_0 : List UInt8 := [42, 180, 0, 19, 60, 27, 154, 0, 52, 42, 180, 0, 23, 154, 0, 45, 42, 182, 1, 236, 153, 0, 13, 42]
abbrev dktJ5_hashCode_0 : List UInt8 := dkwJ5_hashCode_0 ++ dktJ5_hashCode_1
theorem dksJ5_hashCode_0 : cJ5_hashCode.data.toList.drop 0 = dktJ5_hashCode_0 := by decide +kernel
theorem dksJ5_hashCode_1 : cJ5_hashCode.data.toList.drop 24 = dktJ5_hashCode_1 := dk_seg dksJ5_hashCode_0 24 rfl rfl
theorem dksJ5_hashCode_2 : cJ5_hashCode.data.toList.drop 47 = dktJ5_hashCode_2 := dk_seg dksJ5_hashCode_1 23 rfl rfl
theorem dJ5_hashCode_0 : decode cJ5_hashCode 0 = .ok (.aload_n 0, 1) := dk_42 (dk_at dksJ5_hashCode_0 0 rfl rfl)
theorem dJ5_hashCode_1 : decode cJ5_hashCode 1 = .ok (.getfield 19, 3) := dk_180 0 19 (dk_at dksJ5_hashCode_0 1 rfl rfl)
theorem dJ5_hashCode_4 : decode cJ5_hashCode 4 = .ok (.istore_n 1, 1) := dk_60 (dk_at dksJ5_hashCode_0 4 rfl rfl)
theorem dJ5_hashCode_5 : decode cJ5_hashCode 5 = .ok (.iload_n 1, 1) := dk_27 (dk_at dksJ5_hashCode_0 5 rfl rfl)
theorem dJ5_hashCode_6 : decode cJ5_hashCode 6 = .ok (.ifCond .ne 52, 3) := dk_154 0 52 (dk_at dksJ5_hashCode_0 6 rfl rfl)
theorem dJ5_hashCode_9 : decode cJ5_hashCode 9 = .ok (.aload_n 0, 1) := dk_42 (dk_at dksJ5_hashCode_0 9 rfl rfl)
theorem dJ5_hashCode_10 : decode cJ5_hashCode 10 = .ok (.getfield 23, 3) := dk_180 0 23 (dk_at dksJ5_hashCode_0 10 rfl rfl)
theorem dJ5_hashCode_13 : decode cJ5_hashCode 13 = .ok (.ifCond .ne 45, 3) := dk_154 0 45 (dk_at dksJ5_hashCode_0 13 rfl rfl)
theorem dJ5_hashCode_16 : decode cJ5_hashCode 16 = .ok (.aload_n 0, 1) := dk_42 (dk_at dksJ5_hashCode_0 16 rfl rfl)
theorem dJ5_hashCode_17 : decode cJ5_hashCode 17 = .ok (.invokevirtual 492, 3) := dk_182 1 236 (dk_at dksJ5_hashCode_0 17 rfl rfl)
theorem dJ5_hashCode_20 : decode cJ5_hashCode 20 = .ok (.ifCond .eq 13, 3) := dk_153 0 13 (dk_at dksJ5_hashCode_0 20 rfl rfl)
theorem dJ5_hashCode_23 : decode cJ5_hashCode 23 = .ok (.aload_n 0, 1) := dk_42 (dk_at dksJ5_hashCode_0 23 rfl rfl)
theorem dJ5_hashCode_24 : decode cJ5_hashCode 24 = .ok (.getfield 9, 3) := dk_180 0 9 (dk_at dksJ5_hashCode_1 0 rfl rfl)
theorem dJ5_hashCode_27 : decode cJ5_hashCode 27 = .ok (.invokestatic 628, 3) := dk_184 2 116 (dk_at dksJ5_hashCode_1 3 rfl rfl)
theorem dJ5_hashCode_30 : decode cJ5_hashCode 30 = .ok (.goto 10, 3) := dk_167 0 10 (dk_at dksJ5_hashCode_1 6 rfl rfl)
theorem dJ5_hashCode_33 : decode cJ5_hashCode 33 = .ok (.aload_n 0, 1) := dk_42 (dk_at dksJ5_hashCode_1 9 rfl rfl)
theorem dJ5_hashCode_34 : decode cJ5_hashCode 34 = .ok (.getfield 9, 3) := dk_180 0 9 (dk_at dksJ5_hashCode_1 10 rfl rfl)
theorem dJ5_hashCode_37 : decode cJ5_hashCode 37 = .ok (.invokestatic 632, 3) := dk_184 2 120 (dk_at dksJ5_hashCode_1 13 rfl rfl)
theorem dJ5_hashCode_40 : decode cJ5_hashCode 40 = .ok (.istore_n 1, 1) := dk_60 (dk_at dksJ5_hashCode_1 16 rfl rfl)
theorem dJ5_hashCode_41 : decode cJ5_hashCode 41 = .ok (.iload_n 1, 1) := dk_27 (dk_at dksJ5_hashCode_1 17 rfl rfl)
theorem dJ5_hashCode_42 : decode cJ5_hashCode 42 = .ok (.ifCond .ne 11, 3) := dk_154 0 11 (dk_at dksJ5_hashCode_1 18 rfl rfl)
theorem dJ5_hashCode_45 : decode cJ5_hashCode 45 = .ok (.aload_n 0, 1) := dk_42 (dk_at dksJ5_hashCode_1 21 rfl rfl)
theorem dJ5_hashCode_46 : decode cJ5_hashCode 46 = .ok (.iconst 1, 1) := dk_4 (dk_at dksJ5_hashCode_1 22 rfl rfl)
theorem dJ5_hashCode_47 : decode cJ5_hashCode 47 = .ok (.putfield 23, 3) := dk_181 0 23 (dk_at dksJ5_hashCode_2 0 rfl rfl)
theorem dJ5_hashCode_50 : decode cJ5_hashCode 50 = .ok (.goto 8, 3) := dk_167 0 8 (dk_at dksJ5_hashCode_2 3 rfl rfl)
theorem dJ5_hashCode_53 : decode cJ5_hashCode 53 = .ok (.aload_n 0, 1) := dk_42 (dk_at dksJ5_hashCode_2 6 rfl rfl)
theorem dJ5_hashCode_54 : decode cJ5_hashCode 54 = .ok (.iload_n 1, 1) := dk_27 (dk_at dksJ5_hashCode_2 7 rfl rfl)
theorem dJ5_hashCode_55 : decode cJ5_hashCode 55 = .ok (.putfield 19, 3) := dk_181 0 19 (dk_at dksJ5_hashCode_2 8 rfl rfl)
theorem dJ5_hashCode_58 : decode cJ5_hashCode 58 = .ok (.iload_n 1, 1) := dk_27 (dk_at dksJ5_hashCode_2 11 rfl rfl)
theorem dJ5_hashCode_59 : decode cJ5_hashCode 59 = .ok (.ireturn, 1) := dk_172 (dk_at dksJ5_hashCode_2 12 rfl rfl)
abbrev cJ5_isLatin1 : ByteArray := prog_42_method_154_code
def yJ5_isLatin1 : MethodName := ⟨RJ5, "isLatin1", "()Z"⟩
def dkwJ5_isLatin1_0 : List UInt8 := [178, 0, 38, 153, 0, 14, 42, 180, 0, 15, 154, 0, 7, 4, 167, 0, 4, 3, 172]
abbrev dktJ5_isLatin1_0 : List UInt8 := dkwJ5_isLatin1_0 ++ []
theorem dksJ5_isLatin1_0 : cJ5_isLatin1.data.toList.drop 0 = dktJ5_isLatin1_0 := by decide +kernel
theorem dJ5_isLatin1_0 : decode cJ5_isLatin1 0 = .ok (.getstatic 38, 3) := dk_178 0 38 (dk_at dksJ5_isLatin1_0 0 rfl rfl)
theorem dJ5_isLatin1_3 : decode cJ5_isLatin1 3 = .ok (.ifCond .eq 14, 3) := dk_153 0 14 (dk_at dksJ5_isLatin1_0 3 rfl rfl)
theorem dJ5_isLatin1_6 : decode cJ5_isLatin1 6 = .ok (.aload_n 0, 1) := dk_42 (dk_at dksJ5_isLatin1_0 6 rfl rfl)
theorem dJ5_isLatin1_7 : decode cJ5_isLatin1 7 = .ok (.getfield 15, 3) := dk_180 0 15 (dk_at dksJ5_isLatin1_0 7 rfl rfl)
theorem dJ5_isLatin1_10 : decode cJ5_isLatin1 10 = .ok (.ifCond .ne 7, 3) := dk_154 0 7 (dk_at dksJ5_isLatin1_0 10 rfl rfl)
theorem dJ5_isLatin1_13 : decode cJ5_isLatin1 13 = .ok (.iconst 1, 1) := dk_4 (dk_at dksJ5_isLatin1_0 13 rfl rfl)
theorem dJ5_isLatin1_14 : decode cJ5_isLatin1 14 = .ok (.goto 4, 3) := dk_167 0 4 (dk_at dksJ5_isLatin1_0 14 rfl rfl)
theorem dJ5_isLatin1_17 : decode cJ5_isLatin1 17 = .ok (.iconst 0, 1) := dk_3 (dk_at dksJ5_isLatin1_0 17 rfl rfl)
theorem dJ5_isLatin1_18 : decode cJ5_isLatin1 18 = .ok (.ireturn, 1) := dk_172 (dk_at dksJ5_isLatin1_0 18 rfl rfl)
abbrev cJ5_equals : ByteArray := prog_42_method_66_code
def yJ5_equals : MethodName := ⟨RJ5, "equals", "(Ljava/lang/Object;)Z"⟩
def dkwJ5_equals_2 : List UInt8 := [184, 2, 29, 153, 0, 7, 4, 167, 0, 4, 3, 172]
abbrev dktJ5_equals_2 : List UInt8 := dkwJ5_equals_2 ++ []
def dkwJ5_equals_1 : List UInt8 := [153, 0, 14, 42, 180, 0, 15, 44, 180, 0, 15, 160, 0, 21, 42, 180, 0, 9, 44, 180, 0, 9]
abbrev dktJ5_equals_1 : List UInt8 := dkwJ5_equals_1 ++ dktJ5_equals_2
def dkwJ5_equals_0 : List UInt8 := [42, 43, 166, 0, 5, 4, 172, 43, 193, 0, 10, 153, 0, 43, 43, 192, 0, 10, 77, 178, 0, 38]
abbrev dktJ5_equals_0 : List UInt8 := dkwJ5_equals_0 ++ dktJ5_equals_1
theorem dksJ5_equals_0 : cJ5_equals.data.toList.drop 0 = dktJ5_equals_0 := by decide +kernel
theorem dksJ5_equals_1 : cJ5_equals.data.toList.drop 22 = dktJ5_equals_1 := dk_seg dksJ5_equals_0 22 rfl rfl
theorem dksJ5_equals_2 : cJ5_equals.data.toList.drop 44 = dktJ5_equals_2 := dk_seg dksJ5_equals_1 22 rfl rfl
theorem dJ5_equals_0 : decode cJ5_equals 0 = .ok (.aload_n 0, 1) := dk_42 (dk_at dksJ5_equals_0 0 rfl rfl)
theorem dJ5_equals_1 : decode cJ5_equals 1 = .ok (.aload_n 1, 1) := dk_43 (dk_at dksJ5_equals_0 1 rfl rfl)
theorem dJ5_equals_2 : decode cJ5_equals 2 = .ok (.if_acmp .ne 5, 3) := dk_166 0 5 (dk_at dksJ5_equals_0 2 rfl rfl)
theorem dJ5_equals_5 : decode cJ5_equals 5 = .ok (.iconst 1, 1) := dk_4 (dk_at dksJ5_equals_0 5 rfl rfl)
theorem dJ5_equals_6 : decode cJ5_equals 6 = .ok (.ireturn, 1) := dk_172 (dk_at dksJ5_equals_0 6 rfl rfl)
theorem dJ5_equals_7 : decode cJ5_equals 7 = .ok (.aload_n 1, 1) := dk_43 (dk_at dksJ5_equals_0 7 rfl rfl)
theorem dJ5_equals_8 : decode cJ5_equals 8 = .ok (.instanceof 10, 3) := dk_193 0 10 (dk_at dksJ5_equals_0 8 rfl rfl)
theorem dJ5_equals_11 : decode cJ5_equals 11 = .ok (.ifCond .eq 43, 3) := dk_153 0 43 (dk_at dksJ5_equals_0 11 rfl rfl)
theorem dJ5_equals_14 : decode cJ5_equals 14 = .ok (.aload_n 1, 1) := dk_43 (dk_at dksJ5_equals_0 14 rfl rfl)
theorem dJ5_equals_15 : decode cJ5_equals 15 = .ok (.checkcast 10, 3) := dk_192 0 10 (dk_at dksJ5_equals_0 15 rfl rfl)
theorem dJ5_equals_18 : decode cJ5_equals 18 = .ok (.astore_n 2, 1) := dk_77 (dk_at dksJ5_equals_0 18 rfl rfl)
theorem dJ5_equals_19 : decode cJ5_equals 19 = .ok (.getstatic 38, 3) := dk_178 0 38 (dk_at dksJ5_equals_0 19 rfl rfl)
theorem dJ5_equals_22 : decode cJ5_equals 22 = .ok (.ifCond .eq 14, 3) := dk_153 0 14 (dk_at dksJ5_equals_1 0 rfl rfl)
theorem dJ5_equals_25 : decode cJ5_equals 25 = .ok (.aload_n 0, 1) := dk_42 (dk_at dksJ5_equals_1 3 rfl rfl)
theorem dJ5_equals_26 : decode cJ5_equals 26 = .ok (.getfield 15, 3) := dk_180 0 15 (dk_at dksJ5_equals_1 4 rfl rfl)
theorem dJ5_equals_29 : decode cJ5_equals 29 = .ok (.aload_n 2, 1) := dk_44 (dk_at dksJ5_equals_1 7 rfl rfl)
theorem dJ5_equals_30 : decode cJ5_equals 30 = .ok (.getfield 15, 3) := dk_180 0 15 (dk_at dksJ5_equals_1 8 rfl rfl)
theorem dJ5_equals_33 : decode cJ5_equals 33 = .ok (.if_icmp .ne 21, 3) := dk_160 0 21 (dk_at dksJ5_equals_1 11 rfl rfl)
theorem dJ5_equals_36 : decode cJ5_equals 36 = .ok (.aload_n 0, 1) := dk_42 (dk_at dksJ5_equals_1 14 rfl rfl)
theorem dJ5_equals_37 : decode cJ5_equals 37 = .ok (.getfield 9, 3) := dk_180 0 9 (dk_at dksJ5_equals_1 15 rfl rfl)
theorem dJ5_equals_40 : decode cJ5_equals 40 = .ok (.aload_n 2, 1) := dk_44 (dk_at dksJ5_equals_1 18 rfl rfl)
theorem dJ5_equals_41 : decode cJ5_equals 41 = .ok (.getfield 9, 3) := dk_180 0 9 (dk_at dksJ5_equals_1 19 rfl rfl)
theorem dJ5_equals_44 : decode cJ5_equals 44 = .ok (.invokestatic 541, 3) := dk_184 2 29 (dk_at dksJ5_equals_2 0 rfl rfl)
theorem dJ5_equals_47 : decode cJ5_equals 47 = .ok (.ifCond .eq 7, 3) := dk_153 0 7 (dk_at dksJ5_equals_2 3 rfl rfl)
theorem dJ5_equals_50 : decode cJ5_equals 50 = .ok (.iconst 1, 1) := dk_4 (dk_at dksJ5_equals_2 6 rfl rfl)
theorem dJ5_equals_51 : decode cJ5_equals 51 = .ok (.goto 4, 3) := dk_167 0 4 (dk_at dksJ5_equals_2 7 rfl rfl)
theorem dJ5_equals_54 : decode cJ5_equals 54 = .ok (.iconst 0, 1) := dk_3 (dk_at dksJ5_equals_2 10 rfl rfl)
theorem dJ5_equals_55 : decode cJ5_equals 55 = .ok (.ireturn, 1) := dk_172 (dk_at dksJ5_equals_2 11 rfl rfl)
abbrev cJ5_checkBoundsOffCount : ByteArray := prog_42_method_157_code
def yJ5_checkBoundsOffCount : MethodName := ⟨RJ5, "checkBoundsOffCount", "(III)I"⟩
def dkwJ5_checkBoundsOffCount_0 : List UInt8 := [26, 27, 28, 178, 4, 29, 184, 4, 41, 172]
abbrev dktJ5_checkBoundsOffCount_0 : List UInt8 := dkwJ5_checkBoundsOffCount_0 ++ []
theorem dksJ5_checkBoundsOffCount_0 : cJ5_checkBoundsOffCount.data.toList.drop 0 = dktJ5_checkBoundsOffCount_0 := by decide +kernel
theorem dJ5_checkBoundsOffCount_0 : decode cJ5_checkBoundsOffCount 0 = .ok (.iload_n 0, 1) := dk_26 (dk_at dksJ5_checkBoundsOffCount_0 0 rfl rfl)
theorem dJ5_checkBoundsOffCount_1 : decode cJ5_checkBoundsOffCount 1 = .ok (.iload_n 1, 1) := dk_27 (dk_at dksJ5_checkBoundsOffCount_0 1 rfl rfl)
theorem dJ5_checkBoundsOffCount_2 : decode cJ5_checkBoundsOffCount 2 = .ok (.iload_n 2, 1) := dk_28 (dk_at dksJ5_checkBoundsOffCount_0 2 rfl rfl)
theorem dJ5_checkBoundsOffCount_3 : decode cJ5_checkBoundsOffCount 3 = .ok (.getstatic 1053, 3) := dk_178 4 29 (dk_at dksJ5_checkBoundsOffCount_0 3 rfl rfl)
theorem dJ5_checkBoundsOffCount_6 : decode cJ5_checkBoundsOffCount 6 = .ok (.invokestatic 1065, 3) := dk_184 4 41 (dk_at dksJ5_checkBoundsOffCount_0 6 rfl rfl)
theorem dJ5_checkBoundsOffCount_9 : decode cJ5_checkBoundsOffCount 9 = .ok (.ireturn, 1) := dk_172 (dk_at dksJ5_checkBoundsOffCount_0 9 rfl rfl)
abbrev cJ5_checkIndex : ByteArray := prog_42_method_155_code
def yJ5_checkIndex : MethodName := ⟨RJ5, "checkIndex", "(II)V"⟩
def dkwJ5_checkIndex_0 : List UInt8 := [26, 27, 178, 4, 29, 184, 4, 35, 87, 177]
abbrev dktJ5_checkIndex_0 : List UInt8 := dkwJ5_checkIndex_0 ++ []
theorem dksJ5_checkIndex_0 : cJ5_checkIndex.data.toList.drop 0 = dktJ5_checkIndex_0 := by decide +kernel
theorem dJ5_checkIndex_0 : decode cJ5_checkIndex 0 = .ok (.iload_n 0, 1) := dk_26 (dk_at dksJ5_checkIndex_0 0 rfl rfl)
theorem dJ5_checkIndex_1 : decode cJ5_checkIndex 1 = .ok (.iload_n 1, 1) := dk_27 (dk_at dksJ5_checkIndex_0 1 rfl rfl)
theorem dJ5_checkIndex_2 : decode cJ5_checkIndex 2 = .ok (.getstatic 1053, 3) := dk_178 4 29 (dk_at dksJ5_checkIndex_0 2 rfl rfl)
theorem dJ5_checkIndex_5 : decode cJ5_checkIndex 5 = .ok (.invokestatic 1059, 3) := dk_184 4 35 (dk_at dksJ5_checkIndex_0 5 rfl rfl)
theorem dJ5_checkIndex_8 : decode cJ5_checkIndex 8 = .ok (.pop, 1) := dk_87 (dk_at dksJ5_checkIndex_0 8 rfl rfl)
theorem dJ5_checkIndex_9 : decode cJ5_checkIndex 9 = .ok (.return_, 1) := dk_177 (dk_at dksJ5_checkIndex_0 9 rfl rfl)
abbrev cJ5_charAt : ByteArray := prog_42_method_56_code
def yJ5_charAt : MethodName := ⟨RJ5, "charAt", "(I)C"⟩
def dkwJ5_charAt_1 : List UInt8 := [172]
abbrev dktJ5_charAt_1 : List UInt8 := dkwJ5_charAt_1 ++ []
def dkwJ5_charAt_0 : List UInt8 := [42, 182, 1, 236, 153, 0, 12, 42, 180, 0, 9, 27, 184, 1, 239, 172, 42, 180, 0, 9, 27, 184, 1, 242]
abbrev dktJ5_charAt_0 : List UInt8 := dkwJ5_charAt_0 ++ dktJ5_charAt_1
theorem dksJ5_charAt_0 : cJ5_charAt.data.toList.drop 0 = dktJ5_charAt_0 := by decide +kernel
theorem dksJ5_charAt_1 : cJ5_charAt.data.toList.drop 24 = dktJ5_charAt_1 := dk_seg dksJ5_charAt_0 24 rfl rfl
theorem dJ5_charAt_0 : decode cJ5_charAt 0 = .ok (.aload_n 0, 1) := dk_42 (dk_at dksJ5_charAt_0 0 rfl rfl)
theorem dJ5_charAt_1 : decode cJ5_charAt 1 = .ok (.invokevirtual 492, 3) := dk_182 1 236 (dk_at dksJ5_charAt_0 1 rfl rfl)
theorem dJ5_charAt_4 : decode cJ5_charAt 4 = .ok (.ifCond .eq 12, 3) := dk_153 0 12 (dk_at dksJ5_charAt_0 4 rfl rfl)
theorem dJ5_charAt_7 : decode cJ5_charAt 7 = .ok (.aload_n 0, 1) := dk_42 (dk_at dksJ5_charAt_0 7 rfl rfl)
theorem dJ5_charAt_8 : decode cJ5_charAt 8 = .ok (.getfield 9, 3) := dk_180 0 9 (dk_at dksJ5_charAt_0 8 rfl rfl)
theorem dJ5_charAt_11 : decode cJ5_charAt 11 = .ok (.iload_n 1, 1) := dk_27 (dk_at dksJ5_charAt_0 11 rfl rfl)
theorem dJ5_charAt_12 : decode cJ5_charAt 12 = .ok (.invokestatic 495, 3) := dk_184 1 239 (dk_at dksJ5_charAt_0 12 rfl rfl)
theorem dJ5_charAt_15 : decode cJ5_charAt 15 = .ok (.ireturn, 1) := dk_172 (dk_at dksJ5_charAt_0 15 rfl rfl)
theorem dJ5_charAt_16 : decode cJ5_charAt 16 = .ok (.aload_n 0, 1) := dk_42 (dk_at dksJ5_charAt_0 16 rfl rfl)
theorem dJ5_charAt_17 : decode cJ5_charAt 17 = .ok (.getfield 9, 3) := dk_180 0 9 (dk_at dksJ5_charAt_0 17 rfl rfl)
theorem dJ5_charAt_20 : decode cJ5_charAt 20 = .ok (.iload_n 1, 1) := dk_27 (dk_at dksJ5_charAt_0 20 rfl rfl)
theorem dJ5_charAt_21 : decode cJ5_charAt 21 = .ok (.invokestatic 498, 3) := dk_184 1 242 (dk_at dksJ5_charAt_0 21 rfl rfl)
theorem dJ5_charAt_24 : decode cJ5_charAt 24 = .ok (.ireturn, 1) := dk_172 (dk_at dksJ5_charAt_1 0 rfl rfl)
abbrev cJ5_init : ByteArray := prog_42_method_53_code
def yJ5_init : MethodName := ⟨RJ5, "<init>", "(Ljava/lang/StringBuilder;)V"⟩
def dkwJ5_init_0 : List UInt8 := [42, 43, 1, 183, 1, 233, 177]
abbrev dktJ5_init_0 : List UInt8 := dkwJ5_init_0 ++ []
theorem dksJ5_init_0 : cJ5_init.data.toList.drop 0 = dktJ5_init_0 := by decide +kernel
theorem dJ5_init_0 : decode cJ5_init 0 = .ok (.aload_n 0, 1) := dk_42 (dk_at dksJ5_init_0 0 rfl rfl)
theorem dJ5_init_1 : decode cJ5_init 1 = .ok (.aload_n 1, 1) := dk_43 (dk_at dksJ5_init_0 1 rfl rfl)
theorem dJ5_init_2 : decode cJ5_init 2 = .ok (.aconst_null, 1) := dk_1 (dk_at dksJ5_init_0 2 rfl rfl)
theorem dJ5_init_3 : decode cJ5_init 3 = .ok (.invokespecial 489, 3) := dk_183 1 233 (dk_at dksJ5_init_0 3 rfl rfl)
theorem dJ5_init_6 : decode cJ5_init 6 = .ok (.return_, 1) := dk_177 (dk_at dksJ5_init_0 6 rfl rfl)
abbrev cJ5_init_2 : ByteArray := prog_42_method_150_code
def yJ5_init_2 : MethodName := ⟨RJ5, "<init>", "(Ljava/lang/AbstractStringBuilder;Ljava/lang/Void;)V"⟩
def dkwJ5_init_2_4 : List UInt8 := [181, 0, 9, 177]
abbrev dktJ5_init_2_4 : List UInt8 := dkwJ5_init_2_4 ++ []
def dkwJ5_init_2_3 : List UInt8 := [184, 0, 47, 181, 0, 15, 177, 42, 4, 181, 0, 15, 42, 45, 3, 21, 4, 4, 120, 184, 0, 54]
abbrev dktJ5_init_2_3 : List UInt8 := dkwJ5_init_2_3 ++ dktJ5_init_2_4
def dkwJ5_init_2_2 : List UInt8 := [180, 4, 24, 153, 0, 28, 42, 45, 3, 21, 4, 184, 4, 27, 181, 0, 9, 42, 42, 180, 0, 9, 21, 4]
abbrev dktJ5_init_2_2 : List UInt8 := dkwJ5_init_2_2 ++ dktJ5_init_2_3
def dkwJ5_init_2_1 : List UInt8 := [181, 0, 15, 42, 45, 3, 21, 4, 184, 0, 54, 181, 0, 9, 167, 0, 59, 178, 0, 38, 153, 0, 35, 43]
abbrev dktJ5_init_2_1 : List UInt8 := dkwJ5_init_2_1 ++ dktJ5_init_2_2
def dkwJ5_init_2_0 : List UInt8 := [42, 183, 0, 1, 43, 182, 2, 40, 78, 43, 182, 2, 37, 54, 4, 43, 182, 4, 23, 153, 0, 22, 42, 3]
abbrev dktJ5_init_2_0 : List UInt8 := dkwJ5_init_2_0 ++ dktJ5_init_2_1
theorem dksJ5_init_2_0 : cJ5_init_2.data.toList.drop 0 = dktJ5_init_2_0 := by decide +kernel
theorem dksJ5_init_2_1 : cJ5_init_2.data.toList.drop 24 = dktJ5_init_2_1 := dk_seg dksJ5_init_2_0 24 rfl rfl
theorem dksJ5_init_2_2 : cJ5_init_2.data.toList.drop 48 = dktJ5_init_2_2 := dk_seg dksJ5_init_2_1 24 rfl rfl
theorem dksJ5_init_2_3 : cJ5_init_2.data.toList.drop 72 = dktJ5_init_2_3 := dk_seg dksJ5_init_2_2 24 rfl rfl
theorem dksJ5_init_2_4 : cJ5_init_2.data.toList.drop 94 = dktJ5_init_2_4 := dk_seg dksJ5_init_2_3 22 rfl rfl
theorem dJ5_init_2_0 : decode cJ5_init_2 0 = .ok (.aload_n 0, 1) := dk_42 (dk_at dksJ5_init_2_0 0 rfl rfl)
theorem dJ5_init_2_1 : decode cJ5_init_2 1 = .ok (.invokespecial 1, 3) := dk_183 0 1 (dk_at dksJ5_init_2_0 1 rfl rfl)
theorem dJ5_init_2_4 : decode cJ5_init_2 4 = .ok (.aload_n 1, 1) := dk_43 (dk_at dksJ5_init_2_0 4 rfl rfl)
theorem dJ5_init_2_5 : decode cJ5_init_2 5 = .ok (.invokevirtual 552, 3) := dk_182 2 40 (dk_at dksJ5_init_2_0 5 rfl rfl)
theorem dJ5_init_2_8 : decode cJ5_init_2 8 = .ok (.astore_n 3, 1) := dk_78 (dk_at dksJ5_init_2_0 8 rfl rfl)
theorem dJ5_init_2_9 : decode cJ5_init_2 9 = .ok (.aload_n 1, 1) := dk_43 (dk_at dksJ5_init_2_0 9 rfl rfl)
theorem dJ5_init_2_10 : decode cJ5_init_2 10 = .ok (.invokevirtual 549, 3) := dk_182 2 37 (dk_at dksJ5_init_2_0 10 rfl rfl)
theorem dJ5_init_2_13 : decode cJ5_init_2 13 = .ok (.istore 4, 2) := dk_54 4 (dk_at dksJ5_init_2_0 13 rfl rfl)
theorem dJ5_init_2_15 : decode cJ5_init_2 15 = .ok (.aload_n 1, 1) := dk_43 (dk_at dksJ5_init_2_0 15 rfl rfl)
theorem dJ5_init_2_16 : decode cJ5_init_2 16 = .ok (.invokevirtual 1047, 3) := dk_182 4 23 (dk_at dksJ5_init_2_0 16 rfl rfl)
theorem dJ5_init_2_19 : decode cJ5_init_2 19 = .ok (.ifCond .eq 22, 3) := dk_153 0 22 (dk_at dksJ5_init_2_0 19 rfl rfl)
theorem dJ5_init_2_22 : decode cJ5_init_2 22 = .ok (.aload_n 0, 1) := dk_42 (dk_at dksJ5_init_2_0 22 rfl rfl)
theorem dJ5_init_2_23 : decode cJ5_init_2 23 = .ok (.iconst 0, 1) := dk_3 (dk_at dksJ5_init_2_0 23 rfl rfl)
theorem dJ5_init_2_24 : decode cJ5_init_2 24 = .ok (.putfield 15, 3) := dk_181 0 15 (dk_at dksJ5_init_2_1 0 rfl rfl)
theorem dJ5_init_2_27 : decode cJ5_init_2 27 = .ok (.aload_n 0, 1) := dk_42 (dk_at dksJ5_init_2_1 3 rfl rfl)
theorem dJ5_init_2_28 : decode cJ5_init_2 28 = .ok (.aload_n 3, 1) := dk_45 (dk_at dksJ5_init_2_1 4 rfl rfl)
theorem dJ5_init_2_29 : decode cJ5_init_2 29 = .ok (.iconst 0, 1) := dk_3 (dk_at dksJ5_init_2_1 5 rfl rfl)
theorem dJ5_init_2_30 : decode cJ5_init_2 30 = .ok (.iload 4, 2) := dk_21 4 (dk_at dksJ5_init_2_1 6 rfl rfl)
theorem dJ5_init_2_32 : decode cJ5_init_2 32 = .ok (.invokestatic 54, 3) := dk_184 0 54 (dk_at dksJ5_init_2_1 8 rfl rfl)
theorem dJ5_init_2_35 : decode cJ5_init_2 35 = .ok (.putfield 9, 3) := dk_181 0 9 (dk_at dksJ5_init_2_1 11 rfl rfl)
theorem dJ5_init_2_38 : decode cJ5_init_2 38 = .ok (.goto 59, 3) := dk_167 0 59 (dk_at dksJ5_init_2_1 14 rfl rfl)
theorem dJ5_init_2_41 : decode cJ5_init_2 41 = .ok (.getstatic 38, 3) := dk_178 0 38 (dk_at dksJ5_init_2_1 17 rfl rfl)
theorem dJ5_init_2_44 : decode cJ5_init_2 44 = .ok (.ifCond .eq 35, 3) := dk_153 0 35 (dk_at dksJ5_init_2_1 20 rfl rfl)
theorem dJ5_init_2_47 : decode cJ5_init_2 47 = .ok (.aload_n 1, 1) := dk_43 (dk_at dksJ5_init_2_1 23 rfl rfl)
theorem dJ5_init_2_48 : decode cJ5_init_2 48 = .ok (.getfield 1048, 3) := dk_180 4 24 (dk_at dksJ5_init_2_2 0 rfl rfl)
theorem dJ5_init_2_51 : decode cJ5_init_2 51 = .ok (.ifCond .eq 28, 3) := dk_153 0 28 (dk_at dksJ5_init_2_2 3 rfl rfl)
theorem dJ5_init_2_54 : decode cJ5_init_2 54 = .ok (.aload_n 0, 1) := dk_42 (dk_at dksJ5_init_2_2 6 rfl rfl)
theorem dJ5_init_2_55 : decode cJ5_init_2 55 = .ok (.aload_n 3, 1) := dk_45 (dk_at dksJ5_init_2_2 7 rfl rfl)
theorem dJ5_init_2_56 : decode cJ5_init_2 56 = .ok (.iconst 0, 1) := dk_3 (dk_at dksJ5_init_2_2 8 rfl rfl)
theorem dJ5_init_2_57 : decode cJ5_init_2 57 = .ok (.iload 4, 2) := dk_21 4 (dk_at dksJ5_init_2_2 9 rfl rfl)
theorem dJ5_init_2_59 : decode cJ5_init_2 59 = .ok (.invokestatic 1051, 3) := dk_184 4 27 (dk_at dksJ5_init_2_2 11 rfl rfl)
theorem dJ5_init_2_62 : decode cJ5_init_2 62 = .ok (.putfield 9, 3) := dk_181 0 9 (dk_at dksJ5_init_2_2 14 rfl rfl)
theorem dJ5_init_2_65 : decode cJ5_init_2 65 = .ok (.aload_n 0, 1) := dk_42 (dk_at dksJ5_init_2_2 17 rfl rfl)
theorem dJ5_init_2_66 : decode cJ5_init_2 66 = .ok (.aload_n 0, 1) := dk_42 (dk_at dksJ5_init_2_2 18 rfl rfl)
theorem dJ5_init_2_67 : decode cJ5_init_2 67 = .ok (.getfield 9, 3) := dk_180 0 9 (dk_at dksJ5_init_2_2 19 rfl rfl)
theorem dJ5_init_2_70 : decode cJ5_init_2 70 = .ok (.iload 4, 2) := dk_21 4 (dk_at dksJ5_init_2_2 22 rfl rfl)
theorem dJ5_init_2_72 : decode cJ5_init_2 72 = .ok (.invokestatic 47, 3) := dk_184 0 47 (dk_at dksJ5_init_2_3 0 rfl rfl)
theorem dJ5_init_2_75 : decode cJ5_init_2 75 = .ok (.putfield 15, 3) := dk_181 0 15 (dk_at dksJ5_init_2_3 3 rfl rfl)
theorem dJ5_init_2_78 : decode cJ5_init_2 78 = .ok (.return_, 1) := dk_177 (dk_at dksJ5_init_2_3 6 rfl rfl)
theorem dJ5_init_2_79 : decode cJ5_init_2 79 = .ok (.aload_n 0, 1) := dk_42 (dk_at dksJ5_init_2_3 7 rfl rfl)
theorem dJ5_init_2_80 : decode cJ5_init_2 80 = .ok (.iconst 1, 1) := dk_4 (dk_at dksJ5_init_2_3 8 rfl rfl)
theorem dJ5_init_2_81 : decode cJ5_init_2 81 = .ok (.putfield 15, 3) := dk_181 0 15 (dk_at dksJ5_init_2_3 9 rfl rfl)
theorem dJ5_init_2_84 : decode cJ5_init_2 84 = .ok (.aload_n 0, 1) := dk_42 (dk_at dksJ5_init_2_3 12 rfl rfl)
theorem dJ5_init_2_85 : decode cJ5_init_2 85 = .ok (.aload_n 3, 1) := dk_45 (dk_at dksJ5_init_2_3 13 rfl rfl)
theorem dJ5_init_2_86 : decode cJ5_init_2 86 = .ok (.iconst 0, 1) := dk_3 (dk_at dksJ5_init_2_3 14 rfl rfl)
theorem dJ5_init_2_87 : decode cJ5_init_2 87 = .ok (.iload 4, 2) := dk_21 4 (dk_at dksJ5_init_2_3 15 rfl rfl)
theorem dJ5_init_2_89 : decode cJ5_init_2 89 = .ok (.iconst 1, 1) := dk_4 (dk_at dksJ5_init_2_3 17 rfl rfl)
theorem dJ5_init_2_90 : decode cJ5_init_2 90 = .ok (.ishl, 1) := dk_120 (dk_at dksJ5_init_2_3 18 rfl rfl)
theorem dJ5_init_2_91 : decode cJ5_init_2 91 = .ok (.invokestatic 54, 3) := dk_184 0 54 (dk_at dksJ5_init_2_3 19 rfl rfl)
theorem dJ5_init_2_94 : decode cJ5_init_2 94 = .ok (.putfield 9, 3) := dk_181 0 9 (dk_at dksJ5_init_2_4 0 rfl rfl)
theorem dJ5_init_2_97 : decode cJ5_init_2 97 = .ok (.return_, 1) := dk_177 (dk_at dksJ5_init_2_4 3 rfl rfl)
abbrev cJ5_toString : ByteArray := prog_42_method_126_code
def yJ5_toString : MethodName := ⟨RJ5, "toString", "()Ljava/lang/String;"⟩
theorem dJ5_toString_0 : decode cJ5_toString 0 = .ok (.aload_n 0, 1) := by decide +kernel
theorem dJ5_toString_1 : decode cJ5_toString 1 = .ok (.areturn, 1) := by decide +kernel
abbrev cJ5_checkBoundsBeginEnd : ByteArray := prog_42_method_158_code
def yJ5_checkBoundsBeginEnd : MethodName := ⟨RJ5, "checkBoundsBeginEnd", "(III)V"⟩
def dkwJ5_checkBoundsBeginEnd_0 : List UInt8 := [26, 27, 28, 178, 4, 29, 184, 4, 38, 87, 177]
abbrev dktJ5_checkBoundsBeginEnd_0 : List UInt8 := dkwJ5_checkBoundsBeginEnd_0 ++ []
theorem dksJ5_checkBoundsBeginEnd_0 : cJ5_checkBoundsBeginEnd.data.toList.drop 0 = dktJ5_checkBoundsBeginEnd_0 := by decide +kernel
theorem dJ5_checkBoundsBeginEnd_0 : decode cJ5_checkBoundsBeginEnd 0 = .ok (.iload_n 0, 1) := dk_26 (dk_at dksJ5_checkBoundsBeginEnd_0 0 rfl rfl)
theorem dJ5_checkBoundsBeginEnd_1 : decode cJ5_checkBoundsBeginEnd 1 = .ok (.iload_n 1, 1) := dk_27 (dk_at dksJ5_checkBoundsBeginEnd_0 1 rfl rfl)
theorem dJ5_checkBoundsBeginEnd_2 : decode cJ5_checkBoundsBeginEnd 2 = .ok (.iload_n 2, 1) := dk_28 (dk_at dksJ5_checkBoundsBeginEnd_0 2 rfl rfl)
theorem dJ5_checkBoundsBeginEnd_3 : decode cJ5_checkBoundsBeginEnd 3 = .ok (.getstatic 1053, 3) := dk_178 4 29 (dk_at dksJ5_checkBoundsBeginEnd_0 3 rfl rfl)
theorem dJ5_checkBoundsBeginEnd_6 : decode cJ5_checkBoundsBeginEnd 6 = .ok (.invokestatic 1062, 3) := dk_184 4 38 (dk_at dksJ5_checkBoundsBeginEnd_0 6 rfl rfl)
theorem dJ5_checkBoundsBeginEnd_9 : decode cJ5_checkBoundsBeginEnd 9 = .ok (.pop, 1) := dk_87 (dk_at dksJ5_checkBoundsBeginEnd_0 9 rfl rfl)
theorem dJ5_checkBoundsBeginEnd_10 : decode cJ5_checkBoundsBeginEnd 10 = .ok (.return_, 1) := dk_177 (dk_at dksJ5_checkBoundsBeginEnd_0 10 rfl rfl)
abbrev cJ5_length : ByteArray := prog_42_method_54_code
def yJ5_length : MethodName := ⟨RJ5, "length", "()I"⟩
def dkwJ5_length_0 : List UInt8 := [42, 180, 0, 9, 190, 42, 182, 1, 79, 122, 172]
abbrev dktJ5_length_0 : List UInt8 := dkwJ5_length_0 ++ []
theorem dksJ5_length_0 : cJ5_length.data.toList.drop 0 = dktJ5_length_0 := by decide +kernel
theorem dJ5_length_0 : decode cJ5_length 0 = .ok (.aload_n 0, 1) := dk_42 (dk_at dksJ5_length_0 0 rfl rfl)
theorem dJ5_length_1 : decode cJ5_length 1 = .ok (.getfield 9, 3) := dk_180 0 9 (dk_at dksJ5_length_0 1 rfl rfl)
theorem dJ5_length_4 : decode cJ5_length 4 = .ok (.arraylength, 1) := dk_190 (dk_at dksJ5_length_0 4 rfl rfl)
theorem dJ5_length_5 : decode cJ5_length 5 = .ok (.aload_n 0, 1) := dk_42 (dk_at dksJ5_length_0 5 rfl rfl)
theorem dJ5_length_6 : decode cJ5_length 6 = .ok (.invokevirtual 335, 3) := dk_182 1 79 (dk_at dksJ5_length_0 6 rfl rfl)
theorem dJ5_length_9 : decode cJ5_length 9 = .ok (.ishr, 1) := dk_122 (dk_at dksJ5_length_0 9 rfl rfl)
theorem dJ5_length_10 : decode cJ5_length 10 = .ok (.ireturn, 1) := dk_172 (dk_at dksJ5_length_0 10 rfl rfl)
abbrev cJ5_getBytes : ByteArray := prog_42_method_147_code
def yJ5_getBytes : MethodName := ⟨RJ5, "getBytes", "([BIB)V"⟩
def dkwJ5_getBytes_1 : List UInt8 := [184, 0, 212, 167, 0, 18, 42, 180, 0, 9, 3, 43, 28, 42, 180, 0, 9, 190, 184, 0, 106, 177]
abbrev dktJ5_getBytes_1 : List UInt8 := dkwJ5_getBytes_1 ++ []
def dkwJ5_getBytes_0 : List UInt8 := [42, 182, 1, 79, 29, 160, 0, 23, 42, 180, 0, 9, 3, 43, 28, 29, 120, 42, 180, 0, 9, 190]
abbrev dktJ5_getBytes_0 : List UInt8 := dkwJ5_getBytes_0 ++ dktJ5_getBytes_1
theorem dksJ5_getBytes_0 : cJ5_getBytes.data.toList.drop 0 = dktJ5_getBytes_0 := by decide +kernel
theorem dksJ5_getBytes_1 : cJ5_getBytes.data.toList.drop 22 = dktJ5_getBytes_1 := dk_seg dksJ5_getBytes_0 22 rfl rfl
theorem dJ5_getBytes_0 : decode cJ5_getBytes 0 = .ok (.aload_n 0, 1) := dk_42 (dk_at dksJ5_getBytes_0 0 rfl rfl)
theorem dJ5_getBytes_1 : decode cJ5_getBytes 1 = .ok (.invokevirtual 335, 3) := dk_182 1 79 (dk_at dksJ5_getBytes_0 1 rfl rfl)
theorem dJ5_getBytes_4 : decode cJ5_getBytes 4 = .ok (.iload_n 3, 1) := dk_29 (dk_at dksJ5_getBytes_0 4 rfl rfl)
theorem dJ5_getBytes_5 : decode cJ5_getBytes 5 = .ok (.if_icmp .ne 23, 3) := dk_160 0 23 (dk_at dksJ5_getBytes_0 5 rfl rfl)
theorem dJ5_getBytes_8 : decode cJ5_getBytes 8 = .ok (.aload_n 0, 1) := dk_42 (dk_at dksJ5_getBytes_0 8 rfl rfl)
theorem dJ5_getBytes_9 : decode cJ5_getBytes 9 = .ok (.getfield 9, 3) := dk_180 0 9 (dk_at dksJ5_getBytes_0 9 rfl rfl)
theorem dJ5_getBytes_12 : decode cJ5_getBytes 12 = .ok (.iconst 0, 1) := dk_3 (dk_at dksJ5_getBytes_0 12 rfl rfl)
theorem dJ5_getBytes_13 : decode cJ5_getBytes 13 = .ok (.aload_n 1, 1) := dk_43 (dk_at dksJ5_getBytes_0 13 rfl rfl)
theorem dJ5_getBytes_14 : decode cJ5_getBytes 14 = .ok (.iload_n 2, 1) := dk_28 (dk_at dksJ5_getBytes_0 14 rfl rfl)
theorem dJ5_getBytes_15 : decode cJ5_getBytes 15 = .ok (.iload_n 3, 1) := dk_29 (dk_at dksJ5_getBytes_0 15 rfl rfl)
theorem dJ5_getBytes_16 : decode cJ5_getBytes 16 = .ok (.ishl, 1) := dk_120 (dk_at dksJ5_getBytes_0 16 rfl rfl)
theorem dJ5_getBytes_17 : decode cJ5_getBytes 17 = .ok (.aload_n 0, 1) := dk_42 (dk_at dksJ5_getBytes_0 17 rfl rfl)
theorem dJ5_getBytes_18 : decode cJ5_getBytes 18 = .ok (.getfield 9, 3) := dk_180 0 9 (dk_at dksJ5_getBytes_0 18 rfl rfl)
theorem dJ5_getBytes_21 : decode cJ5_getBytes 21 = .ok (.arraylength, 1) := dk_190 (dk_at dksJ5_getBytes_0 21 rfl rfl)
theorem dJ5_getBytes_22 : decode cJ5_getBytes 22 = .ok (.invokestatic 212, 3) := dk_184 0 212 (dk_at dksJ5_getBytes_1 0 rfl rfl)
theorem dJ5_getBytes_25 : decode cJ5_getBytes 25 = .ok (.goto 18, 3) := dk_167 0 18 (dk_at dksJ5_getBytes_1 3 rfl rfl)
theorem dJ5_getBytes_28 : decode cJ5_getBytes 28 = .ok (.aload_n 0, 1) := dk_42 (dk_at dksJ5_getBytes_1 6 rfl rfl)
theorem dJ5_getBytes_29 : decode cJ5_getBytes 29 = .ok (.getfield 9, 3) := dk_180 0 9 (dk_at dksJ5_getBytes_1 7 rfl rfl)
theorem dJ5_getBytes_32 : decode cJ5_getBytes 32 = .ok (.iconst 0, 1) := dk_3 (dk_at dksJ5_getBytes_1 10 rfl rfl)
theorem dJ5_getBytes_33 : decode cJ5_getBytes 33 = .ok (.aload_n 1, 1) := dk_43 (dk_at dksJ5_getBytes_1 11 rfl rfl)
theorem dJ5_getBytes_34 : decode cJ5_getBytes 34 = .ok (.iload_n 2, 1) := dk_28 (dk_at dksJ5_getBytes_1 12 rfl rfl)
theorem dJ5_getBytes_35 : decode cJ5_getBytes 35 = .ok (.aload_n 0, 1) := dk_42 (dk_at dksJ5_getBytes_1 13 rfl rfl)
theorem dJ5_getBytes_36 : decode cJ5_getBytes 36 = .ok (.getfield 9, 3) := dk_180 0 9 (dk_at dksJ5_getBytes_1 14 rfl rfl)
theorem dJ5_getBytes_39 : decode cJ5_getBytes 39 = .ok (.arraylength, 1) := dk_190 (dk_at dksJ5_getBytes_1 17 rfl rfl)
theorem dJ5_getBytes_40 : decode cJ5_getBytes 40 = .ok (.invokestatic 106, 3) := dk_184 0 106 (dk_at dksJ5_getBytes_1 18 rfl rfl)
theorem dJ5_getBytes_43 : decode cJ5_getBytes 43 = .ok (.return_, 1) := dk_177 (dk_at dksJ5_getBytes_1 21 rfl rfl)
abbrev cJ5_valueOf : ByteArray := prog_42_method_140_code
def yJ5_valueOf : MethodName := ⟨RJ5, "valueOf", "(I)Ljava/lang/String;"⟩
theorem dJ5_valueOf_0 : decode cJ5_valueOf 0 = .ok (.iload_n 0, 1) := by decide +kernel
theorem dJ5_valueOf_1 : decode cJ5_valueOf 1 = .ok (.invokestatic 1022, 3) := by decide +kernel
theorem dJ5_valueOf_4 : decode cJ5_valueOf 4 = .ok (.areturn, 1) := by decide +kernel
abbrev cJ5_init_3 : ByteArray := prog_42_method_151_code
def yJ5_init_3 : MethodName := ⟨RJ5, "<init>", "([BB)V"⟩
def dkwJ5_init_3_0 : List UInt8 := [42, 183, 0, 1, 42, 43, 181, 0, 9, 42, 28, 181, 0, 15, 177]
abbrev dktJ5_init_3_0 : List UInt8 := dkwJ5_init_3_0 ++ []
theorem dksJ5_init_3_0 : cJ5_init_3.data.toList.drop 0 = dktJ5_init_3_0 := by decide +kernel
theorem dJ5_init_3_0 : decode cJ5_init_3 0 = .ok (.aload_n 0, 1) := dk_42 (dk_at dksJ5_init_3_0 0 rfl rfl)
theorem dJ5_init_3_1 : decode cJ5_init_3 1 = .ok (.invokespecial 1, 3) := dk_183 0 1 (dk_at dksJ5_init_3_0 1 rfl rfl)
theorem dJ5_init_3_4 : decode cJ5_init_3 4 = .ok (.aload_n 0, 1) := dk_42 (dk_at dksJ5_init_3_0 4 rfl rfl)
theorem dJ5_init_3_5 : decode cJ5_init_3 5 = .ok (.aload_n 1, 1) := dk_43 (dk_at dksJ5_init_3_0 5 rfl rfl)
theorem dJ5_init_3_6 : decode cJ5_init_3 6 = .ok (.putfield 9, 3) := dk_181 0 9 (dk_at dksJ5_init_3_0 6 rfl rfl)
theorem dJ5_init_3_9 : decode cJ5_init_3 9 = .ok (.aload_n 0, 1) := dk_42 (dk_at dksJ5_init_3_0 9 rfl rfl)
theorem dJ5_init_3_10 : decode cJ5_init_3 10 = .ok (.iload_n 2, 1) := dk_28 (dk_at dksJ5_init_3_0 10 rfl rfl)
theorem dJ5_init_3_11 : decode cJ5_init_3 11 = .ok (.putfield 15, 3) := dk_181 0 15 (dk_at dksJ5_init_3_0 11 rfl rfl)
theorem dJ5_init_3_14 : decode cJ5_init_3 14 = .ok (.return_, 1) := dk_177 (dk_at dksJ5_init_3_0 14 rfl rfl)
theorem q135 : (Jvm.Cond.initialized "java/lang/String") ∈ lw_all := lw_g (lw_at lw_m1 11 rfl) rfl
theorem q382 : (Jvm.Cond.castable "java/lang/String" "java/lang/Comparable") ∈ lw_tbl := lw_at lw_m2 18 rfl
theorem q383 : (Jvm.Cond.selects "java/lang/String" ({ cls := "java/lang/Comparable", name := "compareTo", desc := "(Ljava/lang/Object;)I" } : Jvm.MethodName) ({ cls := "java/lang/String", name := "compareTo", desc := "(Ljava/lang/Object;)I" } : Jvm.MethodName)) ∈ lw_all := lw_g (lw_at lw_m2 19 rfl) rfl
theorem q384 : (Jvm.Cond.unhidden "java/lang/String" "compareTo" "(Ljava/lang/Object;)I") ∈ lw_tbl := lw_at lw_m2 20 rfl
theorem q385 : (Jvm.Cond.instanceMethod ({ cls := "java/lang/String", name := "compareTo", desc := "(Ljava/lang/Object;)I" } : Jvm.MethodName)) ∈ lw_all := lw_g (lw_at lw_m2 21 rfl) rfl
theorem q386 : (Jvm.Cond.publicMethod ({ cls := "java/lang/String", name := "compareTo", desc := "(Ljava/lang/Object;)I" } : Jvm.MethodName)) ∈ lw_tbl := lw_at lw_m2 22 rfl
theorem q387 : (Jvm.Cond.code ({ cls := "java/lang/String", name := "compareTo", desc := "(Ljava/lang/Object;)I" } : Jvm.MethodName) prog_42_method_162_code (2 : Nat) (Option.some Jvm.ClassFile.FieldType.int)) ∈ lw_all := lw_g (lw_at lw_m2 23 rfl) rfl
theorem q388 : (Jvm.Cond.classLink "java/lang/String" (10 : Nat) "java/lang/String") ∈ lw_all := lw_g (lw_at lw_m2 24 rfl) rfl
theorem q389 : (Jvm.Cond.methodLink "java/lang/String" (1084 : Nat) ({ cls := "java/lang/String", name := "compareTo", desc := "(Ljava/lang/String;)I" } : Jvm.MethodName)) ∈ lw_all := lw_g (lw_at lw_m2 25 rfl) rfl
theorem q390 : (Jvm.Cond.instanceMethod ({ cls := "java/lang/String", name := "compareTo", desc := "(Ljava/lang/String;)I" } : Jvm.MethodName)) ∈ lw_all := lw_g (lw_at lw_m2 26 rfl) rfl
theorem q391 : (Jvm.Cond.selects "java/lang/String" ({ cls := "java/lang/String", name := "compareTo", desc := "(Ljava/lang/String;)I" } : Jvm.MethodName) ({ cls := "java/lang/String", name := "compareTo", desc := "(Ljava/lang/String;)I" } : Jvm.MethodName)) ∈ lw_all := lw_g (lw_at lw_m2 27 rfl) rfl
theorem q392 : (Jvm.Cond.code ({ cls := "java/lang/String", name := "compareTo", desc := "(Ljava/lang/String;)I" } : Jvm.MethodName) prog_42_method_71_code (5 : Nat) (Option.some Jvm.ClassFile.FieldType.int)) ∈ lw_all := lw_g (lw_at lw_m2 28 rfl) rfl
theorem q393 : (Jvm.Cond.methodLink "java/lang/String" (335 : Nat) ({ cls := "java/lang/String", name := "coder", desc := "()B" } : Jvm.MethodName)) ∈ lw_all := lw_g (lw_at lw_m2 29 rfl) rfl
theorem q394 : (Jvm.Cond.instanceMethod ({ cls := "java/lang/String", name := "coder", desc := "()B" } : Jvm.MethodName)) ∈ lw_all := lw_g (lw_at lw_m2 30 rfl) rfl
theorem q395 : (Jvm.Cond.selects "java/lang/String" ({ cls := "java/lang/String", name := "coder", desc := "()B" } : Jvm.MethodName) ({ cls := "java/lang/String", name := "coder", desc := "()B" } : Jvm.MethodName)) ∈ lw_all := lw_g (lw_at lw_m2 31 rfl) rfl
theorem q396 : (Jvm.Cond.code ({ cls := "java/lang/String", name := "coder", desc := "()B" } : Jvm.MethodName) prog_42_method_152_code (1 : Nat) (Option.some Jvm.ClassFile.FieldType.byte)) ∈ lw_all := lw_g (lw_at lw_m2 32 rfl) rfl
theorem q397 : (Jvm.Cond.fieldLink "java/lang/String" (38 : Nat) "java/lang/String" "COMPACT_STRINGS" "Z") ∈ lw_all := lw_g (lw_at lw_m2 33 rfl) rfl
theorem q398 : (Jvm.Cond.laysStatic "java/lang/String" "COMPACT_STRINGS" "Z") ∈ lw_tbl := lw_at lw_m2 34 rfl
theorem q399 : (Jvm.Cond.methodLink "java/lang/String" (586 : Nat) ({ cls := "java/lang/StringLatin1", name := "compareTo", desc := "([B[B)I" } : Jvm.MethodName)) ∈ lw_all := lw_g (lw_at lw_m2 35 rfl) rfl
theorem q515 : (Jvm.Cond.methodLink "java/lang/String" (590 : Nat) ({ cls := "java/lang/StringUTF16", name := "compareTo", desc := "([B[B)I" } : Jvm.MethodName)) ∈ lw_all := lw_g (lw_at lw_m2 151 rfl) rfl
theorem q534 : (Jvm.Cond.methodLink "java/lang/String" (591 : Nat) ({ cls := "java/lang/StringLatin1", name := "compareToUTF16", desc := "([B[B)I" } : Jvm.MethodName)) ∈ lw_all := lw_g (lw_at lw_m2 170 rfl) rfl
theorem q545 : (Jvm.Cond.methodLink "java/lang/String" (594 : Nat) ({ cls := "java/lang/StringUTF16", name := "compareToLatin1", desc := "([B[B)I" } : Jvm.MethodName)) ∈ lw_all := lw_g (lw_at lw_m2 181 rfl) rfl
theorem q578 : (Jvm.Cond.static ({ cls := "java/lang/String", name := "checkOffset", desc := "(II)V" } : Jvm.MethodName)) ∈ lw_all := lw_g (lw_at lw_m2 214 rfl) rfl
theorem q579 : (Jvm.Cond.code ({ cls := "java/lang/String", name := "checkOffset", desc := "(II)V" } : Jvm.MethodName) prog_42_method_156_code (2 : Nat) (Option.none : Option Jvm.ClassFile.FieldType)) ∈ lw_all := lw_g (lw_at lw_m2 215 rfl) rfl
theorem q580 : (Jvm.Cond.fieldLink "java/lang/String" (1053 : Nat) "jdk/internal/util/Preconditions" "SIOOBE_FORMATTER" "Ljava/util/function/BiFunction;") ∈ lw_all := lw_g (lw_at lw_m2 216 rfl) rfl
theorem q582 : (Jvm.Cond.methodLink "java/lang/String" (1062 : Nat) ({ cls := "jdk/internal/util/Preconditions", name := "checkFromToIndex", desc := "(IIILjava/util/function/BiFunction;)I" } : Jvm.MethodName)) ∈ lw_all := lw_g (lw_at lw_m2 218 rfl) rfl
theorem q836 : (Jvm.Cond.fieldLink "java/lang/String" (1048 : Nat) "java/lang/AbstractStringBuilder" "maybeLatin1" "Z") ∈ lw_all := lw_g (lw_at lw_m3 232 rfl) rfl
theorem q860 : (Jvm.Cond.instanceMethod ({ cls := "java/lang/String", name := "hashCode", desc := "()I" } : Jvm.MethodName)) ∈ lw_all := lw_g (lw_at lw_m4 16 rfl) rfl
theorem q861 : (Jvm.Cond.selects "java/lang/String" ({ cls := "java/lang/String", name := "hashCode", desc := "()I" } : Jvm.MethodName) ({ cls := "java/lang/String", name := "hashCode", desc := "()I" } : Jvm.MethodName)) ∈ lw_all := lw_g (lw_at lw_m4 17 rfl) rfl
theorem q862 : (Jvm.Cond.code ({ cls := "java/lang/String", name := "hashCode", desc := "()I" } : Jvm.MethodName) prog_42_method_78_code (2 : Nat) (Option.some Jvm.ClassFile.FieldType.int)) ∈ lw_all := lw_g (lw_at lw_m4 18 rfl) rfl
theorem q863 : (Jvm.Cond.methodLink "java/lang/String" (492 : Nat) ({ cls := "java/lang/String", name := "isLatin1", desc := "()Z" } : Jvm.MethodName)) ∈ lw_all := lw_g (lw_at lw_m4 19 rfl) rfl
theorem q864 : (Jvm.Cond.instanceMethod ({ cls := "java/lang/String", name := "isLatin1", desc := "()Z" } : Jvm.MethodName)) ∈ lw_all := lw_g (lw_at lw_m4 20 rfl) rfl
theorem q865 : (Jvm.Cond.selects "java/lang/String" ({ cls := "java/lang/String", name := "isLatin1", desc := "()Z" } : Jvm.MethodName) ({ cls := "java/lang/String", name := "isLatin1", desc := "()Z" } : Jvm.MethodName)) ∈ lw_all := lw_g (lw_at lw_m4 21 rfl) rfl
theorem q866 : (Jvm.Cond.code ({ cls := "java/lang/String", name := "isLatin1", desc := "()Z" } : Jvm.MethodName) prog_42_method_154_code (1 : Nat) (Option.some Jvm.ClassFile.FieldType.boolean)) ∈ lw_all := lw_g (lw_at lw_m4 22 rfl) rfl
theorem q867 : (Jvm.Cond.methodLink "java/lang/String" (628 : Nat) ({ cls := "java/lang/StringLatin1", name := "hashCode", desc := "([B)I" } : Jvm.MethodName)) ∈ lw_all := lw_g (lw_at lw_m4 23 rfl) rfl
theorem q908 : (Jvm.Cond.methodLink "java/lang/String" (632 : Nat) ({ cls := "java/lang/StringUTF16", name := "hashCode", desc := "([B)I" } : Jvm.MethodName)) ∈ lw_all := lw_g (lw_at lw_m4 64 rfl) rfl
theorem q914 : (Jvm.Cond.instanceMethod ({ cls := "java/lang/String", name := "equals", desc := "(Ljava/lang/Object;)Z" } : Jvm.MethodName)) ∈ lw_all := lw_g (lw_at lw_m4 70 rfl) rfl
theorem q915 : (Jvm.Cond.selects "java/lang/String" ({ cls := "java/lang/String", name := "equals", desc := "(Ljava/lang/Object;)Z" } : Jvm.MethodName) ({ cls := "java/lang/String", name := "equals", desc := "(Ljava/lang/Object;)Z" } : Jvm.MethodName)) ∈ lw_all := lw_g (lw_at lw_m4 71 rfl) rfl
theorem q916 : (Jvm.Cond.code ({ cls := "java/lang/String", name := "equals", desc := "(Ljava/lang/Object;)Z" } : Jvm.MethodName) prog_42_method_66_code (3 : Nat) (Option.some Jvm.ClassFile.FieldType.boolean)) ∈ lw_all := lw_g (lw_at lw_m4 72 rfl) rfl
theorem q917 : (Jvm.Cond.methodLink "java/lang/String" (541 : Nat) ({ cls := "java/lang/StringLatin1", name := "equals", desc := "([B[B)Z" } : Jvm.MethodName)) ∈ lw_all := lw_g (lw_at lw_m4 73 rfl) rfl
theorem q1111 : (Jvm.Cond.selects "java/lang/String" ({ cls := "java/lang/Object", name := "getClass", desc := "()Ljava/lang/Class;" } : Jvm.MethodName) ({ cls := "java/lang/Object", name := "getClass", desc := "()Ljava/lang/Class;" } : Jvm.MethodName)) ∈ lw_all := lw_g (lw_at lw_m5 27 rfl) rfl
theorem q1717 : (Jvm.Cond.static ({ cls := "java/lang/String", name := "checkBoundsOffCount", desc := "(III)I" } : Jvm.MethodName)) ∈ lw_all := lw_g (lw_at lw_m7 153 rfl) rfl
theorem q1718 : (Jvm.Cond.code ({ cls := "java/lang/String", name := "checkBoundsOffCount", desc := "(III)I" } : Jvm.MethodName) prog_42_method_157_code (3 : Nat) (Option.some Jvm.ClassFile.FieldType.int)) ∈ lw_all := lw_g (lw_at lw_m7 154 rfl) rfl
theorem q1719 : (Jvm.Cond.methodLink "java/lang/String" (1065 : Nat) ({ cls := "jdk/internal/util/Preconditions", name := "checkFromIndexSize", desc := "(IIILjava/util/function/BiFunction;)I" } : Jvm.MethodName)) ∈ lw_all := lw_g (lw_at lw_m7 155 rfl) rfl
theorem q1732 : (Jvm.Cond.static ({ cls := "java/lang/String", name := "checkIndex", desc := "(II)V" } : Jvm.MethodName)) ∈ lw_all := lw_g (lw_at lw_m7 168 rfl) rfl
theorem q1733 : (Jvm.Cond.code ({ cls := "java/lang/String", name := "checkIndex", desc := "(II)V" } : Jvm.MethodName) prog_42_method_155_code (2 : Nat) (Option.none : Option Jvm.ClassFile.FieldType)) ∈ lw_all := lw_g (lw_at lw_m7 169 rfl) rfl
theorem q1734 : (Jvm.Cond.methodLink "java/lang/String" (1059 : Nat) ({ cls := "jdk/internal/util/Preconditions", name := "checkIndex", desc := "(IILjava/util/function/BiFunction;)I" } : Jvm.MethodName)) ∈ lw_all := lw_g (lw_at lw_m7 170 rfl) rfl
theorem q1863 : (Jvm.Cond.castable "java/lang/String" "java/lang/CharSequence") ∈ lw_tbl := lw_at lw_m8 59 rfl
theorem q1864 : (Jvm.Cond.selects "java/lang/String" ({ cls := "java/lang/CharSequence", name := "charAt", desc := "(I)C" } : Jvm.MethodName) ({ cls := "java/lang/String", name := "charAt", desc := "(I)C" } : Jvm.MethodName)) ∈ lw_all := lw_g (lw_at lw_m8 60 rfl) rfl
theorem q1865 : (Jvm.Cond.unhidden "java/lang/String" "charAt" "(I)C") ∈ lw_tbl := lw_at lw_m8 61 rfl
theorem q1866 : (Jvm.Cond.instanceMethod ({ cls := "java/lang/String", name := "charAt", desc := "(I)C" } : Jvm.MethodName)) ∈ lw_all := lw_g (lw_at lw_m8 62 rfl) rfl
theorem q1867 : (Jvm.Cond.publicMethod ({ cls := "java/lang/String", name := "charAt", desc := "(I)C" } : Jvm.MethodName)) ∈ lw_tbl := lw_at lw_m8 63 rfl
theorem q1868 : (Jvm.Cond.code ({ cls := "java/lang/String", name := "charAt", desc := "(I)C" } : Jvm.MethodName) prog_42_method_56_code (2 : Nat) (Option.some Jvm.ClassFile.FieldType.char)) ∈ lw_all := lw_g (lw_at lw_m8 64 rfl) rfl
theorem q1869 : (Jvm.Cond.methodLink "java/lang/String" (495 : Nat) ({ cls := "java/lang/StringLatin1", name := "charAt", desc := "([BI)C" } : Jvm.MethodName)) ∈ lw_all := lw_g (lw_at lw_m8 65 rfl) rfl
theorem q1873 : (Jvm.Cond.methodLink "java/lang/String" (498 : Nat) ({ cls := "java/lang/StringUTF16", name := "charAt", desc := "([BI)C" } : Jvm.MethodName)) ∈ lw_all := lw_g (lw_at lw_m8 69 rfl) rfl
theorem q1886 : (Jvm.Cond.instantiable "java/lang/String" (4 : Nat)) ∈ lw_all := lw_g (lw_at lw_m8 82 rfl) rfl
theorem q1888 : (Jvm.Cond.instanceMethod ({ cls := "java/lang/String", name := "<init>", desc := "(Ljava/lang/StringBuilder;)V" } : Jvm.MethodName)) ∈ lw_all := lw_g (lw_at lw_m8 84 rfl) rfl
theorem q1889 : (Jvm.Cond.code ({ cls := "java/lang/String", name := "<init>", desc := "(Ljava/lang/StringBuilder;)V" } : Jvm.MethodName) prog_42_method_53_code (2 : Nat) (Option.none : Option Jvm.ClassFile.FieldType)) ∈ lw_all := lw_g (lw_at lw_m8 85 rfl) rfl
theorem q1890 : (Jvm.Cond.methodLink "java/lang/String" (489 : Nat) ({ cls := "java/lang/String", name := "<init>", desc := "(Ljava/lang/AbstractStringBuilder;Ljava/lang/Void;)V" } : Jvm.MethodName)) ∈ lw_all := lw_g (lw_at lw_m8 86 rfl) rfl
theorem q1891 : (Jvm.Cond.instanceMethod ({ cls := "java/lang/String", name := "<init>", desc := "(Ljava/lang/AbstractStringBuilder;Ljava/lang/Void;)V" } : Jvm.MethodName)) ∈ lw_all := lw_g (lw_at lw_m8 87 rfl) rfl
theorem q1892 : (Jvm.Cond.code ({ cls := "java/lang/String", name := "<init>", desc := "(Ljava/lang/AbstractStringBuilder;Ljava/lang/Void;)V" } : Jvm.MethodName) prog_42_method_150_code (5 : Nat) (Option.none : Option Jvm.ClassFile.FieldType)) ∈ lw_all := lw_g (lw_at lw_m8 88 rfl) rfl
theorem q1893 : (Jvm.Cond.methodLink "java/lang/String" (1 : Nat) ({ cls := "java/lang/Object", name := "<init>", desc := "()V" } : Jvm.MethodName)) ∈ lw_all := lw_g (lw_at lw_m8 89 rfl) rfl
theorem q1894 : (Jvm.Cond.methodLink "java/lang/String" (552 : Nat) ({ cls := "java/lang/AbstractStringBuilder", name := "getValue", desc := "()[B" } : Jvm.MethodName)) ∈ lw_all := lw_g (lw_at lw_m8 90 rfl) rfl
theorem q1899 : (Jvm.Cond.methodLink "java/lang/String" (549 : Nat) ({ cls := "java/lang/AbstractStringBuilder", name := "length", desc := "()I" } : Jvm.MethodName)) ∈ lw_all := lw_g (lw_at lw_m8 95 rfl) rfl
theorem q1900 : (Jvm.Cond.methodLink "java/lang/String" (1047 : Nat) ({ cls := "java/lang/AbstractStringBuilder", name := "isLatin1", desc := "()Z" } : Jvm.MethodName)) ∈ lw_all := lw_g (lw_at lw_m8 96 rfl) rfl
theorem q1901 : (Jvm.Cond.methodLink "java/lang/String" (54 : Nat) ({ cls := "java/util/Arrays", name := "copyOfRange", desc := "([BII)[B" } : Jvm.MethodName)) ∈ lw_all := lw_g (lw_at lw_m8 97 rfl) rfl
theorem q1910 : (Jvm.Cond.methodLink "java/lang/String" (1051 : Nat) ({ cls := "java/lang/StringUTF16", name := "compress", desc := "([BII)[B" } : Jvm.MethodName)) ∈ lw_all := lw_g (lw_at lw_m8 106 rfl) rfl
theorem q1917 : (Jvm.Cond.methodLink "java/lang/String" (47 : Nat) ({ cls := "java/lang/StringUTF16", name := "coderFromArrayLen", desc := "([BI)B" } : Jvm.MethodName)) ∈ lw_all := lw_g (lw_at lw_m8 113 rfl) rfl
theorem q1920 : (Jvm.Cond.fieldLink "java/lang/String" (9 : Nat) "java/lang/String" "value" "[B") ∈ lw_all := lw_g (lw_at lw_m8 116 rfl) rfl
theorem q1921 : (Jvm.Cond.fieldLink "java/lang/String" (15 : Nat) "java/lang/String" "coder" "B") ∈ lw_all := lw_g (lw_at lw_m8 117 rfl) rfl
theorem q1922 : (Jvm.Cond.fieldLink "java/lang/String" (19 : Nat) "java/lang/String" "hash" "I") ∈ lw_all := lw_g (lw_at lw_m8 118 rfl) rfl
theorem q1923 : (Jvm.Cond.fieldLink "java/lang/String" (23 : Nat) "java/lang/String" "hashIsZero" "Z") ∈ lw_all := lw_g (lw_at lw_m8 119 rfl) rfl
theorem q1924 : (Jvm.Cond.laysFinal "java/lang/String" "java/lang/String" "value" "[B") ∈ lw_all := lw_g (lw_at lw_m8 120 rfl) rfl
theorem q1925 : (Jvm.Cond.soleField "java/lang/String" "value") ∈ lw_all := lw_g (lw_at lw_m8 121 rfl) rfl
theorem q1926 : (Jvm.Cond.laysFinal "java/lang/String" "java/lang/String" "coder" "B") ∈ lw_all := lw_g (lw_at lw_m8 122 rfl) rfl
theorem q1927 : (Jvm.Cond.soleField "java/lang/String" "coder") ∈ lw_all := lw_g (lw_at lw_m8 123 rfl) rfl
theorem q1928 : (Jvm.Cond.lays "java/lang/String" "java/lang/String" "hash" "I") ∈ lw_all := lw_g (lw_at lw_m8 124 rfl) rfl
theorem q1929 : (Jvm.Cond.soleField "java/lang/String" "hash") ∈ lw_all := lw_g (lw_at lw_m8 125 rfl) rfl
theorem q1930 : (Jvm.Cond.lays "java/lang/String" "java/lang/String" "hashIsZero" "Z") ∈ lw_all := lw_g (lw_at lw_m8 126 rfl) rfl
theorem q1931 : (Jvm.Cond.soleField "java/lang/String" "hashIsZero") ∈ lw_all := lw_g (lw_at lw_m8 127 rfl) rfl
theorem q1932 : (Jvm.Cond.superclass "java/lang/String" "java/lang/Object") ∈ lw_all := lw_g (lw_at lw_m8 128 rfl) rfl
theorem q1933 : (Jvm.Cond.selects "java/lang/String" ({ cls := "java/lang/CharSequence", name := "toString", desc := "()Ljava/lang/String;" } : Jvm.MethodName) ({ cls := "java/lang/String", name := "toString", desc := "()Ljava/lang/String;" } : Jvm.MethodName)) ∈ lw_all := lw_g (lw_at lw_m8 129 rfl) rfl
theorem q1934 : (Jvm.Cond.unhidden "java/lang/String" "toString" "()Ljava/lang/String;") ∈ lw_tbl := lw_at lw_m8 130 rfl
theorem q1935 : (Jvm.Cond.instanceMethod ({ cls := "java/lang/String", name := "toString", desc := "()Ljava/lang/String;" } : Jvm.MethodName)) ∈ lw_all := lw_g (lw_at lw_m8 131 rfl) rfl
theorem q1936 : (Jvm.Cond.publicMethod ({ cls := "java/lang/String", name := "toString", desc := "()Ljava/lang/String;" } : Jvm.MethodName)) ∈ lw_tbl := lw_at lw_m8 132 rfl
theorem q1937 : (Jvm.Cond.code ({ cls := "java/lang/String", name := "toString", desc := "()Ljava/lang/String;" } : Jvm.MethodName) prog_42_method_126_code (1 : Nat) (Option.some (Jvm.ClassFile.FieldType.object "java/lang/String"))) ∈ lw_all := lw_g (lw_at lw_m8 133 rfl) rfl
theorem q2529 : (Jvm.Cond.static ({ cls := "java/lang/String", name := "checkBoundsBeginEnd", desc := "(III)V" } : Jvm.MethodName)) ∈ lw_all := lw_g (lw_at lw_m11 5 rfl) rfl
theorem q2530 : (Jvm.Cond.code ({ cls := "java/lang/String", name := "checkBoundsBeginEnd", desc := "(III)V" } : Jvm.MethodName) prog_42_method_158_code (3 : Nat) (Option.none : Option Jvm.ClassFile.FieldType)) ∈ lw_all := lw_g (lw_at lw_m11 6 rfl) rfl
theorem q2532 : (Jvm.Cond.instanceMethod ({ cls := "java/lang/String", name := "length", desc := "()I" } : Jvm.MethodName)) ∈ lw_all := lw_g (lw_at lw_m11 8 rfl) rfl
theorem q2533 : (Jvm.Cond.selects "java/lang/String" ({ cls := "java/lang/String", name := "length", desc := "()I" } : Jvm.MethodName) ({ cls := "java/lang/String", name := "length", desc := "()I" } : Jvm.MethodName)) ∈ lw_all := lw_g (lw_at lw_m11 9 rfl) rfl
theorem q2534 : (Jvm.Cond.code ({ cls := "java/lang/String", name := "length", desc := "()I" } : Jvm.MethodName) prog_42_method_54_code (1 : Nat) (Option.some Jvm.ClassFile.FieldType.int)) ∈ lw_all := lw_g (lw_at lw_m11 10 rfl) rfl
theorem q2545 : (Jvm.Cond.instanceMethod ({ cls := "java/lang/String", name := "getBytes", desc := "([BIB)V" } : Jvm.MethodName)) ∈ lw_all := lw_g (lw_at lw_m11 21 rfl) rfl
theorem q2546 : (Jvm.Cond.selects "java/lang/String" ({ cls := "java/lang/String", name := "getBytes", desc := "([BIB)V" } : Jvm.MethodName) ({ cls := "java/lang/String", name := "getBytes", desc := "([BIB)V" } : Jvm.MethodName)) ∈ lw_all := lw_g (lw_at lw_m11 22 rfl) rfl
theorem q2547 : (Jvm.Cond.code ({ cls := "java/lang/String", name := "getBytes", desc := "([BIB)V" } : Jvm.MethodName) prog_42_method_147_code (4 : Nat) (Option.none : Option Jvm.ClassFile.FieldType)) ∈ lw_all := lw_g (lw_at lw_m11 23 rfl) rfl
theorem q2548 : (Jvm.Cond.methodLink "java/lang/String" (212 : Nat) ({ cls := "java/lang/System", name := "arraycopy", desc := "(Ljava/lang/Object;ILjava/lang/Object;II)V" } : Jvm.MethodName)) ∈ lw_all := lw_g (lw_at lw_m11 24 rfl) rfl
theorem q2549 : (Jvm.Cond.methodLink "java/lang/String" (106 : Nat) ({ cls := "java/lang/StringLatin1", name := "inflate", desc := "([BI[BII)V" } : Jvm.MethodName)) ∈ lw_all := lw_g (lw_at lw_m11 25 rfl) rfl
theorem q2555 : (Jvm.Cond.static ({ cls := "java/lang/String", name := "valueOf", desc := "(I)Ljava/lang/String;" } : Jvm.MethodName)) ∈ lw_all := lw_g (lw_at lw_m11 31 rfl) rfl
theorem q2556 : (Jvm.Cond.code ({ cls := "java/lang/String", name := "valueOf", desc := "(I)Ljava/lang/String;" } : Jvm.MethodName) prog_42_method_140_code (1 : Nat) (Option.some (Jvm.ClassFile.FieldType.object "java/lang/String"))) ∈ lw_all := lw_g (lw_at lw_m11 32 rfl) rfl
theorem q2557 : (Jvm.Cond.methodLink "java/lang/String" (1022 : Nat) ({ cls := "java/lang/Integer", name := "toString", desc := "(I)Ljava/lang/String;" } : Jvm.MethodName)) ∈ lw_all := lw_g (lw_at lw_m11 33 rfl) rfl
theorem q2573 : (Jvm.Cond.instanceMethod ({ cls := "java/lang/String", name := "<init>", desc := "([BB)V" } : Jvm.MethodName)) ∈ lw_all := lw_g (lw_at lw_m11 49 rfl) rfl
theorem q2574 : (Jvm.Cond.code ({ cls := "java/lang/String", name := "<init>", desc := "([BB)V" } : Jvm.MethodName) prog_42_method_151_code (3 : Nat) (Option.none : Option Jvm.ClassFile.FieldType)) ∈ lw_all := lw_g (lw_at lw_m11 50 rfl) rfl
theorem q2601 : (Jvm.Cond.selects "java/lang/String" ({ cls := "java/lang/CharSequence", name := "length", desc := "()I" } : Jvm.MethodName) ({ cls := "java/lang/String", name := "length", desc := "()I" } : Jvm.MethodName)) ∈ lw_all := lw_g (lw_at lw_m11 77 rfl) rfl
theorem q2602 : (Jvm.Cond.unhidden "java/lang/String" "length" "()I") ∈ lw_tbl := lw_at lw_m11 78 rfl
theorem q2603 : (Jvm.Cond.publicMethod ({ cls := "java/lang/String", name := "length", desc := "()I" } : Jvm.MethodName)) ∈ lw_tbl := lw_at lw_m11 79 rfl
theorem q3216 : (Jvm.Cond.castable "java/lang/String" "java/lang/Object") ∈ lw_tbl := lw_at lw_m13 212 rfl
theorem in_J5 : ∀ w ∈ wsJ50, w ∈ lw_all := lw_in wsJ50 [1924, 1926, 1928, 1930] (by decide +kernel) (by decide +kernel)
/-! java/lang/StringLatin1 -/
set_option maxRecDepth 100000
def RJ6 : String := "java/lang/StringLatin1"
abbrev cJ6_compareTo : ByteArray := prog_44_method_14_code
def yJ6_compareTo : MethodName := ⟨RJ6, "compareTo", "([B[B)I"⟩
def dkwJ6_compareTo_0 : List UInt8 := [42, 190, 61, 43, 190, 62, 42, 43, 28, 29, 184, 0, 34, 172]
abbrev dktJ6_compareTo_0 : List UInt8 := dkwJ6_compareTo_0 ++ []
theorem dksJ6_compareTo_0 : cJ6_compareTo.data.toList.drop 0 = dktJ6_compareTo_0 := by decide +kernel
theorem dJ6_compareTo_0 : decode cJ6_compareTo 0 = .ok (.aload_n 0, 1) := dk_42 (dk_at dksJ6_compareTo_0 0 rfl rfl)
theorem dJ6_compareTo_1 : decode cJ6_compareTo 1 = .ok (.arraylength, 1) := dk_190 (dk_at dksJ6_compareTo_0 1 rfl rfl)
theorem dJ6_compareTo_2 : decode cJ6_compareTo 2 = .ok (.istore_n 2, 1) := dk_61 (dk_at dksJ6_compareTo_0 2 rfl rfl)
theorem dJ6_compareTo_3 : decode cJ6_compareTo 3 = .ok (.aload_n 1, 1) := dk_43 (dk_at dksJ6_compareTo_0 3 rfl rfl)
theorem dJ6_compareTo_4 : decode cJ6_compareTo 4 = .ok (.arraylength, 1) := dk_190 (dk_at dksJ6_compareTo_0 4 rfl rfl)
theorem dJ6_compareTo_5 : decode cJ6_compareTo 5 = .ok (.istore_n 3, 1) := dk_62 (dk_at dksJ6_compareTo_0 5 rfl rfl)
theorem dJ6_compareTo_6 : decode cJ6_compareTo 6 = .ok (.aload_n 0, 1) := dk_42 (dk_at dksJ6_compareTo_0 6 rfl rfl)
theorem dJ6_compareTo_7 : decode cJ6_compareTo 7 = .ok (.aload_n 1, 1) := dk_43 (dk_at dksJ6_compareTo_0 7 rfl rfl)
theorem dJ6_compareTo_8 : decode cJ6_compareTo 8 = .ok (.iload_n 2, 1) := dk_28 (dk_at dksJ6_compareTo_0 8 rfl rfl)
theorem dJ6_compareTo_9 : decode cJ6_compareTo 9 = .ok (.iload_n 3, 1) := dk_29 (dk_at dksJ6_compareTo_0 9 rfl rfl)
theorem dJ6_compareTo_10 : decode cJ6_compareTo 10 = .ok (.invokestatic 34, 3) := dk_184 0 34 (dk_at dksJ6_compareTo_0 10 rfl rfl)
theorem dJ6_compareTo_13 : decode cJ6_compareTo 13 = .ok (.ireturn, 1) := dk_172 (dk_at dksJ6_compareTo_0 13 rfl rfl)
abbrev cJ6_compareTo_2 : ByteArray := prog_44_method_15_code
def yJ6_compareTo_2 : MethodName := ⟨RJ6, "compareTo", "([B[BII)I"⟩
def dkwJ6_compareTo_2_1 : List UInt8 := [167, 0, 16, 42, 21, 5, 184, 0, 50, 43, 21, 5, 184, 0, 50, 100, 172]
abbrev dktJ6_compareTo_2_1 : List UInt8 := dkwJ6_compareTo_2_1 ++ []
def dkwJ6_compareTo_2_0 : List UInt8 := [28, 29, 184, 0, 38, 54, 4, 42, 43, 21, 4, 184, 0, 44, 54, 5, 21, 5, 156, 0, 9, 28, 29, 100]
abbrev dktJ6_compareTo_2_0 : List UInt8 := dkwJ6_compareTo_2_0 ++ dktJ6_compareTo_2_1
theorem dksJ6_compareTo_2_0 : cJ6_compareTo_2.data.toList.drop 0 = dktJ6_compareTo_2_0 := by decide +kernel
theorem dksJ6_compareTo_2_1 : cJ6_compareTo_2.data.toList.drop 24 = dktJ6_compareTo_2_1 := dk_seg dksJ6_compareTo_2_0 24 rfl rfl
theorem dJ6_compareTo_2_0 : decode cJ6_compareTo_2 0 = .ok (.iload_n 2, 1) := dk_28 (dk_at dksJ6_compareTo_2_0 0 rfl rfl)
theorem dJ6_compareTo_2_1 : decode cJ6_compareTo_2 1 = .ok (.iload_n 3, 1) := dk_29 (dk_at dksJ6_compareTo_2_0 1 rfl rfl)
theorem dJ6_compareTo_2_2 : decode cJ6_compareTo_2 2 = .ok (.invokestatic 38, 3) := dk_184 0 38 (dk_at dksJ6_compareTo_2_0 2 rfl rfl)
theorem dJ6_compareTo_2_5 : decode cJ6_compareTo_2 5 = .ok (.istore 4, 2) := dk_54 4 (dk_at dksJ6_compareTo_2_0 5 rfl rfl)
theorem dJ6_compareTo_2_7 : decode cJ6_compareTo_2 7 = .ok (.aload_n 0, 1) := dk_42 (dk_at dksJ6_compareTo_2_0 7 rfl rfl)
theorem dJ6_compareTo_2_8 : decode cJ6_compareTo_2 8 = .ok (.aload_n 1, 1) := dk_43 (dk_at dksJ6_compareTo_2_0 8 rfl rfl)
theorem dJ6_compareTo_2_9 : decode cJ6_compareTo_2 9 = .ok (.iload 4, 2) := dk_21 4 (dk_at dksJ6_compareTo_2_0 9 rfl rfl)
theorem dJ6_compareTo_2_11 : decode cJ6_compareTo_2 11 = .ok (.invokestatic 44, 3) := dk_184 0 44 (dk_at dksJ6_compareTo_2_0 11 rfl rfl)
theorem dJ6_compareTo_2_14 : decode cJ6_compareTo_2 14 = .ok (.istore 5, 2) := dk_54 5 (dk_at dksJ6_compareTo_2_0 14 rfl rfl)
theorem dJ6_compareTo_2_16 : decode cJ6_compareTo_2 16 = .ok (.iload 5, 2) := dk_21 5 (dk_at dksJ6_compareTo_2_0 16 rfl rfl)
theorem dJ6_compareTo_2_18 : decode cJ6_compareTo_2 18 = .ok (.ifCond .ge 9, 3) := dk_156 0 9 (dk_at dksJ6_compareTo_2_0 18 rfl rfl)
theorem dJ6_compareTo_2_21 : decode cJ6_compareTo_2 21 = .ok (.iload_n 2, 1) := dk_28 (dk_at dksJ6_compareTo_2_0 21 rfl rfl)
theorem dJ6_compareTo_2_22 : decode cJ6_compareTo_2 22 = .ok (.iload_n 3, 1) := dk_29 (dk_at dksJ6_compareTo_2_0 22 rfl rfl)
theorem dJ6_compareTo_2_23 : decode cJ6_compareTo_2 23 = .ok (.isub, 1) := dk_100 (dk_at dksJ6_compareTo_2_0 23 rfl rfl)
theorem dJ6_compareTo_2_24 : decode cJ6_compareTo_2 24 = .ok (.goto 16, 3) := dk_167 0 16 (dk_at dksJ6_compareTo_2_1 0 rfl rfl)
theorem dJ6_compareTo_2_27 : decode cJ6_compareTo_2 27 = .ok (.aload_n 0, 1) := dk_42 (dk_at dksJ6_compareTo_2_1 3 rfl rfl)
theorem dJ6_compareTo_2_28 : decode cJ6_compareTo_2 28 = .ok (.iload 5, 2) := dk_21 5 (dk_at dksJ6_compareTo_2_1 4 rfl rfl)
theorem dJ6_compareTo_2_30 : decode cJ6_compareTo_2 30 = .ok (.invokestatic 50, 3) := dk_184 0 50 (dk_at dksJ6_compareTo_2_1 6 rfl rfl)
theorem dJ6_compareTo_2_33 : decode cJ6_compareTo_2 33 = .ok (.aload_n 1, 1) := dk_43 (dk_at dksJ6_compareTo_2_1 9 rfl rfl)
theorem dJ6_compareTo_2_34 : decode cJ6_compareTo_2 34 = .ok (.iload 5, 2) := dk_21 5 (dk_at dksJ6_compareTo_2_1 10 rfl rfl)
theorem dJ6_compareTo_2_36 : decode cJ6_compareTo_2 36 = .ok (.invokestatic 50, 3) := dk_184 0 50 (dk_at dksJ6_compareTo_2_1 12 rfl rfl)
theorem dJ6_compareTo_2_39 : decode cJ6_compareTo_2 39 = .ok (.isub, 1) := dk_100 (dk_at dksJ6_compareTo_2_1 15 rfl rfl)
theorem dJ6_compareTo_2_40 : decode cJ6_compareTo_2 40 = .ok (.ireturn, 1) := dk_172 (dk_at dksJ6_compareTo_2_1 16 rfl rfl)
abbrev cJ6_getChar : ByteArray := prog_44_method_44_code
def yJ6_getChar : MethodName := ⟨RJ6, "getChar", "([BI)C"⟩
def dkwJ6_getChar_0 : List UInt8 := [42, 27, 51, 17, 0, 255, 126, 146, 172]
abbrev dktJ6_getChar_0 : List UInt8 := dkwJ6_getChar_0 ++ []
theorem dksJ6_getChar_0 : cJ6_getChar.data.toList.drop 0 = dktJ6_getChar_0 := by decide +kernel
theorem dJ6_getChar_0 : decode cJ6_getChar 0 = .ok (.aload_n 0, 1) := dk_42 (dk_at dksJ6_getChar_0 0 rfl rfl)
theorem dJ6_getChar_1 : decode cJ6_getChar 1 = .ok (.iload_n 1, 1) := dk_27 (dk_at dksJ6_getChar_0 1 rfl rfl)
theorem dJ6_getChar_2 : decode cJ6_getChar 2 = .ok (.baload, 1) := dk_51 (dk_at dksJ6_getChar_0 2 rfl rfl)
theorem dJ6_getChar_3 : decode cJ6_getChar 3 = .ok (.sipush 255, 3) := dk_17 0 255 (dk_at dksJ6_getChar_0 3 rfl rfl)
theorem dJ6_getChar_6 : decode cJ6_getChar 6 = .ok (.iand, 1) := dk_126 (dk_at dksJ6_getChar_0 6 rfl rfl)
theorem dJ6_getChar_7 : decode cJ6_getChar 7 = .ok (.i2c, 1) := dk_146 (dk_at dksJ6_getChar_0 7 rfl rfl)
theorem dJ6_getChar_8 : decode cJ6_getChar 8 = .ok (.ireturn, 1) := dk_172 (dk_at dksJ6_getChar_0 8 rfl rfl)
abbrev cJ6_compareToUTF16 : ByteArray := prog_44_method_16_code
def yJ6_compareToUTF16 : MethodName := ⟨RJ6, "compareToUTF16", "([B[B)I"⟩
def dkwJ6_compareToUTF16_0 : List UInt8 := [42, 184, 0, 54, 61, 43, 184, 0, 58, 62, 42, 43, 28, 29, 184, 0, 59, 172]
abbrev dktJ6_compareToUTF16_0 : List UInt8 := dkwJ6_compareToUTF16_0 ++ []
theorem dksJ6_compareToUTF16_0 : cJ6_compareToUTF16.data.toList.drop 0 = dktJ6_compareToUTF16_0 := by decide +kernel
theorem dJ6_compareToUTF16_0 : decode cJ6_compareToUTF16 0 = .ok (.aload_n 0, 1) := dk_42 (dk_at dksJ6_compareToUTF16_0 0 rfl rfl)
theorem dJ6_compareToUTF16_1 : decode cJ6_compareToUTF16 1 = .ok (.invokestatic 54, 3) := dk_184 0 54 (dk_at dksJ6_compareToUTF16_0 1 rfl rfl)
theorem dJ6_compareToUTF16_4 : decode cJ6_compareToUTF16 4 = .ok (.istore_n 2, 1) := dk_61 (dk_at dksJ6_compareToUTF16_0 4 rfl rfl)
theorem dJ6_compareToUTF16_5 : decode cJ6_compareToUTF16 5 = .ok (.aload_n 1, 1) := dk_43 (dk_at dksJ6_compareToUTF16_0 5 rfl rfl)
theorem dJ6_compareToUTF16_6 : decode cJ6_compareToUTF16 6 = .ok (.invokestatic 58, 3) := dk_184 0 58 (dk_at dksJ6_compareToUTF16_0 6 rfl rfl)
theorem dJ6_compareToUTF16_9 : decode cJ6_compareToUTF16 9 = .ok (.istore_n 3, 1) := dk_62 (dk_at dksJ6_compareToUTF16_0 9 rfl rfl)
theorem dJ6_compareToUTF16_10 : decode cJ6_compareToUTF16 10 = .ok (.aload_n 0, 1) := dk_42 (dk_at dksJ6_compareToUTF16_0 10 rfl rfl)
theorem dJ6_compareToUTF16_11 : decode cJ6_compareToUTF16 11 = .ok (.aload_n 1, 1) := dk_43 (dk_at dksJ6_compareToUTF16_0 11 rfl rfl)
theorem dJ6_compareToUTF16_12 : decode cJ6_compareToUTF16 12 = .ok (.iload_n 2, 1) := dk_28 (dk_at dksJ6_compareToUTF16_0 12 rfl rfl)
theorem dJ6_compareToUTF16_13 : decode cJ6_compareToUTF16 13 = .ok (.iload_n 3, 1) := dk_29 (dk_at dksJ6_compareToUTF16_0 13 rfl rfl)
theorem dJ6_compareToUTF16_14 : decode cJ6_compareToUTF16 14 = .ok (.invokestatic 59, 3) := dk_184 0 59 (dk_at dksJ6_compareToUTF16_0 14 rfl rfl)
theorem dJ6_compareToUTF16_17 : decode cJ6_compareToUTF16 17 = .ok (.ireturn, 1) := dk_172 (dk_at dksJ6_compareToUTF16_0 17 rfl rfl)
abbrev cJ6_length : ByteArray := prog_44_method_5_code
def yJ6_length : MethodName := ⟨RJ6, "length", "([B)I"⟩
theorem dJ6_length_0 : decode cJ6_length 0 = .ok (.aload_n 0, 1) := by decide +kernel
theorem dJ6_length_1 : decode cJ6_length 1 = .ok (.arraylength, 1) := by decide +kernel
theorem dJ6_length_2 : decode cJ6_length 2 = .ok (.ireturn, 1) := by decide +kernel
abbrev cJ6_compareToUTF16Values : ByteArray := prog_44_method_18_code
def yJ6_compareToUTF16Values : MethodName := ⟨RJ6, "compareToUTF16Values", "([B[BII)I"⟩
def dkwJ6_compareToUTF16Values_2 : List UInt8 := [132, 5, 1, 167, 255, 217, 28, 29, 100, 172]
abbrev dktJ6_compareToUTF16Values_2 : List UInt8 := dkwJ6_compareToUTF16Values_2 ++ []
def dkwJ6_compareToUTF16Values_1 : List UInt8 := [54, 6, 43, 21, 5, 184, 0, 65, 54, 7, 21, 6, 21, 7, 159, 0, 9, 21, 6, 21, 7, 100, 172]
abbrev dktJ6_compareToUTF16Values_1 : List UInt8 := dkwJ6_compareToUTF16Values_1 ++ dktJ6_compareToUTF16Values_2
def dkwJ6_compareToUTF16Values_0 : List UInt8 := [28, 29, 184, 0, 38, 54, 4, 3, 54, 5, 21, 5, 21, 4, 162, 0, 38, 42, 21, 5, 184, 0, 50]
abbrev dktJ6_compareToUTF16Values_0 : List UInt8 := dkwJ6_compareToUTF16Values_0 ++ dktJ6_compareToUTF16Values_1
theorem dksJ6_compareToUTF16Values_0 : cJ6_compareToUTF16Values.data.toList.drop 0 = dktJ6_compareToUTF16Values_0 := by decide +kernel
theorem dksJ6_compareToUTF16Values_1 : cJ6_compareToUTF16Values.data.toList.drop 23 = dktJ6_compareToUTF16Values_1 := dk_seg dksJ6_compareToUTF16Values_0 23 rfl rfl
theorem dksJ6_compareToUTF16Values_2 : cJ6_compareToUTF16Values.data.toList.drop 46 = dktJ6_compareToUTF16Values_2 := dk_seg dksJ6_compareToUTF16Values_1 23 rfl rfl
theorem dJ6_compareToUTF16Values_0 : decode cJ6_compareToUTF16Values 0 = .ok (.iload_n 2, 1) := dk_28 (dk_at dksJ6_compareToUTF16Values_0 0 rfl rfl)
theorem dJ6_compareToUTF16Values_1 : decode cJ6_compareToUTF16Values 1 = .ok (.iload_n 3, 1) := dk_29 (dk_at dksJ6_compareToUTF16Values_0 1 rfl rfl)
theorem dJ6_compareToUTF16Values_2 : decode cJ6_compareToUTF16Values 2 = .ok (.invokestatic 38, 3) := dk_184 0 38 (dk_at dksJ6_compareToUTF16Values_0 2 rfl rfl)
theorem dJ6_compareToUTF16Values_5 : decode cJ6_compareToUTF16Values 5 = .ok (.istore 4, 2) := dk_54 4 (dk_at dksJ6_compareToUTF16Values_0 5 rfl rfl)
theorem dJ6_compareToUTF16Values_7 : decode cJ6_compareToUTF16Values 7 = .ok (.iconst 0, 1) := dk_3 (dk_at dksJ6_compareToUTF16Values_0 7 rfl rfl)
theorem dJ6_compareToUTF16Values_8 : decode cJ6_compareToUTF16Values 8 = .ok (.istore 5, 2) := dk_54 5 (dk_at dksJ6_compareToUTF16Values_0 8 rfl rfl)
theorem dJ6_compareToUTF16Values_10 : decode cJ6_compareToUTF16Values 10 = .ok (.iload 5, 2) := dk_21 5 (dk_at dksJ6_compareToUTF16Values_0 10 rfl rfl)
theorem dJ6_compareToUTF16Values_12 : decode cJ6_compareToUTF16Values 12 = .ok (.iload 4, 2) := dk_21 4 (dk_at dksJ6_compareToUTF16Values_0 12 rfl rfl)
theorem dJ6_compareToUTF16Values_14 : decode cJ6_compareToUTF16Values 14 = .ok (.if_icmp .ge 38, 3) := dk_162 0 38 (dk_at dksJ6_compareToUTF16Values_0 14 rfl rfl)
theorem dJ6_compareToUTF16Values_17 : decode cJ6_compareToUTF16Values 17 = .ok (.aload_n 0, 1) := dk_42 (dk_at dksJ6_compareToUTF16Values_0 17 rfl rfl)
theorem dJ6_compareToUTF16Values_18 : decode cJ6_compareToUTF16Values 18 = .ok (.iload 5, 2) := dk_21 5 (dk_at dksJ6_compareToUTF16Values_0 18 rfl rfl)
theorem dJ6_compareToUTF16Values_20 : decode cJ6_compareToUTF16Values 20 = .ok (.invokestatic 50, 3) := dk_184 0 50 (dk_at dksJ6_compareToUTF16Values_0 20 rfl rfl)
theorem dJ6_compareToUTF16Values_23 : decode cJ6_compareToUTF16Values 23 = .ok (.istore 6, 2) := dk_54 6 (dk_at dksJ6_compareToUTF16Values_1 0 rfl rfl)
theorem dJ6_compareToUTF16Values_25 : decode cJ6_compareToUTF16Values 25 = .ok (.aload_n 1, 1) := dk_43 (dk_at dksJ6_compareToUTF16Values_1 2 rfl rfl)
theorem dJ6_compareToUTF16Values_26 : decode cJ6_compareToUTF16Values 26 = .ok (.iload 5, 2) := dk_21 5 (dk_at dksJ6_compareToUTF16Values_1 3 rfl rfl)
theorem dJ6_compareToUTF16Values_28 : decode cJ6_compareToUTF16Values 28 = .ok (.invokestatic 65, 3) := dk_184 0 65 (dk_at dksJ6_compareToUTF16Values_1 5 rfl rfl)
theorem dJ6_compareToUTF16Values_31 : decode cJ6_compareToUTF16Values 31 = .ok (.istore 7, 2) := dk_54 7 (dk_at dksJ6_compareToUTF16Values_1 8 rfl rfl)
theorem dJ6_compareToUTF16Values_33 : decode cJ6_compareToUTF16Values 33 = .ok (.iload 6, 2) := dk_21 6 (dk_at dksJ6_compareToUTF16Values_1 10 rfl rfl)
theorem dJ6_compareToUTF16Values_35 : decode cJ6_compareToUTF16Values 35 = .ok (.iload 7, 2) := dk_21 7 (dk_at dksJ6_compareToUTF16Values_1 12 rfl rfl)
theorem dJ6_compareToUTF16Values_37 : decode cJ6_compareToUTF16Values 37 = .ok (.if_icmp .eq 9, 3) := dk_159 0 9 (dk_at dksJ6_compareToUTF16Values_1 14 rfl rfl)
theorem dJ6_compareToUTF16Values_40 : decode cJ6_compareToUTF16Values 40 = .ok (.iload 6, 2) := dk_21 6 (dk_at dksJ6_compareToUTF16Values_1 17 rfl rfl)
theorem dJ6_compareToUTF16Values_42 : decode cJ6_compareToUTF16Values 42 = .ok (.iload 7, 2) := dk_21 7 (dk_at dksJ6_compareToUTF16Values_1 19 rfl rfl)
theorem dJ6_compareToUTF16Values_44 : decode cJ6_compareToUTF16Values 44 = .ok (.isub, 1) := dk_100 (dk_at dksJ6_compareToUTF16Values_1 21 rfl rfl)
theorem dJ6_compareToUTF16Values_45 : decode cJ6_compareToUTF16Values 45 = .ok (.ireturn, 1) := dk_172 (dk_at dksJ6_compareToUTF16Values_1 22 rfl rfl)
theorem dJ6_compareToUTF16Values_46 : decode cJ6_compareToUTF16Values 46 = .ok (.iinc 5 1, 3) := dk_132 5 1 (dk_at dksJ6_compareToUTF16Values_2 0 rfl rfl)
theorem dJ6_compareToUTF16Values_49 : decode cJ6_compareToUTF16Values 49 = .ok (.goto (-39), 3) := dk_167 255 217 (dk_at dksJ6_compareToUTF16Values_2 3 rfl rfl)
theorem dJ6_compareToUTF16Values_52 : decode cJ6_compareToUTF16Values 52 = .ok (.iload_n 2, 1) := dk_28 (dk_at dksJ6_compareToUTF16Values_2 6 rfl rfl)
theorem dJ6_compareToUTF16Values_53 : decode cJ6_compareToUTF16Values 53 = .ok (.iload_n 3, 1) := dk_29 (dk_at dksJ6_compareToUTF16Values_2 7 rfl rfl)
theorem dJ6_compareToUTF16Values_54 : decode cJ6_compareToUTF16Values 54 = .ok (.isub, 1) := dk_100 (dk_at dksJ6_compareToUTF16Values_2 8 rfl rfl)
theorem dJ6_compareToUTF16Values_55 : decode cJ6_compareToUTF16Values 55 = .ok (.ireturn, 1) := dk_172 (dk_at dksJ6_compareToUTF16Values_2 9 rfl rfl)
abbrev cJ6_compareToUTF16_2 : ByteArray := prog_44_method_17_code
def yJ6_compareToUTF16_2 : MethodName := ⟨RJ6, "compareToUTF16", "([B[BII)I"⟩
def dkwJ6_compareToUTF16_2_0 : List UInt8 := [28, 42, 184, 0, 54, 184, 0, 62, 29, 43, 184, 0, 58, 184, 0, 62, 42, 43, 28, 29, 184, 0, 59, 172]
abbrev dktJ6_compareToUTF16_2_0 : List UInt8 := dkwJ6_compareToUTF16_2_0 ++ []
theorem dksJ6_compareToUTF16_2_0 : cJ6_compareToUTF16_2.data.toList.drop 0 = dktJ6_compareToUTF16_2_0 := by decide +kernel
theorem dJ6_compareToUTF16_2_0 : decode cJ6_compareToUTF16_2 0 = .ok (.iload_n 2, 1) := dk_28 (dk_at dksJ6_compareToUTF16_2_0 0 rfl rfl)
theorem dJ6_compareToUTF16_2_1 : decode cJ6_compareToUTF16_2 1 = .ok (.aload_n 0, 1) := dk_42 (dk_at dksJ6_compareToUTF16_2_0 1 rfl rfl)
theorem dJ6_compareToUTF16_2_2 : decode cJ6_compareToUTF16_2 2 = .ok (.invokestatic 54, 3) := dk_184 0 54 (dk_at dksJ6_compareToUTF16_2_0 2 rfl rfl)
theorem dJ6_compareToUTF16_2_5 : decode cJ6_compareToUTF16_2 5 = .ok (.invokestatic 62, 3) := dk_184 0 62 (dk_at dksJ6_compareToUTF16_2_0 5 rfl rfl)
theorem dJ6_compareToUTF16_2_8 : decode cJ6_compareToUTF16_2 8 = .ok (.iload_n 3, 1) := dk_29 (dk_at dksJ6_compareToUTF16_2_0 8 rfl rfl)
theorem dJ6_compareToUTF16_2_9 : decode cJ6_compareToUTF16_2 9 = .ok (.aload_n 1, 1) := dk_43 (dk_at dksJ6_compareToUTF16_2_0 9 rfl rfl)
theorem dJ6_compareToUTF16_2_10 : decode cJ6_compareToUTF16_2 10 = .ok (.invokestatic 58, 3) := dk_184 0 58 (dk_at dksJ6_compareToUTF16_2_0 10 rfl rfl)
theorem dJ6_compareToUTF16_2_13 : decode cJ6_compareToUTF16_2 13 = .ok (.invokestatic 62, 3) := dk_184 0 62 (dk_at dksJ6_compareToUTF16_2_0 13 rfl rfl)
theorem dJ6_compareToUTF16_2_16 : decode cJ6_compareToUTF16_2 16 = .ok (.aload_n 0, 1) := dk_42 (dk_at dksJ6_compareToUTF16_2_0 16 rfl rfl)
theorem dJ6_compareToUTF16_2_17 : decode cJ6_compareToUTF16_2 17 = .ok (.aload_n 1, 1) := dk_43 (dk_at dksJ6_compareToUTF16_2_0 17 rfl rfl)
theorem dJ6_compareToUTF16_2_18 : decode cJ6_compareToUTF16_2 18 = .ok (.iload_n 2, 1) := dk_28 (dk_at dksJ6_compareToUTF16_2_0 18 rfl rfl)
theorem dJ6_compareToUTF16_2_19 : decode cJ6_compareToUTF16_2 19 = .ok (.iload_n 3, 1) := dk_29 (dk_at dksJ6_compareToUTF16_2_0 19 rfl rfl)
theorem dJ6_compareToUTF16_2_20 : decode cJ6_compareToUTF16_2 20 = .ok (.invokestatic 59, 3) := dk_184 0 59 (dk_at dksJ6_compareToUTF16_2_0 20 rfl rfl)
theorem dJ6_compareToUTF16_2_23 : decode cJ6_compareToUTF16_2 23 = .ok (.ireturn, 1) := dk_172 (dk_at dksJ6_compareToUTF16_2_0 23 rfl rfl)
abbrev cJ6_hashCode : ByteArray := prog_44_method_21_code
def yJ6_hashCode : MethodName := ⟨RJ6, "hashCode", "([B)I"⟩
def dkwJ6_hashCode_2 : List UInt8 := [3, 167, 0, 22, 42, 3, 51, 17, 0, 255, 126, 167, 0, 12, 42, 3, 42, 190, 3, 7, 184, 0, 84, 172]
abbrev dktJ6_hashCode_2 : List UInt8 := dkwJ6_hashCode_2 ++ []
def dkwJ6_hashCode_1 : List UInt8 := [171, 0, 0, 0, 0, 40, 0, 0, 0, 2, 0, 0, 0, 0, 0, 0, 0, 26, 0, 0, 0, 1, 0, 0, 0, 30]
abbrev dktJ6_hashCode_1 : List UInt8 := dkwJ6_hashCode_1 ++ dktJ6_hashCode_2
def dkwJ6_hashCode_0 : List UInt8 := [42, 190]
abbrev dktJ6_hashCode_0 : List UInt8 := dkwJ6_hashCode_0 ++ dktJ6_hashCode_1
theorem dksJ6_hashCode_0 : cJ6_hashCode.data.toList.drop 0 = dktJ6_hashCode_0 := by decide +kernel
theorem dksJ6_hashCode_1 : cJ6_hashCode.data.toList.drop 2 = dktJ6_hashCode_1 := dk_seg dksJ6_hashCode_0 2 rfl rfl
theorem dksJ6_hashCode_2 : cJ6_hashCode.data.toList.drop 28 = dktJ6_hashCode_2 := dk_seg dksJ6_hashCode_1 26 rfl rfl
theorem dJ6_hashCode_0 : decode cJ6_hashCode 0 = .ok (.aload_n 0, 1) := dk_42 (dk_at dksJ6_hashCode_0 0 rfl rfl)
theorem dJ6_hashCode_1 : decode cJ6_hashCode 1 = .ok (.arraylength, 1) := dk_190 (dk_at dksJ6_hashCode_0 1 rfl rfl)
theorem dJ6_hashCode_2 : decode cJ6_hashCode 2 = .ok (.lookupswitch 40 #[(0, 26), (1, 30)], 26) := by decide +kernel
theorem dJ6_hashCode_28 : decode cJ6_hashCode 28 = .ok (.iconst 0, 1) := dk_3 (dk_at dksJ6_hashCode_2 0 rfl rfl)
theorem dJ6_hashCode_29 : decode cJ6_hashCode 29 = .ok (.goto 22, 3) := dk_167 0 22 (dk_at dksJ6_hashCode_2 1 rfl rfl)
theorem dJ6_hashCode_32 : decode cJ6_hashCode 32 = .ok (.aload_n 0, 1) := dk_42 (dk_at dksJ6_hashCode_2 4 rfl rfl)
theorem dJ6_hashCode_33 : decode cJ6_hashCode 33 = .ok (.iconst 0, 1) := dk_3 (dk_at dksJ6_hashCode_2 5 rfl rfl)
theorem dJ6_hashCode_34 : decode cJ6_hashCode 34 = .ok (.baload, 1) := dk_51 (dk_at dksJ6_hashCode_2 6 rfl rfl)
theorem dJ6_hashCode_35 : decode cJ6_hashCode 35 = .ok (.sipush 255, 3) := dk_17 0 255 (dk_at dksJ6_hashCode_2 7 rfl rfl)
theorem dJ6_hashCode_38 : decode cJ6_hashCode 38 = .ok (.iand, 1) := dk_126 (dk_at dksJ6_hashCode_2 10 rfl rfl)
theorem dJ6_hashCode_39 : decode cJ6_hashCode 39 = .ok (.goto 12, 3) := dk_167 0 12 (dk_at dksJ6_hashCode_2 11 rfl rfl)
theorem dJ6_hashCode_42 : decode cJ6_hashCode 42 = .ok (.aload_n 0, 1) := dk_42 (dk_at dksJ6_hashCode_2 14 rfl rfl)
theorem dJ6_hashCode_43 : decode cJ6_hashCode 43 = .ok (.iconst 0, 1) := dk_3 (dk_at dksJ6_hashCode_2 15 rfl rfl)
theorem dJ6_hashCode_44 : decode cJ6_hashCode 44 = .ok (.aload_n 0, 1) := dk_42 (dk_at dksJ6_hashCode_2 16 rfl rfl)
theorem dJ6_hashCode_45 : decode cJ6_hashCode 45 = .ok (.arraylength, 1) := dk_190 (dk_at dksJ6_hashCode_2 17 rfl rfl)
theorem dJ6_hashCode_46 : decode cJ6_hashCode 46 = .ok (.iconst 0, 1) := dk_3 (dk_at dksJ6_hashCode_2 18 rfl rfl)
theorem dJ6_hashCode_47 : decode cJ6_hashCode 47 = .ok (.iconst 4, 1) := dk_7 (dk_at dksJ6_hashCode_2 19 rfl rfl)
theorem dJ6_hashCode_48 : decode cJ6_hashCode 48 = .ok (.invokestatic 84, 3) := dk_184 0 84 (dk_at dksJ6_hashCode_2 20 rfl rfl)
theorem dJ6_hashCode_51 : decode cJ6_hashCode 51 = .ok (.ireturn, 1) := dk_172 (dk_at dksJ6_hashCode_2 23 rfl rfl)
abbrev cJ6_equals : ByteArray := prog_44_method_13_code
def yJ6_equals : MethodName := ⟨RJ6, "equals", "([B[B)Z"⟩
def dkwJ6_equals_1 : List UInt8 := [3, 172, 132, 2, 1, 167, 255, 236, 4, 172, 3, 172]
abbrev dktJ6_equals_1 : List UInt8 := dkwJ6_equals_1 ++ []
def dkwJ6_equals_0 : List UInt8 := [42, 190, 43, 190, 160, 0, 30, 3, 61, 28, 42, 190, 162, 0, 20, 42, 28, 51, 43, 28, 51, 159, 0, 5]
abbrev dktJ6_equals_0 : List UInt8 := dkwJ6_equals_0 ++ dktJ6_equals_1
theorem dksJ6_equals_0 : cJ6_equals.data.toList.drop 0 = dktJ6_equals_0 := by decide +kernel
theorem dksJ6_equals_1 : cJ6_equals.data.toList.drop 24 = dktJ6_equals_1 := dk_seg dksJ6_equals_0 24 rfl rfl
theorem dJ6_equals_0 : decode cJ6_equals 0 = .ok (.aload_n 0, 1) := dk_42 (dk_at dksJ6_equals_0 0 rfl rfl)
theorem dJ6_equals_1 : decode cJ6_equals 1 = .ok (.arraylength, 1) := dk_190 (dk_at dksJ6_equals_0 1 rfl rfl)
theorem dJ6_equals_2 : decode cJ6_equals 2 = .ok (.aload_n 1, 1) := dk_43 (dk_at dksJ6_equals_0 2 rfl rfl)
theorem dJ6_equals_3 : decode cJ6_equals 3 = .ok (.arraylength, 1) := dk_190 (dk_at dksJ6_equals_0 3 rfl rfl)
theorem dJ6_equals_4 : decode cJ6_equals 4 = .ok (.if_icmp .ne 30, 3) := dk_160 0 30 (dk_at dksJ6_equals_0 4 rfl rfl)
theorem dJ6_equals_7 : decode cJ6_equals 7 = .ok (.iconst 0, 1) := dk_3 (dk_at dksJ6_equals_0 7 rfl rfl)
theorem dJ6_equals_8 : decode cJ6_equals 8 = .ok (.istore_n 2, 1) := dk_61 (dk_at dksJ6_equals_0 8 rfl rfl)
theorem dJ6_equals_9 : decode cJ6_equals 9 = .ok (.iload_n 2, 1) := dk_28 (dk_at dksJ6_equals_0 9 rfl rfl)
theorem dJ6_equals_10 : decode cJ6_equals 10 = .ok (.aload_n 0, 1) := dk_42 (dk_at dksJ6_equals_0 10 rfl rfl)
theorem dJ6_equals_11 : decode cJ6_equals 11 = .ok (.arraylength, 1) := dk_190 (dk_at dksJ6_equals_0 11 rfl rfl)
theorem dJ6_equals_12 : decode cJ6_equals 12 = .ok (.if_icmp .ge 20, 3) := dk_162 0 20 (dk_at dksJ6_equals_0 12 rfl rfl)
theorem dJ6_equals_15 : decode cJ6_equals 15 = .ok (.aload_n 0, 1) := dk_42 (dk_at dksJ6_equals_0 15 rfl rfl)
theorem dJ6_equals_16 : decode cJ6_equals 16 = .ok (.iload_n 2, 1) := dk_28 (dk_at dksJ6_equals_0 16 rfl rfl)
theorem dJ6_equals_17 : decode cJ6_equals 17 = .ok (.baload, 1) := dk_51 (dk_at dksJ6_equals_0 17 rfl rfl)
theorem dJ6_equals_18 : decode cJ6_equals 18 = .ok (.aload_n 1, 1) := dk_43 (dk_at dksJ6_equals_0 18 rfl rfl)
theorem dJ6_equals_19 : decode cJ6_equals 19 = .ok (.iload_n 2, 1) := dk_28 (dk_at dksJ6_equals_0 19 rfl rfl)
theorem dJ6_equals_20 : decode cJ6_equals 20 = .ok (.baload, 1) := dk_51 (dk_at dksJ6_equals_0 20 rfl rfl)
theorem dJ6_equals_21 : decode cJ6_equals 21 = .ok (.if_icmp .eq 5, 3) := dk_159 0 5 (dk_at dksJ6_equals_0 21 rfl rfl)
theorem dJ6_equals_24 : decode cJ6_equals 24 = .ok (.iconst 0, 1) := dk_3 (dk_at dksJ6_equals_1 0 rfl rfl)
theorem dJ6_equals_25 : decode cJ6_equals 25 = .ok (.ireturn, 1) := dk_172 (dk_at dksJ6_equals_1 1 rfl rfl)
theorem dJ6_equals_26 : decode cJ6_equals 26 = .ok (.iinc 2 1, 3) := dk_132 2 1 (dk_at dksJ6_equals_1 2 rfl rfl)
theorem dJ6_equals_29 : decode cJ6_equals 29 = .ok (.goto (-20), 3) := dk_167 255 236 (dk_at dksJ6_equals_1 5 rfl rfl)
theorem dJ6_equals_32 : decode cJ6_equals 32 = .ok (.iconst 1, 1) := dk_4 (dk_at dksJ6_equals_1 8 rfl rfl)
theorem dJ6_equals_33 : decode cJ6_equals 33 = .ok (.ireturn, 1) := dk_172 (dk_at dksJ6_equals_1 9 rfl rfl)
theorem dJ6_equals_34 : decode cJ6_equals 34 = .ok (.iconst 0, 1) := dk_3 (dk_at dksJ6_equals_1 10 rfl rfl)
theorem dJ6_equals_35 : decode cJ6_equals 35 = .ok (.ireturn, 1) := dk_172 (dk_at dksJ6_equals_1 11 rfl rfl)
abbrev cJ6_canEncode : ByteArray := prog_44_method_3_code
def yJ6_canEncode : MethodName := ⟨RJ6, "canEncode", "(C)Z"⟩
def dkwJ6_canEncode_0 : List UInt8 := [26, 17, 0, 255, 163, 0, 7, 4, 167, 0, 4, 3, 172]
abbrev dktJ6_canEncode_0 : List UInt8 := dkwJ6_canEncode_0 ++ []
theorem dksJ6_canEncode_0 : cJ6_canEncode.data.toList.drop 0 = dktJ6_canEncode_0 := by decide +kernel
theorem dJ6_canEncode_0 : decode cJ6_canEncode 0 = .ok (.iload_n 0, 1) := dk_26 (dk_at dksJ6_canEncode_0 0 rfl rfl)
theorem dJ6_canEncode_1 : decode cJ6_canEncode 1 = .ok (.sipush 255, 3) := dk_17 0 255 (dk_at dksJ6_canEncode_0 1 rfl rfl)
theorem dJ6_canEncode_4 : decode cJ6_canEncode 4 = .ok (.if_icmp .gt 7, 3) := dk_163 0 7 (dk_at dksJ6_canEncode_0 4 rfl rfl)
theorem dJ6_canEncode_7 : decode cJ6_canEncode 7 = .ok (.iconst 1, 1) := dk_4 (dk_at dksJ6_canEncode_0 7 rfl rfl)
theorem dJ6_canEncode_8 : decode cJ6_canEncode 8 = .ok (.goto 4, 3) := dk_167 0 4 (dk_at dksJ6_canEncode_0 8 rfl rfl)
theorem dJ6_canEncode_11 : decode cJ6_canEncode 11 = .ok (.iconst 0, 1) := dk_3 (dk_at dksJ6_canEncode_0 11 rfl rfl)
theorem dJ6_canEncode_12 : decode cJ6_canEncode 12 = .ok (.ireturn, 1) := dk_172 (dk_at dksJ6_canEncode_0 12 rfl rfl)
abbrev cJ6_inflate : ByteArray := prog_44_method_50_code
def yJ6_inflate : MethodName := ⟨RJ6, "inflate", "([BI[BII)V"⟩
def dkwJ6_inflate_0 : List UInt8 := [42, 27, 44, 29, 21, 4, 184, 0, 240, 177]
abbrev dktJ6_inflate_0 : List UInt8 := dkwJ6_inflate_0 ++ []
theorem dksJ6_inflate_0 : cJ6_inflate.data.toList.drop 0 = dktJ6_inflate_0 := by decide +kernel
theorem dJ6_inflate_0 : decode cJ6_inflate 0 = .ok (.aload_n 0, 1) := dk_42 (dk_at dksJ6_inflate_0 0 rfl rfl)
theorem dJ6_inflate_1 : decode cJ6_inflate 1 = .ok (.iload_n 1, 1) := dk_27 (dk_at dksJ6_inflate_0 1 rfl rfl)
theorem dJ6_inflate_2 : decode cJ6_inflate 2 = .ok (.aload_n 2, 1) := dk_44 (dk_at dksJ6_inflate_0 2 rfl rfl)
theorem dJ6_inflate_3 : decode cJ6_inflate 3 = .ok (.iload_n 3, 1) := dk_29 (dk_at dksJ6_inflate_0 3 rfl rfl)
theorem dJ6_inflate_4 : decode cJ6_inflate 4 = .ok (.iload 4, 2) := dk_21 4 (dk_at dksJ6_inflate_0 4 rfl rfl)
theorem dJ6_inflate_6 : decode cJ6_inflate 6 = .ok (.invokestatic 240, 3) := dk_184 0 240 (dk_at dksJ6_inflate_0 6 rfl rfl)
theorem dJ6_inflate_9 : decode cJ6_inflate 9 = .ok (.return_, 1) := dk_177 (dk_at dksJ6_inflate_0 9 rfl rfl)
abbrev cJ6_fillNull : ByteArray := prog_44_method_48_code
def yJ6_fillNull : MethodName := ⟨RJ6, "fillNull", "([BII)V"⟩
def dkwJ6_fillNull_0 : List UInt8 := [42, 27, 28, 3, 184, 0, 236, 177]
abbrev dktJ6_fillNull_0 : List UInt8 := dkwJ6_fillNull_0 ++ []
theorem dksJ6_fillNull_0 : cJ6_fillNull.data.toList.drop 0 = dktJ6_fillNull_0 := by decide +kernel
theorem dJ6_fillNull_0 : decode cJ6_fillNull 0 = .ok (.aload_n 0, 1) := dk_42 (dk_at dksJ6_fillNull_0 0 rfl rfl)
theorem dJ6_fillNull_1 : decode cJ6_fillNull 1 = .ok (.iload_n 1, 1) := dk_27 (dk_at dksJ6_fillNull_0 1 rfl rfl)
theorem dJ6_fillNull_2 : decode cJ6_fillNull 2 = .ok (.iload_n 2, 1) := dk_28 (dk_at dksJ6_fillNull_0 2 rfl rfl)
theorem dJ6_fillNull_3 : decode cJ6_fillNull 3 = .ok (.iconst 0, 1) := dk_3 (dk_at dksJ6_fillNull_0 3 rfl rfl)
theorem dJ6_fillNull_4 : decode cJ6_fillNull 4 = .ok (.invokestatic 236, 3) := dk_184 0 236 (dk_at dksJ6_fillNull_0 4 rfl rfl)
theorem dJ6_fillNull_7 : decode cJ6_fillNull 7 = .ok (.return_, 1) := dk_177 (dk_at dksJ6_fillNull_0 7 rfl rfl)
abbrev cJ6_charAt : ByteArray := prog_44_method_2_code
def yJ6_charAt : MethodName := ⟨RJ6, "charAt", "([BI)C"⟩
def dkwJ6_charAt_0 : List UInt8 := [27, 42, 190, 184, 0, 9, 42, 27, 51, 17, 0, 255, 126, 146, 172]
abbrev dktJ6_charAt_0 : List UInt8 := dkwJ6_charAt_0 ++ []
theorem dksJ6_charAt_0 : cJ6_charAt.data.toList.drop 0 = dktJ6_charAt_0 := by decide +kernel
theorem dJ6_charAt_0 : decode cJ6_charAt 0 = .ok (.iload_n 1, 1) := dk_27 (dk_at dksJ6_charAt_0 0 rfl rfl)
theorem dJ6_charAt_1 : decode cJ6_charAt 1 = .ok (.aload_n 0, 1) := dk_42 (dk_at dksJ6_charAt_0 1 rfl rfl)
theorem dJ6_charAt_2 : decode cJ6_charAt 2 = .ok (.arraylength, 1) := dk_190 (dk_at dksJ6_charAt_0 2 rfl rfl)
theorem dJ6_charAt_3 : decode cJ6_charAt 3 = .ok (.invokestatic 9, 3) := dk_184 0 9 (dk_at dksJ6_charAt_0 3 rfl rfl)
theorem dJ6_charAt_6 : decode cJ6_charAt 6 = .ok (.aload_n 0, 1) := dk_42 (dk_at dksJ6_charAt_0 6 rfl rfl)
theorem dJ6_charAt_7 : decode cJ6_charAt 7 = .ok (.iload_n 1, 1) := dk_27 (dk_at dksJ6_charAt_0 7 rfl rfl)
theorem dJ6_charAt_8 : decode cJ6_charAt 8 = .ok (.baload, 1) := dk_51 (dk_at dksJ6_charAt_0 8 rfl rfl)
theorem dJ6_charAt_9 : decode cJ6_charAt 9 = .ok (.sipush 255, 3) := dk_17 0 255 (dk_at dksJ6_charAt_0 9 rfl rfl)
theorem dJ6_charAt_12 : decode cJ6_charAt 12 = .ok (.iand, 1) := dk_126 (dk_at dksJ6_charAt_0 12 rfl rfl)
theorem dJ6_charAt_13 : decode cJ6_charAt 13 = .ok (.i2c, 1) := dk_146 (dk_at dksJ6_charAt_0 13 rfl rfl)
theorem dJ6_charAt_14 : decode cJ6_charAt 14 = .ok (.ireturn, 1) := dk_172 (dk_at dksJ6_charAt_0 14 rfl rfl)
theorem q136 : (Jvm.Cond.initialized "java/lang/StringLatin1") ∈ lw_all := lw_g (lw_at lw_m1 12 rfl) rfl
theorem q400 : (Jvm.Cond.static ({ cls := "java/lang/StringLatin1", name := "compareTo", desc := "([B[B)I" } : Jvm.MethodName)) ∈ lw_all := lw_g (lw_at lw_m2 36 rfl) rfl
theorem q401 : (Jvm.Cond.code ({ cls := "java/lang/StringLatin1", name := "compareTo", desc := "([B[B)I" } : Jvm.MethodName) prog_44_method_14_code (4 : Nat) (Option.some Jvm.ClassFile.FieldType.int)) ∈ lw_all := lw_g (lw_at lw_m2 37 rfl) rfl
theorem q402 : (Jvm.Cond.methodLink "java/lang/StringLatin1" (34 : Nat) ({ cls := "java/lang/StringLatin1", name := "compareTo", desc := "([B[BII)I" } : Jvm.MethodName)) ∈ lw_all := lw_g (lw_at lw_m2 38 rfl) rfl
theorem q403 : (Jvm.Cond.static ({ cls := "java/lang/StringLatin1", name := "compareTo", desc := "([B[BII)I" } : Jvm.MethodName)) ∈ lw_all := lw_g (lw_at lw_m2 39 rfl) rfl
theorem q404 : (Jvm.Cond.code ({ cls := "java/lang/StringLatin1", name := "compareTo", desc := "([B[BII)I" } : Jvm.MethodName) prog_44_method_15_code (6 : Nat) (Option.some Jvm.ClassFile.FieldType.int)) ∈ lw_all := lw_g (lw_at lw_m2 40 rfl) rfl
theorem q405 : (Jvm.Cond.methodLink "java/lang/StringLatin1" (38 : Nat) ({ cls := "java/lang/Math", name := "min", desc := "(II)I" } : Jvm.MethodName)) ∈ lw_all := lw_g (lw_at lw_m2 41 rfl) rfl
theorem q408 : (Jvm.Cond.methodLink "java/lang/StringLatin1" (44 : Nat) ({ cls := "jdk/internal/util/ArraysSupport", name := "mismatch", desc := "([B[BI)I" } : Jvm.MethodName)) ∈ lw_all := lw_g (lw_at lw_m2 44 rfl) rfl
theorem q512 : (Jvm.Cond.methodLink "java/lang/StringLatin1" (50 : Nat) ({ cls := "java/lang/StringLatin1", name := "getChar", desc := "([BI)C" } : Jvm.MethodName)) ∈ lw_all := lw_g (lw_at lw_m2 148 rfl) rfl
theorem q513 : (Jvm.Cond.static ({ cls := "java/lang/StringLatin1", name := "getChar", desc := "([BI)C" } : Jvm.MethodName)) ∈ lw_all := lw_g (lw_at lw_m2 149 rfl) rfl
theorem q514 : (Jvm.Cond.code ({ cls := "java/lang/StringLatin1", name := "getChar", desc := "([BI)C" } : Jvm.MethodName) prog_44_method_44_code (2 : Nat) (Option.some Jvm.ClassFile.FieldType.char)) ∈ lw_all := lw_g (lw_at lw_m2 150 rfl) rfl
theorem q535 : (Jvm.Cond.static ({ cls := "java/lang/StringLatin1", name := "compareToUTF16", desc := "([B[B)I" } : Jvm.MethodName)) ∈ lw_all := lw_g (lw_at lw_m2 171 rfl) rfl
theorem q536 : (Jvm.Cond.code ({ cls := "java/lang/StringLatin1", name := "compareToUTF16", desc := "([B[B)I" } : Jvm.MethodName) prog_44_method_16_code (4 : Nat) (Option.some Jvm.ClassFile.FieldType.int)) ∈ lw_all := lw_g (lw_at lw_m2 172 rfl) rfl
theorem q537 : (Jvm.Cond.methodLink "java/lang/StringLatin1" (54 : Nat) ({ cls := "java/lang/StringLatin1", name := "length", desc := "([B)I" } : Jvm.MethodName)) ∈ lw_all := lw_g (lw_at lw_m2 173 rfl) rfl
theorem q538 : (Jvm.Cond.static ({ cls := "java/lang/StringLatin1", name := "length", desc := "([B)I" } : Jvm.MethodName)) ∈ lw_all := lw_g (lw_at lw_m2 174 rfl) rfl
theorem q539 : (Jvm.Cond.code ({ cls := "java/lang/StringLatin1", name := "length", desc := "([B)I" } : Jvm.MethodName) prog_44_method_5_code (1 : Nat) (Option.some Jvm.ClassFile.FieldType.int)) ∈ lw_all := lw_g (lw_at lw_m2 175 rfl) rfl
theorem q540 : (Jvm.Cond.methodLink "java/lang/StringLatin1" (58 : Nat) ({ cls := "java/lang/StringUTF16", name := "length", desc := "([B)I" } : Jvm.MethodName)) ∈ lw_all := lw_g (lw_at lw_m2 176 rfl) rfl
theorem q541 : (Jvm.Cond.methodLink "java/lang/StringLatin1" (59 : Nat) ({ cls := "java/lang/StringLatin1", name := "compareToUTF16Values", desc := "([B[BII)I" } : Jvm.MethodName)) ∈ lw_all := lw_g (lw_at lw_m2 177 rfl) rfl
theorem q542 : (Jvm.Cond.static ({ cls := "java/lang/StringLatin1", name := "compareToUTF16Values", desc := "([B[BII)I" } : Jvm.MethodName)) ∈ lw_all := lw_g (lw_at lw_m2 178 rfl) rfl
theorem q543 : (Jvm.Cond.code ({ cls := "java/lang/StringLatin1", name := "compareToUTF16Values", desc := "([B[BII)I" } : Jvm.MethodName) prog_44_method_18_code (8 : Nat) (Option.some Jvm.ClassFile.FieldType.int)) ∈ lw_all := lw_g (lw_at lw_m2 179 rfl) rfl
theorem q544 : (Jvm.Cond.methodLink "java/lang/StringLatin1" (65 : Nat) ({ cls := "java/lang/StringUTF16", name := "getChar", desc := "([BI)C" } : Jvm.MethodName)) ∈ lw_all := lw_g (lw_at lw_m2 180 rfl) rfl
theorem q586 : (Jvm.Cond.static ({ cls := "java/lang/StringLatin1", name := "compareToUTF16", desc := "([B[BII)I" } : Jvm.MethodName)) ∈ lw_all := lw_g (lw_at lw_m2 222 rfl) rfl
theorem q587 : (Jvm.Cond.code ({ cls := "java/lang/StringLatin1", name := "compareToUTF16", desc := "([B[BII)I" } : Jvm.MethodName) prog_44_method_17_code (4 : Nat) (Option.some Jvm.ClassFile.FieldType.int)) ∈ lw_all := lw_g (lw_at lw_m2 223 rfl) rfl
theorem q588 : (Jvm.Cond.methodLink "java/lang/StringLatin1" (62 : Nat) ({ cls := "java/lang/String", name := "checkOffset", desc := "(II)V" } : Jvm.MethodName)) ∈ lw_all := lw_g (lw_at lw_m2 224 rfl) rfl
theorem q868 : (Jvm.Cond.static ({ cls := "java/lang/StringLatin1", name := "hashCode", desc := "([B)I" } : Jvm.MethodName)) ∈ lw_all := lw_g (lw_at lw_m4 24 rfl) rfl
theorem q869 : (Jvm.Cond.code ({ cls := "java/lang/StringLatin1", name := "hashCode", desc := "([B)I" } : Jvm.MethodName) prog_44_method_21_code (1 : Nat) (Option.some Jvm.ClassFile.FieldType.int)) ∈ lw_all := lw_g (lw_at lw_m4 25 rfl) rfl
theorem q870 : (Jvm.Cond.methodLink "java/lang/StringLatin1" (84 : Nat) ({ cls := "jdk/internal/util/ArraysSupport", name := "vectorizedHashCode", desc := "(Ljava/lang/Object;IIII)I" } : Jvm.MethodName)) ∈ lw_all := lw_g (lw_at lw_m4 26 rfl) rfl
theorem q918 : (Jvm.Cond.static ({ cls := "java/lang/StringLatin1", name := "equals", desc := "([B[B)Z" } : Jvm.MethodName)) ∈ lw_all := lw_g (lw_at lw_m4 74 rfl) rfl
theorem q919 : (Jvm.Cond.code ({ cls := "java/lang/StringLatin1", name := "equals", desc := "([B[B)Z" } : Jvm.MethodName) prog_44_method_13_code (3 : Nat) (Option.some Jvm.ClassFile.FieldType.boolean)) ∈ lw_all := lw_g (lw_at lw_m4 75 rfl) rfl
theorem q1701 : (Jvm.Cond.static ({ cls := "java/lang/StringLatin1", name := "canEncode", desc := "(C)Z" } : Jvm.MethodName)) ∈ lw_all := lw_g (lw_at lw_m7 137 rfl) rfl
theorem q1702 : (Jvm.Cond.code ({ cls := "java/lang/StringLatin1", name := "canEncode", desc := "(C)Z" } : Jvm.MethodName) prog_44_method_3_code (1 : Nat) (Option.some Jvm.ClassFile.FieldType.boolean)) ∈ lw_all := lw_g (lw_at lw_m7 138 rfl) rfl
theorem q1708 : (Jvm.Cond.static ({ cls := "java/lang/StringLatin1", name := "inflate", desc := "([BI[BII)V" } : Jvm.MethodName)) ∈ lw_all := lw_g (lw_at lw_m7 144 rfl) rfl
theorem q1709 : (Jvm.Cond.code ({ cls := "java/lang/StringLatin1", name := "inflate", desc := "([BI[BII)V" } : Jvm.MethodName) prog_44_method_50_code (5 : Nat) (Option.none : Option Jvm.ClassFile.FieldType)) ∈ lw_all := lw_g (lw_at lw_m7 145 rfl) rfl
theorem q1710 : (Jvm.Cond.methodLink "java/lang/StringLatin1" (240 : Nat) ({ cls := "java/lang/StringUTF16", name := "inflate", desc := "([BI[BII)V" } : Jvm.MethodName)) ∈ lw_all := lw_g (lw_at lw_m7 146 rfl) rfl
theorem q1749 : (Jvm.Cond.static ({ cls := "java/lang/StringLatin1", name := "fillNull", desc := "([BII)V" } : Jvm.MethodName)) ∈ lw_all := lw_g (lw_at lw_m7 185 rfl) rfl
theorem q1750 : (Jvm.Cond.code ({ cls := "java/lang/StringLatin1", name := "fillNull", desc := "([BII)V" } : Jvm.MethodName) prog_44_method_48_code (3 : Nat) (Option.none : Option Jvm.ClassFile.FieldType)) ∈ lw_all := lw_g (lw_at lw_m7 186 rfl) rfl
theorem q1751 : (Jvm.Cond.methodLink "java/lang/StringLatin1" (236 : Nat) ({ cls := "java/util/Arrays", name := "fill", desc := "([BIIB)V" } : Jvm.MethodName)) ∈ lw_all := lw_g (lw_at lw_m7 187 rfl) rfl
theorem q1870 : (Jvm.Cond.static ({ cls := "java/lang/StringLatin1", name := "charAt", desc := "([BI)C" } : Jvm.MethodName)) ∈ lw_all := lw_g (lw_at lw_m8 66 rfl) rfl
theorem q1871 : (Jvm.Cond.code ({ cls := "java/lang/StringLatin1", name := "charAt", desc := "([BI)C" } : Jvm.MethodName) prog_44_method_2_code (2 : Nat) (Option.some Jvm.ClassFile.FieldType.char)) ∈ lw_all := lw_g (lw_at lw_m8 67 rfl) rfl
theorem q1872 : (Jvm.Cond.methodLink "java/lang/StringLatin1" (9 : Nat) ({ cls := "java/lang/String", name := "checkIndex", desc := "(II)V" } : Jvm.MethodName)) ∈ lw_all := lw_g (lw_at lw_m8 68 rfl) rfl
/-! java/lang/Math -/
set_option maxRecDepth 100000
def RJ7 : String := "java/lang/Math"
abbrev cJ7_min : ByteArray := prog_40_method_69_code
def yJ7_min : MethodName := ⟨RJ7, "min", "(II)I"⟩
def dkwJ7_min_0 : List UInt8 := [26, 27, 163, 0, 7, 26, 167, 0, 4, 27, 172]
abbrev dktJ7_min_0 : List UInt8 := dkwJ7_min_0 ++ []
theorem dksJ7_min_0 : cJ7_min.data.toList.drop 0 = dktJ7_min_0 := by decide +kernel
theorem dJ7_min_0 : decode cJ7_min 0 = .ok (.iload_n 0, 1) := dk_26 (dk_at dksJ7_min_0 0 rfl rfl)
theorem dJ7_min_1 : decode cJ7_min 1 = .ok (.iload_n 1, 1) := dk_27 (dk_at dksJ7_min_0 1 rfl rfl)
theorem dJ7_min_2 : decode cJ7_min 2 = .ok (.if_icmp .gt 7, 3) := dk_163 0 7 (dk_at dksJ7_min_0 2 rfl rfl)
theorem dJ7_min_5 : decode cJ7_min 5 = .ok (.iload_n 0, 1) := dk_26 (dk_at dksJ7_min_0 5 rfl rfl)
theorem dJ7_min_6 : decode cJ7_min 6 = .ok (.goto 4, 3) := dk_167 0 4 (dk_at dksJ7_min_0 6 rfl rfl)
theorem dJ7_min_9 : decode cJ7_min 9 = .ok (.iload_n 1, 1) := dk_27 (dk_at dksJ7_min_0 9 rfl rfl)
theorem dJ7_min_10 : decode cJ7_min 10 = .ok (.ireturn, 1) := dk_172 (dk_at dksJ7_min_0 10 rfl rfl)
abbrev cJ7_abs : ByteArray := prog_40_method_59_code
def yJ7_abs : MethodName := ⟨RJ7, "abs", "(I)I"⟩
def dkwJ7_abs_0 : List UInt8 := [26, 156, 0, 8, 26, 116, 167, 0, 4, 26, 172]
abbrev dktJ7_abs_0 : List UInt8 := dkwJ7_abs_0 ++ []
theorem dksJ7_abs_0 : cJ7_abs.data.toList.drop 0 = dktJ7_abs_0 := by decide +kernel
theorem dJ7_abs_0 : decode cJ7_abs 0 = .ok (.iload_n 0, 1) := dk_26 (dk_at dksJ7_abs_0 0 rfl rfl)
theorem dJ7_abs_1 : decode cJ7_abs 1 = .ok (.ifCond .ge 8, 3) := dk_156 0 8 (dk_at dksJ7_abs_0 1 rfl rfl)
theorem dJ7_abs_4 : decode cJ7_abs 4 = .ok (.iload_n 0, 1) := dk_26 (dk_at dksJ7_abs_0 4 rfl rfl)
theorem dJ7_abs_5 : decode cJ7_abs 5 = .ok (.ineg, 1) := dk_116 (dk_at dksJ7_abs_0 5 rfl rfl)
theorem dJ7_abs_6 : decode cJ7_abs 6 = .ok (.goto 4, 3) := dk_167 0 4 (dk_at dksJ7_abs_0 6 rfl rfl)
theorem dJ7_abs_9 : decode cJ7_abs 9 = .ok (.iload_n 0, 1) := dk_26 (dk_at dksJ7_abs_0 9 rfl rfl)
theorem dJ7_abs_10 : decode cJ7_abs 10 = .ok (.ireturn, 1) := dk_172 (dk_at dksJ7_abs_0 10 rfl rfl)
abbrev cJ7_max : ByteArray := prog_40_method_65_code
def yJ7_max : MethodName := ⟨RJ7, "max", "(II)I"⟩
def dkwJ7_max_0 : List UInt8 := [26, 27, 161, 0, 7, 26, 167, 0, 4, 27, 172]
abbrev dktJ7_max_0 : List UInt8 := dkwJ7_max_0 ++ []
theorem dksJ7_max_0 : cJ7_max.data.toList.drop 0 = dktJ7_max_0 := by decide +kernel
theorem dJ7_max_0 : decode cJ7_max 0 = .ok (.iload_n 0, 1) := dk_26 (dk_at dksJ7_max_0 0 rfl rfl)
theorem dJ7_max_1 : decode cJ7_max 1 = .ok (.iload_n 1, 1) := dk_27 (dk_at dksJ7_max_0 1 rfl rfl)
theorem dJ7_max_2 : decode cJ7_max 2 = .ok (.if_icmp .lt 7, 3) := dk_161 0 7 (dk_at dksJ7_max_0 2 rfl rfl)
theorem dJ7_max_5 : decode cJ7_max 5 = .ok (.iload_n 0, 1) := dk_26 (dk_at dksJ7_max_0 5 rfl rfl)
theorem dJ7_max_6 : decode cJ7_max 6 = .ok (.goto 4, 3) := dk_167 0 4 (dk_at dksJ7_max_0 6 rfl rfl)
theorem dJ7_max_9 : decode cJ7_max 9 = .ok (.iload_n 1, 1) := dk_27 (dk_at dksJ7_max_0 9 rfl rfl)
theorem dJ7_max_10 : decode cJ7_max 10 = .ok (.ireturn, 1) := dk_172 (dk_at dksJ7_max_0 10 rfl rfl)
theorem q137 : (Jvm.Cond.initialized "java/lang/Math") ∈ lw_all := lw_g (lw_at lw_m1 13 rfl) rfl
theorem q406 : (Jvm.Cond.static ({ cls := "java/lang/Math", name := "min", desc := "(II)I" } : Jvm.MethodName)) ∈ lw_all := lw_g (lw_at lw_m2 42 rfl) rfl
theorem q407 : (Jvm.Cond.code ({ cls := "java/lang/Math", name := "min", desc := "(II)I" } : Jvm.MethodName) prog_40_method_69_code (2 : Nat) (Option.some Jvm.ClassFile.FieldType.int)) ∈ lw_all := lw_g (lw_at lw_m2 43 rfl) rfl
theorem q1161 : (Jvm.Cond.static ({ cls := "java/lang/Math", name := "abs", desc := "(I)I" } : Jvm.MethodName)) ∈ lw_all := lw_g (lw_at lw_m5 77 rfl) rfl
theorem q1162 : (Jvm.Cond.code ({ cls := "java/lang/Math", name := "abs", desc := "(I)I" } : Jvm.MethodName) prog_40_method_59_code (1 : Nat) (Option.some Jvm.ClassFile.FieldType.int)) ∈ lw_all := lw_g (lw_at lw_m5 78 rfl) rfl
theorem q1514 : (Jvm.Cond.static ({ cls := "java/lang/Math", name := "max", desc := "(II)I" } : Jvm.MethodName)) ∈ lw_all := lw_g (lw_at lw_m6 190 rfl) rfl
theorem q1515 : (Jvm.Cond.code ({ cls := "java/lang/Math", name := "max", desc := "(II)I" } : Jvm.MethodName) prog_40_method_65_code (2 : Nat) (Option.some Jvm.ClassFile.FieldType.int)) ∈ lw_all := lw_g (lw_at lw_m6 191 rfl) rfl
/-! jdk/internal/util/ArraysSupport -/
set_option maxRecDepth 100000
def RJ8 : String := "jdk/internal/util/ArraysSupport"
abbrev cJ8_mismatch : ByteArray := prog_82_method_13_code
def yJ8_mismatch : MethodName := ⟨RJ8, "mismatch", "([B[BI)I"⟩
def dkwJ8_mismatch_3 : List UInt8 := [172]
abbrev dktJ8_mismatch_3 : List UInt8 := dkwJ8_mismatch_3 ++ []
def dkwJ8_mismatch_2 : List UInt8 := [62, 29, 28, 162, 0, 20, 42, 29, 51, 43, 29, 51, 159, 0, 5, 29, 172, 132, 3, 1, 167, 255, 237, 2]
abbrev dktJ8_mismatch_2 : List UInt8 := dkwJ8_mismatch_2 ++ dktJ8_mismatch_3
def dkwJ8_mismatch_1 : List UInt8 := [43, 178, 0, 126, 133, 28, 178, 0, 129, 184, 0, 122, 62, 29, 155, 0, 5, 29, 172, 28, 29, 2, 130, 100]
abbrev dktJ8_mismatch_1 : List UInt8 := dkwJ8_mismatch_1 ++ dktJ8_mismatch_2
def dkwJ8_mismatch_0 : List UInt8 := [3, 62, 28, 16, 7, 164, 0, 44, 42, 3, 51, 43, 3, 51, 159, 0, 5, 3, 172, 42, 178, 0, 126, 133]
abbrev dktJ8_mismatch_0 : List UInt8 := dkwJ8_mismatch_0 ++ dktJ8_mismatch_1
theorem dksJ8_mismatch_0 : cJ8_mismatch.data.toList.drop 0 = dktJ8_mismatch_0 := by decide +kernel
theorem dksJ8_mismatch_1 : cJ8_mismatch.data.toList.drop 24 = dktJ8_mismatch_1 := dk_seg dksJ8_mismatch_0 24 rfl rfl
theorem dksJ8_mismatch_2 : cJ8_mismatch.data.toList.drop 48 = dktJ8_mismatch_2 := dk_seg dksJ8_mismatch_1 24 rfl rfl
theorem dksJ8_mismatch_3 : cJ8_mismatch.data.toList.drop 72 = dktJ8_mismatch_3 := dk_seg dksJ8_mismatch_2 24 rfl rfl
theorem dJ8_mismatch_0 : decode cJ8_mismatch 0 = .ok (.iconst 0, 1) := dk_3 (dk_at dksJ8_mismatch_0 0 rfl rfl)
theorem dJ8_mismatch_1 : decode cJ8_mismatch 1 = .ok (.istore_n 3, 1) := dk_62 (dk_at dksJ8_mismatch_0 1 rfl rfl)
theorem dJ8_mismatch_2 : decode cJ8_mismatch 2 = .ok (.iload_n 2, 1) := dk_28 (dk_at dksJ8_mismatch_0 2 rfl rfl)
theorem dJ8_mismatch_3 : decode cJ8_mismatch 3 = .ok (.bipush 7, 2) := dk_16 7 (dk_at dksJ8_mismatch_0 3 rfl rfl)
theorem dJ8_mismatch_5 : decode cJ8_mismatch 5 = .ok (.if_icmp .le 44, 3) := dk_164 0 44 (dk_at dksJ8_mismatch_0 5 rfl rfl)
theorem dJ8_mismatch_8 : decode cJ8_mismatch 8 = .ok (.aload_n 0, 1) := dk_42 (dk_at dksJ8_mismatch_0 8 rfl rfl)
theorem dJ8_mismatch_9 : decode cJ8_mismatch 9 = .ok (.iconst 0, 1) := dk_3 (dk_at dksJ8_mismatch_0 9 rfl rfl)
theorem dJ8_mismatch_10 : decode cJ8_mismatch 10 = .ok (.baload, 1) := dk_51 (dk_at dksJ8_mismatch_0 10 rfl rfl)
theorem dJ8_mismatch_11 : decode cJ8_mismatch 11 = .ok (.aload_n 1, 1) := dk_43 (dk_at dksJ8_mismatch_0 11 rfl rfl)
theorem dJ8_mismatch_12 : decode cJ8_mismatch 12 = .ok (.iconst 0, 1) := dk_3 (dk_at dksJ8_mismatch_0 12 rfl rfl)
theorem dJ8_mismatch_13 : decode cJ8_mismatch 13 = .ok (.baload, 1) := dk_51 (dk_at dksJ8_mismatch_0 13 rfl rfl)
theorem dJ8_mismatch_14 : decode cJ8_mismatch 14 = .ok (.if_icmp .eq 5, 3) := dk_159 0 5 (dk_at dksJ8_mismatch_0 14 rfl rfl)
theorem dJ8_mismatch_17 : decode cJ8_mismatch 17 = .ok (.iconst 0, 1) := dk_3 (dk_at dksJ8_mismatch_0 17 rfl rfl)
theorem dJ8_mismatch_18 : decode cJ8_mismatch 18 = .ok (.ireturn, 1) := dk_172 (dk_at dksJ8_mismatch_0 18 rfl rfl)
theorem dJ8_mismatch_19 : decode cJ8_mismatch 19 = .ok (.aload_n 0, 1) := dk_42 (dk_at dksJ8_mismatch_0 19 rfl rfl)
theorem dJ8_mismatch_20 : decode cJ8_mismatch 20 = .ok (.getstatic 126, 3) := dk_178 0 126 (dk_at dksJ8_mismatch_0 20 rfl rfl)
theorem dJ8_mismatch_23 : decode cJ8_mismatch 23 = .ok (.i2l, 1) := dk_133 (dk_at dksJ8_mismatch_0 23 rfl rfl)
theorem dJ8_mismatch_24 : decode cJ8_mismatch 24 = .ok (.aload_n 1, 1) := dk_43 (dk_at dksJ8_mismatch_1 0 rfl rfl)
theorem dJ8_mismatch_25 : decode cJ8_mismatch 25 = .ok (.getstatic 126, 3) := dk_178 0 126 (dk_at dksJ8_mismatch_1 1 rfl rfl)
theorem dJ8_mismatch_28 : decode cJ8_mismatch 28 = .ok (.i2l, 1) := dk_133 (dk_at dksJ8_mismatch_1 4 rfl rfl)
theorem dJ8_mismatch_29 : decode cJ8_mismatch 29 = .ok (.iload_n 2, 1) := dk_28 (dk_at dksJ8_mismatch_1 5 rfl rfl)
theorem dJ8_mismatch_30 : decode cJ8_mismatch 30 = .ok (.getstatic 129, 3) := dk_178 0 129 (dk_at dksJ8_mismatch_1 6 rfl rfl)
theorem dJ8_mismatch_33 : decode cJ8_mismatch 33 = .ok (.invokestatic 122, 3) := dk_184 0 122 (dk_at dksJ8_mismatch_1 9 rfl rfl)
theorem dJ8_mismatch_36 : decode cJ8_mismatch 36 = .ok (.istore_n 3, 1) := dk_62 (dk_at dksJ8_mismatch_1 12 rfl rfl)
theorem dJ8_mismatch_37 : decode cJ8_mismatch 37 = .ok (.iload_n 3, 1) := dk_29 (dk_at dksJ8_mismatch_1 13 rfl rfl)
theorem dJ8_mismatch_38 : decode cJ8_mismatch 38 = .ok (.ifCond .lt 5, 3) := dk_155 0 5 (dk_at dksJ8_mismatch_1 14 rfl rfl)
theorem dJ8_mismatch_41 : decode cJ8_mismatch 41 = .ok (.iload_n 3, 1) := dk_29 (dk_at dksJ8_mismatch_1 17 rfl rfl)
theorem dJ8_mismatch_42 : decode cJ8_mismatch 42 = .ok (.ireturn, 1) := dk_172 (dk_at dksJ8_mismatch_1 18 rfl rfl)
theorem dJ8_mismatch_43 : decode cJ8_mismatch 43 = .ok (.iload_n 2, 1) := dk_28 (dk_at dksJ8_mismatch_1 19 rfl rfl)
theorem dJ8_mismatch_44 : decode cJ8_mismatch 44 = .ok (.iload_n 3, 1) := dk_29 (dk_at dksJ8_mismatch_1 20 rfl rfl)
theorem dJ8_mismatch_45 : decode cJ8_mismatch 45 = .ok (.iconst (-1), 1) := dk_2 (dk_at dksJ8_mismatch_1 21 rfl rfl)
theorem dJ8_mismatch_46 : decode cJ8_mismatch 46 = .ok (.ixor, 1) := dk_130 (dk_at dksJ8_mismatch_1 22 rfl rfl)
theorem dJ8_mismatch_47 : decode cJ8_mismatch 47 = .ok (.isub, 1) := dk_100 (dk_at dksJ8_mismatch_1 23 rfl rfl)
theorem dJ8_mismatch_48 : decode cJ8_mismatch 48 = .ok (.istore_n 3, 1) := dk_62 (dk_at dksJ8_mismatch_2 0 rfl rfl)
theorem dJ8_mismatch_49 : decode cJ8_mismatch 49 = .ok (.iload_n 3, 1) := dk_29 (dk_at dksJ8_mismatch_2 1 rfl rfl)
theorem dJ8_mismatch_50 : decode cJ8_mismatch 50 = .ok (.iload_n 2, 1) := dk_28 (dk_at dksJ8_mismatch_2 2 rfl rfl)
theorem dJ8_mismatch_51 : decode cJ8_mismatch 51 = .ok (.if_icmp .ge 20, 3) := dk_162 0 20 (dk_at dksJ8_mismatch_2 3 rfl rfl)
theorem dJ8_mismatch_54 : decode cJ8_mismatch 54 = .ok (.aload_n 0, 1) := dk_42 (dk_at dksJ8_mismatch_2 6 rfl rfl)
theorem dJ8_mismatch_55 : decode cJ8_mismatch 55 = .ok (.iload_n 3, 1) := dk_29 (dk_at dksJ8_mismatch_2 7 rfl rfl)
theorem dJ8_mismatch_56 : decode cJ8_mismatch 56 = .ok (.baload, 1) := dk_51 (dk_at dksJ8_mismatch_2 8 rfl rfl)
theorem dJ8_mismatch_57 : decode cJ8_mismatch 57 = .ok (.aload_n 1, 1) := dk_43 (dk_at dksJ8_mismatch_2 9 rfl rfl)
theorem dJ8_mismatch_58 : decode cJ8_mismatch 58 = .ok (.iload_n 3, 1) := dk_29 (dk_at dksJ8_mismatch_2 10 rfl rfl)
theorem dJ8_mismatch_59 : decode cJ8_mismatch 59 = .ok (.baload, 1) := dk_51 (dk_at dksJ8_mismatch_2 11 rfl rfl)
theorem dJ8_mismatch_60 : decode cJ8_mismatch 60 = .ok (.if_icmp .eq 5, 3) := dk_159 0 5 (dk_at dksJ8_mismatch_2 12 rfl rfl)
theorem dJ8_mismatch_63 : decode cJ8_mismatch 63 = .ok (.iload_n 3, 1) := dk_29 (dk_at dksJ8_mismatch_2 15 rfl rfl)
theorem dJ8_mismatch_64 : decode cJ8_mismatch 64 = .ok (.ireturn, 1) := dk_172 (dk_at dksJ8_mismatch_2 16 rfl rfl)
theorem dJ8_mismatch_65 : decode cJ8_mismatch 65 = .ok (.iinc 3 1, 3) := dk_132 3 1 (dk_at dksJ8_mismatch_2 17 rfl rfl)
theorem dJ8_mismatch_68 : decode cJ8_mismatch 68 = .ok (.goto (-19), 3) := dk_167 255 237 (dk_at dksJ8_mismatch_2 20 rfl rfl)
theorem dJ8_mismatch_71 : decode cJ8_mismatch 71 = .ok (.iconst (-1), 1) := dk_2 (dk_at dksJ8_mismatch_2 23 rfl rfl)
theorem dJ8_mismatch_72 : decode cJ8_mismatch 72 = .ok (.ireturn, 1) := dk_172 (dk_at dksJ8_mismatch_3 0 rfl rfl)
abbrev cJ8_vectorizedMismatch : ByteArray := prog_82_method_3_code
def yJ8_vectorizedMismatch : MethodName := ⟨RJ8, "vectorizedMismatch", "(Ljava/lang/Object;JLjava/lang/Object;JII)I"⟩
def dkwJ8_vectorizedMismatch_11 : List UInt8 := [54, 10, 21, 10, 2, 130, 172, 21, 10, 2, 130, 172]
abbrev dktJ8_vectorizedMismatch_11 : List UInt8 := dkwJ8_vectorizedMismatch_11 ++ []
def dkwJ8_vectorizedMismatch_10 : List UInt8 := [178, 0, 46, 21, 7, 96, 122, 54, 17, 21, 9, 21, 8, 120, 21, 17, 96, 172, 21, 10, 21, 11, 100]
abbrev dktJ8_vectorizedMismatch_10 : List UInt8 := dkwJ8_vectorizedMismatch_10 ++ dktJ8_vectorizedMismatch_11
def dkwJ8_vectorizedMismatch_9 : List UInt8 := [153, 0, 18, 21, 16, 184, 0, 58, 178, 0, 46, 21, 7, 96, 122, 167, 0, 15, 21, 16, 184, 0, 11]
abbrev dktJ8_vectorizedMismatch_9 : List UInt8 := dkwJ8_vectorizedMismatch_9 ++ dktJ8_vectorizedMismatch_10
def dkwJ8_vectorizedMismatch_8 : List UInt8 := [182, 0, 54, 54, 15, 21, 14, 21, 15, 159, 0, 54, 21, 14, 21, 15, 130, 54, 16, 178, 0, 36]
abbrev dktJ8_vectorizedMismatch_8 : List UInt8 := dkwJ8_vectorizedMismatch_8 ++ dktJ8_vectorizedMismatch_9
def dkwJ8_vectorizedMismatch_7 : List UInt8 := [55, 12, 178, 0, 26, 42, 31, 22, 12, 97, 182, 0, 54, 54, 14, 178, 0, 26, 45, 22, 4, 22, 12, 97]
abbrev dktJ8_vectorizedMismatch_7 : List UInt8 := dkwJ8_vectorizedMismatch_7 ++ dktJ8_vectorizedMismatch_8
def dkwJ8_vectorizedMismatch_6 : List UInt8 := [4, 178, 0, 51, 21, 7, 100, 120, 54, 11, 21, 10, 21, 11, 161, 0, 104, 21, 9, 133, 178, 0, 20, 121]
abbrev dktJ8_vectorizedMismatch_6 : List UInt8 := dkwJ8_vectorizedMismatch_6 ++ dktJ8_vectorizedMismatch_7
def dkwJ8_vectorizedMismatch_5 : List UInt8 := [132, 9, 1, 167, 255, 148, 21, 6, 21, 9, 21, 8, 120, 100, 54, 10, 21, 7, 178, 0, 51, 162, 0, 126]
abbrev dktJ8_vectorizedMismatch_5 : List UInt8 := dkwJ8_vectorizedMismatch_5 ++ dktJ8_vectorizedMismatch_6
def dkwJ8_vectorizedMismatch_4 : List UInt8 := [22, 16, 184, 0, 49, 178, 0, 46, 21, 7, 96, 122, 54, 18, 21, 9, 21, 8, 120, 21, 18, 96, 172]
abbrev dktJ8_vectorizedMismatch_4 : List UInt8 := dkwJ8_vectorizedMismatch_4 ++ dktJ8_vectorizedMismatch_5
def dkwJ8_vectorizedMismatch_3 : List UInt8 := [55, 16, 178, 0, 36, 153, 0, 18, 22, 16, 184, 0, 40, 178, 0, 46, 21, 7, 96, 122, 167, 0, 15]
abbrev dktJ8_vectorizedMismatch_3 : List UInt8 := dkwJ8_vectorizedMismatch_3 ++ dktJ8_vectorizedMismatch_4
def dkwJ8_vectorizedMismatch_2 : List UInt8 := [22, 4, 22, 10, 97, 182, 0, 30, 55, 14, 22, 12, 22, 14, 148, 153, 0, 54, 22, 12, 22, 14, 131]
abbrev dktJ8_vectorizedMismatch_2 : List UInt8 := dkwJ8_vectorizedMismatch_2 ++ dktJ8_vectorizedMismatch_3
def dkwJ8_vectorizedMismatch_1 : List UInt8 := [178, 0, 20, 121, 55, 10, 178, 0, 26, 42, 31, 22, 10, 97, 182, 0, 30, 55, 12, 178, 0, 26, 45]
abbrev dktJ8_vectorizedMismatch_1 : List UInt8 := dkwJ8_vectorizedMismatch_1 ++ dktJ8_vectorizedMismatch_2
def dkwJ8_vectorizedMismatch_0 : List UInt8 := [178, 0, 20, 21, 7, 100, 54, 8, 3, 54, 9, 21, 9, 21, 6, 21, 8, 122, 162, 0, 104, 21, 9, 133]
abbrev dktJ8_vectorizedMismatch_0 : List UInt8 := dkwJ8_vectorizedMismatch_0 ++ dktJ8_vectorizedMismatch_1
theorem dksJ8_vectorizedMismatch_0 : cJ8_vectorizedMismatch.data.toList.drop 0 = dktJ8_vectorizedMismatch_0 := by decide +kernel
theorem dksJ8_vectorizedMismatch_1 : cJ8_vectorizedMismatch.data.toList.drop 24 = dktJ8_vectorizedMismatch_1 := dk_seg dksJ8_vectorizedMismatch_0 24 rfl rfl
theorem dksJ8_vectorizedMismatch_2 : cJ8_vectorizedMismatch.data.toList.drop 47 = dktJ8_vectorizedMismatch_2 := dk_seg dksJ8_vectorizedMismatch_1 23 rfl rfl
theorem dksJ8_vectorizedMismatch_3 : cJ8_vectorizedMismatch.data.toList.drop 70 = dktJ8_vectorizedMismatch_3 := dk_seg dksJ8_vectorizedMismatch_2 23 rfl rfl
theorem dksJ8_vectorizedMismatch_4 : cJ8_vectorizedMismatch.data.toList.drop 93 = dktJ8_vectorizedMismatch_4 := dk_seg dksJ8_vectorizedMismatch_3 23 rfl rfl
theorem dksJ8_vectorizedMismatch_5 : cJ8_vectorizedMismatch.data.toList.drop 116 = dktJ8_vectorizedMismatch_5 := dk_seg dksJ8_vectorizedMismatch_4 23 rfl rfl
theorem dksJ8_vectorizedMismatch_6 : cJ8_vectorizedMismatch.data.toList.drop 140 = dktJ8_vectorizedMismatch_6 := dk_seg dksJ8_vectorizedMismatch_5 24 rfl rfl
theorem dksJ8_vectorizedMismatch_7 : cJ8_vectorizedMismatch.data.toList.drop 164 = dktJ8_vectorizedMismatch_7 := dk_seg dksJ8_vectorizedMismatch_6 24 rfl rfl
theorem dksJ8_vectorizedMismatch_8 : cJ8_vectorizedMismatch.data.toList.drop 188 = dktJ8_vectorizedMismatch_8 := dk_seg dksJ8_vectorizedMismatch_7 24 rfl rfl
theorem dksJ8_vectorizedMismatch_9 : cJ8_vectorizedMismatch.data.toList.drop 210 = dktJ8_vectorizedMismatch_9 := dk_seg dksJ8_vectorizedMismatch_8 22 rfl rfl
theorem dksJ8_vectorizedMismatch_10 : cJ8_vectorizedMismatch.data.toList.drop 233 = dktJ8_vectorizedMismatch_10 := dk_seg dksJ8_vectorizedMismatch_9 23 rfl rfl
theorem dksJ8_vectorizedMismatch_11 : cJ8_vectorizedMismatch.data.toList.drop 256 = dktJ8_vectorizedMismatch_11 := dk_seg dksJ8_vectorizedMismatch_10 23 rfl rfl
theorem dJ8_vectorizedMismatch_0 : decode cJ8_vectorizedMismatch 0 = .ok (.getstatic 20, 3) := dk_178 0 20 (dk_at dksJ8_vectorizedMismatch_0 0 rfl rfl)
theorem dJ8_vectorizedMismatch_3 : decode cJ8_vectorizedMismatch 3 = .ok (.iload 7, 2) := dk_21 7 (dk_at dksJ8_vectorizedMismatch_0 3 rfl rfl)
theorem dJ8_vectorizedMismatch_5 : decode cJ8_vectorizedMismatch 5 = .ok (.isub, 1) := dk_100 (dk_at dksJ8_vectorizedMismatch_0 5 rfl rfl)
theorem dJ8_vectorizedMismatch_6 : decode cJ8_vectorizedMismatch 6 = .ok (.istore 8, 2) := dk_54 8 (dk_at dksJ8_vectorizedMismatch_0 6 rfl rfl)
theorem dJ8_vectorizedMismatch_8 : decode cJ8_vectorizedMismatch 8 = .ok (.iconst 0, 1) := dk_3 (dk_at dksJ8_vectorizedMismatch_0 8 rfl rfl)
theorem dJ8_vectorizedMismatch_9 : decode cJ8_vectorizedMismatch 9 = .ok (.istore 9, 2) := dk_54 9 (dk_at dksJ8_vectorizedMismatch_0 9 rfl rfl)
theorem dJ8_vectorizedMismatch_11 : decode cJ8_vectorizedMismatch 11 = .ok (.iload 9, 2) := dk_21 9 (dk_at dksJ8_vectorizedMismatch_0 11 rfl rfl)
theorem dJ8_vectorizedMismatch_13 : decode cJ8_vectorizedMismatch 13 = .ok (.iload 6, 2) := dk_21 6 (dk_at dksJ8_vectorizedMismatch_0 13 rfl rfl)
theorem dJ8_vectorizedMismatch_15 : decode cJ8_vectorizedMismatch 15 = .ok (.iload 8, 2) := dk_21 8 (dk_at dksJ8_vectorizedMismatch_0 15 rfl rfl)
theorem dJ8_vectorizedMismatch_17 : decode cJ8_vectorizedMismatch 17 = .ok (.ishr, 1) := dk_122 (dk_at dksJ8_vectorizedMismatch_0 17 rfl rfl)
theorem dJ8_vectorizedMismatch_18 : decode cJ8_vectorizedMismatch 18 = .ok (.if_icmp .ge 104, 3) := dk_162 0 104 (dk_at dksJ8_vectorizedMismatch_0 18 rfl rfl)
theorem dJ8_vectorizedMismatch_21 : decode cJ8_vectorizedMismatch 21 = .ok (.iload 9, 2) := dk_21 9 (dk_at dksJ8_vectorizedMismatch_0 21 rfl rfl)
theorem dJ8_vectorizedMismatch_23 : decode cJ8_vectorizedMismatch 23 = .ok (.i2l, 1) := dk_133 (dk_at dksJ8_vectorizedMismatch_0 23 rfl rfl)
theorem dJ8_vectorizedMismatch_24 : decode cJ8_vectorizedMismatch 24 = .ok (.getstatic 20, 3) := dk_178 0 20 (dk_at dksJ8_vectorizedMismatch_1 0 rfl rfl)
theorem dJ8_vectorizedMismatch_27 : decode cJ8_vectorizedMismatch 27 = .ok (.lshl, 1) := dk_121 (dk_at dksJ8_vectorizedMismatch_1 3 rfl rfl)
theorem dJ8_vectorizedMismatch_28 : decode cJ8_vectorizedMismatch 28 = .ok (.lstore 10, 2) := dk_55 10 (dk_at dksJ8_vectorizedMismatch_1 4 rfl rfl)
theorem dJ8_vectorizedMismatch_30 : decode cJ8_vectorizedMismatch 30 = .ok (.getstatic 26, 3) := dk_178 0 26 (dk_at dksJ8_vectorizedMismatch_1 6 rfl rfl)
theorem dJ8_vectorizedMismatch_33 : decode cJ8_vectorizedMismatch 33 = .ok (.aload_n 0, 1) := dk_42 (dk_at dksJ8_vectorizedMismatch_1 9 rfl rfl)
theorem dJ8_vectorizedMismatch_34 : decode cJ8_vectorizedMismatch 34 = .ok (.lload_n 1, 1) := dk_31 (dk_at dksJ8_vectorizedMismatch_1 10 rfl rfl)
theorem dJ8_vectorizedMismatch_35 : decode cJ8_vectorizedMismatch 35 = .ok (.lload 10, 2) := dk_22 10 (dk_at dksJ8_vectorizedMismatch_1 11 rfl rfl)
theorem dJ8_vectorizedMismatch_37 : decode cJ8_vectorizedMismatch 37 = .ok (.ladd, 1) := dk_97 (dk_at dksJ8_vectorizedMismatch_1 13 rfl rfl)
theorem dJ8_vectorizedMismatch_38 : decode cJ8_vectorizedMismatch 38 = .ok (.invokevirtual 30, 3) := dk_182 0 30 (dk_at dksJ8_vectorizedMismatch_1 14 rfl rfl)
theorem dJ8_vectorizedMismatch_41 : decode cJ8_vectorizedMismatch 41 = .ok (.lstore 12, 2) := dk_55 12 (dk_at dksJ8_vectorizedMismatch_1 17 rfl rfl)
theorem dJ8_vectorizedMismatch_43 : decode cJ8_vectorizedMismatch 43 = .ok (.getstatic 26, 3) := dk_178 0 26 (dk_at dksJ8_vectorizedMismatch_1 19 rfl rfl)
theorem dJ8_vectorizedMismatch_46 : decode cJ8_vectorizedMismatch 46 = .ok (.aload_n 3, 1) := dk_45 (dk_at dksJ8_vectorizedMismatch_1 22 rfl rfl)
theorem dJ8_vectorizedMismatch_47 : decode cJ8_vectorizedMismatch 47 = .ok (.lload 4, 2) := dk_22 4 (dk_at dksJ8_vectorizedMismatch_2 0 rfl rfl)
theorem dJ8_vectorizedMismatch_49 : decode cJ8_vectorizedMismatch 49 = .ok (.lload 10, 2) := dk_22 10 (dk_at dksJ8_vectorizedMismatch_2 2 rfl rfl)
theorem dJ8_vectorizedMismatch_51 : decode cJ8_vectorizedMismatch 51 = .ok (.ladd, 1) := dk_97 (dk_at dksJ8_vectorizedMismatch_2 4 rfl rfl)
theorem dJ8_vectorizedMismatch_52 : decode cJ8_vectorizedMismatch 52 = .ok (.invokevirtual 30, 3) := dk_182 0 30 (dk_at dksJ8_vectorizedMismatch_2 5 rfl rfl)
theorem dJ8_vectorizedMismatch_55 : decode cJ8_vectorizedMismatch 55 = .ok (.lstore 14, 2) := dk_55 14 (dk_at dksJ8_vectorizedMismatch_2 8 rfl rfl)
theorem dJ8_vectorizedMismatch_57 : decode cJ8_vectorizedMismatch 57 = .ok (.lload 12, 2) := dk_22 12 (dk_at dksJ8_vectorizedMismatch_2 10 rfl rfl)
theorem dJ8_vectorizedMismatch_59 : decode cJ8_vectorizedMismatch 59 = .ok (.lload 14, 2) := dk_22 14 (dk_at dksJ8_vectorizedMismatch_2 12 rfl rfl)
theorem dJ8_vectorizedMismatch_61 : decode cJ8_vectorizedMismatch 61 = .ok (.lcmp, 1) := dk_148 (dk_at dksJ8_vectorizedMismatch_2 14 rfl rfl)
theorem dJ8_vectorizedMismatch_62 : decode cJ8_vectorizedMismatch 62 = .ok (.ifCond .eq 54, 3) := dk_153 0 54 (dk_at dksJ8_vectorizedMismatch_2 15 rfl rfl)
theorem dJ8_vectorizedMismatch_65 : decode cJ8_vectorizedMismatch 65 = .ok (.lload 12, 2) := dk_22 12 (dk_at dksJ8_vectorizedMismatch_2 18 rfl rfl)
theorem dJ8_vectorizedMismatch_67 : decode cJ8_vectorizedMismatch 67 = .ok (.lload 14, 2) := dk_22 14 (dk_at dksJ8_vectorizedMismatch_2 20 rfl rfl)
theorem dJ8_vectorizedMismatch_69 : decode cJ8_vectorizedMismatch 69 = .ok (.lxor, 1) := dk_131 (dk_at dksJ8_vectorizedMismatch_2 22 rfl rfl)
theorem dJ8_vectorizedMismatch_70 : decode cJ8_vectorizedMismatch 70 = .ok (.lstore 16, 2) := dk_55 16 (dk_at dksJ8_vectorizedMismatch_3 0 rfl rfl)
theorem dJ8_vectorizedMismatch_72 : decode cJ8_vectorizedMismatch 72 = .ok (.getstatic 36, 3) := dk_178 0 36 (dk_at dksJ8_vectorizedMismatch_3 2 rfl rfl)
theorem dJ8_vectorizedMismatch_75 : decode cJ8_vectorizedMismatch 75 = .ok (.ifCond .eq 18, 3) := dk_153 0 18 (dk_at dksJ8_vectorizedMismatch_3 5 rfl rfl)
theorem dJ8_vectorizedMismatch_78 : decode cJ8_vectorizedMismatch 78 = .ok (.lload 16, 2) := dk_22 16 (dk_at dksJ8_vectorizedMismatch_3 8 rfl rfl)
theorem dJ8_vectorizedMismatch_80 : decode cJ8_vectorizedMismatch 80 = .ok (.invokestatic 40, 3) := dk_184 0 40 (dk_at dksJ8_vectorizedMismatch_3 10 rfl rfl)
theorem dJ8_vectorizedMismatch_83 : decode cJ8_vectorizedMismatch 83 = .ok (.getstatic 46, 3) := dk_178 0 46 (dk_at dksJ8_vectorizedMismatch_3 13 rfl rfl)
theorem dJ8_vectorizedMismatch_86 : decode cJ8_vectorizedMismatch 86 = .ok (.iload 7, 2) := dk_21 7 (dk_at dksJ8_vectorizedMismatch_3 16 rfl rfl)
theorem dJ8_vectorizedMismatch_88 : decode cJ8_vectorizedMismatch 88 = .ok (.iadd, 1) := dk_96 (dk_at dksJ8_vectorizedMismatch_3 18 rfl rfl)
theorem dJ8_vectorizedMismatch_89 : decode cJ8_vectorizedMismatch 89 = .ok (.ishr, 1) := dk_122 (dk_at dksJ8_vectorizedMismatch_3 19 rfl rfl)
theorem dJ8_vectorizedMismatch_90 : decode cJ8_vectorizedMismatch 90 = .ok (.goto 15, 3) := dk_167 0 15 (dk_at dksJ8_vectorizedMismatch_3 20 rfl rfl)
theorem dJ8_vectorizedMismatch_93 : decode cJ8_vectorizedMismatch 93 = .ok (.lload 16, 2) := dk_22 16 (dk_at dksJ8_vectorizedMismatch_4 0 rfl rfl)
theorem dJ8_vectorizedMismatch_95 : decode cJ8_vectorizedMismatch 95 = .ok (.invokestatic 49, 3) := dk_184 0 49 (dk_at dksJ8_vectorizedMismatch_4 2 rfl rfl)
theorem dJ8_vectorizedMismatch_98 : decode cJ8_vectorizedMismatch 98 = .ok (.getstatic 46, 3) := dk_178 0 46 (dk_at dksJ8_vectorizedMismatch_4 5 rfl rfl)
theorem dJ8_vectorizedMismatch_101 : decode cJ8_vectorizedMismatch 101 = .ok (.iload 7, 2) := dk_21 7 (dk_at dksJ8_vectorizedMismatch_4 8 rfl rfl)
theorem dJ8_vectorizedMismatch_103 : decode cJ8_vectorizedMismatch 103 = .ok (.iadd, 1) := dk_96 (dk_at dksJ8_vectorizedMismatch_4 10 rfl rfl)
theorem dJ8_vectorizedMismatch_104 : decode cJ8_vectorizedMismatch 104 = .ok (.ishr, 1) := dk_122 (dk_at dksJ8_vectorizedMismatch_4 11 rfl rfl)
theorem dJ8_vectorizedMismatch_105 : decode cJ8_vectorizedMismatch 105 = .ok (.istore 18, 2) := dk_54 18 (dk_at dksJ8_vectorizedMismatch_4 12 rfl rfl)
theorem dJ8_vectorizedMismatch_107 : decode cJ8_vectorizedMismatch 107 = .ok (.iload 9, 2) := dk_21 9 (dk_at dksJ8_vectorizedMismatch_4 14 rfl rfl)
theorem dJ8_vectorizedMismatch_109 : decode cJ8_vectorizedMismatch 109 = .ok (.iload 8, 2) := dk_21 8 (dk_at dksJ8_vectorizedMismatch_4 16 rfl rfl)
theorem dJ8_vectorizedMismatch_111 : decode cJ8_vectorizedMismatch 111 = .ok (.ishl, 1) := dk_120 (dk_at dksJ8_vectorizedMismatch_4 18 rfl rfl)
theorem dJ8_vectorizedMismatch_112 : decode cJ8_vectorizedMismatch 112 = .ok (.iload 18, 2) := dk_21 18 (dk_at dksJ8_vectorizedMismatch_4 19 rfl rfl)
theorem dJ8_vectorizedMismatch_114 : decode cJ8_vectorizedMismatch 114 = .ok (.iadd, 1) := dk_96 (dk_at dksJ8_vectorizedMismatch_4 21 rfl rfl)
theorem dJ8_vectorizedMismatch_115 : decode cJ8_vectorizedMismatch 115 = .ok (.ireturn, 1) := dk_172 (dk_at dksJ8_vectorizedMismatch_4 22 rfl rfl)
theorem dJ8_vectorizedMismatch_116 : decode cJ8_vectorizedMismatch 116 = .ok (.iinc 9 1, 3) := dk_132 9 1 (dk_at dksJ8_vectorizedMismatch_5 0 rfl rfl)
theorem dJ8_vectorizedMismatch_119 : decode cJ8_vectorizedMismatch 119 = .ok (.goto (-108), 3) := dk_167 255 148 (dk_at dksJ8_vectorizedMismatch_5 3 rfl rfl)
theorem dJ8_vectorizedMismatch_122 : decode cJ8_vectorizedMismatch 122 = .ok (.iload 6, 2) := dk_21 6 (dk_at dksJ8_vectorizedMismatch_5 6 rfl rfl)
theorem dJ8_vectorizedMismatch_124 : decode cJ8_vectorizedMismatch 124 = .ok (.iload 9, 2) := dk_21 9 (dk_at dksJ8_vectorizedMismatch_5 8 rfl rfl)
theorem dJ8_vectorizedMismatch_126 : decode cJ8_vectorizedMismatch 126 = .ok (.iload 8, 2) := dk_21 8 (dk_at dksJ8_vectorizedMismatch_5 10 rfl rfl)
theorem dJ8_vectorizedMismatch_128 : decode cJ8_vectorizedMismatch 128 = .ok (.ishl, 1) := dk_120 (dk_at dksJ8_vectorizedMismatch_5 12 rfl rfl)
theorem dJ8_vectorizedMismatch_129 : decode cJ8_vectorizedMismatch 129 = .ok (.isub, 1) := dk_100 (dk_at dksJ8_vectorizedMismatch_5 13 rfl rfl)
theorem dJ8_vectorizedMismatch_130 : decode cJ8_vectorizedMismatch 130 = .ok (.istore 10, 2) := dk_54 10 (dk_at dksJ8_vectorizedMismatch_5 14 rfl rfl)
theorem dJ8_vectorizedMismatch_132 : decode cJ8_vectorizedMismatch 132 = .ok (.iload 7, 2) := dk_21 7 (dk_at dksJ8_vectorizedMismatch_5 16 rfl rfl)
theorem dJ8_vectorizedMismatch_134 : decode cJ8_vectorizedMismatch 134 = .ok (.getstatic 51, 3) := dk_178 0 51 (dk_at dksJ8_vectorizedMismatch_5 18 rfl rfl)
theorem dJ8_vectorizedMismatch_137 : decode cJ8_vectorizedMismatch 137 = .ok (.if_icmp .ge 126, 3) := dk_162 0 126 (dk_at dksJ8_vectorizedMismatch_5 21 rfl rfl)
theorem dJ8_vectorizedMismatch_140 : decode cJ8_vectorizedMismatch 140 = .ok (.iconst 1, 1) := dk_4 (dk_at dksJ8_vectorizedMismatch_6 0 rfl rfl)
theorem dJ8_vectorizedMismatch_141 : decode cJ8_vectorizedMismatch 141 = .ok (.getstatic 51, 3) := dk_178 0 51 (dk_at dksJ8_vectorizedMismatch_6 1 rfl rfl)
theorem dJ8_vectorizedMismatch_144 : decode cJ8_vectorizedMismatch 144 = .ok (.iload 7, 2) := dk_21 7 (dk_at dksJ8_vectorizedMismatch_6 4 rfl rfl)
theorem dJ8_vectorizedMismatch_146 : decode cJ8_vectorizedMismatch 146 = .ok (.isub, 1) := dk_100 (dk_at dksJ8_vectorizedMismatch_6 6 rfl rfl)
theorem dJ8_vectorizedMismatch_147 : decode cJ8_vectorizedMismatch 147 = .ok (.ishl, 1) := dk_120 (dk_at dksJ8_vectorizedMismatch_6 7 rfl rfl)
theorem dJ8_vectorizedMismatch_148 : decode cJ8_vectorizedMismatch 148 = .ok (.istore 11, 2) := dk_54 11 (dk_at dksJ8_vectorizedMismatch_6 8 rfl rfl)
theorem dJ8_vectorizedMismatch_150 : decode cJ8_vectorizedMismatch 150 = .ok (.iload 10, 2) := dk_21 10 (dk_at dksJ8_vectorizedMismatch_6 10 rfl rfl)
theorem dJ8_vectorizedMismatch_152 : decode cJ8_vectorizedMismatch 152 = .ok (.iload 11, 2) := dk_21 11 (dk_at dksJ8_vectorizedMismatch_6 12 rfl rfl)
theorem dJ8_vectorizedMismatch_154 : decode cJ8_vectorizedMismatch 154 = .ok (.if_icmp .lt 104, 3) := dk_161 0 104 (dk_at dksJ8_vectorizedMismatch_6 14 rfl rfl)
theorem dJ8_vectorizedMismatch_157 : decode cJ8_vectorizedMismatch 157 = .ok (.iload 9, 2) := dk_21 9 (dk_at dksJ8_vectorizedMismatch_6 17 rfl rfl)
theorem dJ8_vectorizedMismatch_159 : decode cJ8_vectorizedMismatch 159 = .ok (.i2l, 1) := dk_133 (dk_at dksJ8_vectorizedMismatch_6 19 rfl rfl)
theorem dJ8_vectorizedMismatch_160 : decode cJ8_vectorizedMismatch 160 = .ok (.getstatic 20, 3) := dk_178 0 20 (dk_at dksJ8_vectorizedMismatch_6 20 rfl rfl)
theorem dJ8_vectorizedMismatch_163 : decode cJ8_vectorizedMismatch 163 = .ok (.lshl, 1) := dk_121 (dk_at dksJ8_vectorizedMismatch_6 23 rfl rfl)
theorem dJ8_vectorizedMismatch_164 : decode cJ8_vectorizedMismatch 164 = .ok (.lstore 12, 2) := dk_55 12 (dk_at dksJ8_vectorizedMismatch_7 0 rfl rfl)
theorem dJ8_vectorizedMismatch_166 : decode cJ8_vectorizedMismatch 166 = .ok (.getstatic 26, 3) := dk_178 0 26 (dk_at dksJ8_vectorizedMismatch_7 2 rfl rfl)
theorem dJ8_vectorizedMismatch_169 : decode cJ8_vectorizedMismatch 169 = .ok (.aload_n 0, 1) := dk_42 (dk_at dksJ8_vectorizedMismatch_7 5 rfl rfl)
theorem dJ8_vectorizedMismatch_170 : decode cJ8_vectorizedMismatch 170 = .ok (.lload_n 1, 1) := dk_31 (dk_at dksJ8_vectorizedMismatch_7 6 rfl rfl)
theorem dJ8_vectorizedMismatch_171 : decode cJ8_vectorizedMismatch 171 = .ok (.lload 12, 2) := dk_22 12 (dk_at dksJ8_vectorizedMismatch_7 7 rfl rfl)
theorem dJ8_vectorizedMismatch_173 : decode cJ8_vectorizedMismatch 173 = .ok (.ladd, 1) := dk_97 (dk_at dksJ8_vectorizedMismatch_7 9 rfl rfl)
theorem dJ8_vectorizedMismatch_174 : decode cJ8_vectorizedMismatch 174 = .ok (.invokevirtual 54, 3) := dk_182 0 54 (dk_at dksJ8_vectorizedMismatch_7 10 rfl rfl)
theorem dJ8_vectorizedMismatch_177 : decode cJ8_vectorizedMismatch 177 = .ok (.istore 14, 2) := dk_54 14 (dk_at dksJ8_vectorizedMismatch_7 13 rfl rfl)
theorem dJ8_vectorizedMismatch_179 : decode cJ8_vectorizedMismatch 179 = .ok (.getstatic 26, 3) := dk_178 0 26 (dk_at dksJ8_vectorizedMismatch_7 15 rfl rfl)
theorem dJ8_vectorizedMismatch_182 : decode cJ8_vectorizedMismatch 182 = .ok (.aload_n 3, 1) := dk_45 (dk_at dksJ8_vectorizedMismatch_7 18 rfl rfl)
theorem dJ8_vectorizedMismatch_183 : decode cJ8_vectorizedMismatch 183 = .ok (.lload 4, 2) := dk_22 4 (dk_at dksJ8_vectorizedMismatch_7 19 rfl rfl)
theorem dJ8_vectorizedMismatch_185 : decode cJ8_vectorizedMismatch 185 = .ok (.lload 12, 2) := dk_22 12 (dk_at dksJ8_vectorizedMismatch_7 21 rfl rfl)
theorem dJ8_vectorizedMismatch_187 : decode cJ8_vectorizedMismatch 187 = .ok (.ladd, 1) := dk_97 (dk_at dksJ8_vectorizedMismatch_7 23 rfl rfl)
theorem dJ8_vectorizedMismatch_188 : decode cJ8_vectorizedMismatch 188 = .ok (.invokevirtual 54, 3) := dk_182 0 54 (dk_at dksJ8_vectorizedMismatch_8 0 rfl rfl)
theorem dJ8_vectorizedMismatch_191 : decode cJ8_vectorizedMismatch 191 = .ok (.istore 15, 2) := dk_54 15 (dk_at dksJ8_vectorizedMismatch_8 3 rfl rfl)
theorem dJ8_vectorizedMismatch_193 : decode cJ8_vectorizedMismatch 193 = .ok (.iload 14, 2) := dk_21 14 (dk_at dksJ8_vectorizedMismatch_8 5 rfl rfl)
theorem dJ8_vectorizedMismatch_195 : decode cJ8_vectorizedMismatch 195 = .ok (.iload 15, 2) := dk_21 15 (dk_at dksJ8_vectorizedMismatch_8 7 rfl rfl)
theorem dJ8_vectorizedMismatch_197 : decode cJ8_vectorizedMismatch 197 = .ok (.if_icmp .eq 54, 3) := dk_159 0 54 (dk_at dksJ8_vectorizedMismatch_8 9 rfl rfl)
theorem dJ8_vectorizedMismatch_200 : decode cJ8_vectorizedMismatch 200 = .ok (.iload 14, 2) := dk_21 14 (dk_at dksJ8_vectorizedMismatch_8 12 rfl rfl)
theorem dJ8_vectorizedMismatch_202 : decode cJ8_vectorizedMismatch 202 = .ok (.iload 15, 2) := dk_21 15 (dk_at dksJ8_vectorizedMismatch_8 14 rfl rfl)
theorem dJ8_vectorizedMismatch_204 : decode cJ8_vectorizedMismatch 204 = .ok (.ixor, 1) := dk_130 (dk_at dksJ8_vectorizedMismatch_8 16 rfl rfl)
theorem dJ8_vectorizedMismatch_205 : decode cJ8_vectorizedMismatch 205 = .ok (.istore 16, 2) := dk_54 16 (dk_at dksJ8_vectorizedMismatch_8 17 rfl rfl)
theorem dJ8_vectorizedMismatch_207 : decode cJ8_vectorizedMismatch 207 = .ok (.getstatic 36, 3) := dk_178 0 36 (dk_at dksJ8_vectorizedMismatch_8 19 rfl rfl)
theorem dJ8_vectorizedMismatch_210 : decode cJ8_vectorizedMismatch 210 = .ok (.ifCond .eq 18, 3) := dk_153 0 18 (dk_at dksJ8_vectorizedMismatch_9 0 rfl rfl)
theorem dJ8_vectorizedMismatch_213 : decode cJ8_vectorizedMismatch 213 = .ok (.iload 16, 2) := dk_21 16 (dk_at dksJ8_vectorizedMismatch_9 3 rfl rfl)
theorem dJ8_vectorizedMismatch_215 : decode cJ8_vectorizedMismatch 215 = .ok (.invokestatic 58, 3) := dk_184 0 58 (dk_at dksJ8_vectorizedMismatch_9 5 rfl rfl)
theorem dJ8_vectorizedMismatch_218 : decode cJ8_vectorizedMismatch 218 = .ok (.getstatic 46, 3) := dk_178 0 46 (dk_at dksJ8_vectorizedMismatch_9 8 rfl rfl)
theorem dJ8_vectorizedMismatch_221 : decode cJ8_vectorizedMismatch 221 = .ok (.iload 7, 2) := dk_21 7 (dk_at dksJ8_vectorizedMismatch_9 11 rfl rfl)
theorem dJ8_vectorizedMismatch_223 : decode cJ8_vectorizedMismatch 223 = .ok (.iadd, 1) := dk_96 (dk_at dksJ8_vectorizedMismatch_9 13 rfl rfl)
theorem dJ8_vectorizedMismatch_224 : decode cJ8_vectorizedMismatch 224 = .ok (.ishr, 1) := dk_122 (dk_at dksJ8_vectorizedMismatch_9 14 rfl rfl)
theorem dJ8_vectorizedMismatch_225 : decode cJ8_vectorizedMismatch 225 = .ok (.goto 15, 3) := dk_167 0 15 (dk_at dksJ8_vectorizedMismatch_9 15 rfl rfl)
theorem dJ8_vectorizedMismatch_228 : decode cJ8_vectorizedMismatch 228 = .ok (.iload 16, 2) := dk_21 16 (dk_at dksJ8_vectorizedMismatch_9 18 rfl rfl)
theorem dJ8_vectorizedMismatch_230 : decode cJ8_vectorizedMismatch 230 = .ok (.invokestatic 11, 3) := dk_184 0 11 (dk_at dksJ8_vectorizedMismatch_9 20 rfl rfl)
theorem dJ8_vectorizedMismatch_233 : decode cJ8_vectorizedMismatch 233 = .ok (.getstatic 46, 3) := dk_178 0 46 (dk_at dksJ8_vectorizedMismatch_10 0 rfl rfl)
theorem dJ8_vectorizedMismatch_236 : decode cJ8_vectorizedMismatch 236 = .ok (.iload 7, 2) := dk_21 7 (dk_at dksJ8_vectorizedMismatch_10 3 rfl rfl)
theorem dJ8_vectorizedMismatch_238 : decode cJ8_vectorizedMismatch 238 = .ok (.iadd, 1) := dk_96 (dk_at dksJ8_vectorizedMismatch_10 5 rfl rfl)
theorem dJ8_vectorizedMismatch_239 : decode cJ8_vectorizedMismatch 239 = .ok (.ishr, 1) := dk_122 (dk_at dksJ8_vectorizedMismatch_10 6 rfl rfl)
theorem dJ8_vectorizedMismatch_240 : decode cJ8_vectorizedMismatch 240 = .ok (.istore 17, 2) := dk_54 17 (dk_at dksJ8_vectorizedMismatch_10 7 rfl rfl)
theorem dJ8_vectorizedMismatch_242 : decode cJ8_vectorizedMismatch 242 = .ok (.iload 9, 2) := dk_21 9 (dk_at dksJ8_vectorizedMismatch_10 9 rfl rfl)
theorem dJ8_vectorizedMismatch_244 : decode cJ8_vectorizedMismatch 244 = .ok (.iload 8, 2) := dk_21 8 (dk_at dksJ8_vectorizedMismatch_10 11 rfl rfl)
theorem dJ8_vectorizedMismatch_246 : decode cJ8_vectorizedMismatch 246 = .ok (.ishl, 1) := dk_120 (dk_at dksJ8_vectorizedMismatch_10 13 rfl rfl)
theorem dJ8_vectorizedMismatch_247 : decode cJ8_vectorizedMismatch 247 = .ok (.iload 17, 2) := dk_21 17 (dk_at dksJ8_vectorizedMismatch_10 14 rfl rfl)
theorem dJ8_vectorizedMismatch_249 : decode cJ8_vectorizedMismatch 249 = .ok (.iadd, 1) := dk_96 (dk_at dksJ8_vectorizedMismatch_10 16 rfl rfl)
theorem dJ8_vectorizedMismatch_250 : decode cJ8_vectorizedMismatch 250 = .ok (.ireturn, 1) := dk_172 (dk_at dksJ8_vectorizedMismatch_10 17 rfl rfl)
theorem dJ8_vectorizedMismatch_251 : decode cJ8_vectorizedMismatch 251 = .ok (.iload 10, 2) := dk_21 10 (dk_at dksJ8_vectorizedMismatch_10 18 rfl rfl)
theorem dJ8_vectorizedMismatch_253 : decode cJ8_vectorizedMismatch 253 = .ok (.iload 11, 2) := dk_21 11 (dk_at dksJ8_vectorizedMismatch_10 20 rfl rfl)
theorem dJ8_vectorizedMismatch_255 : decode cJ8_vectorizedMismatch 255 = .ok (.isub, 1) := dk_100 (dk_at dksJ8_vectorizedMismatch_10 22 rfl rfl)
theorem dJ8_vectorizedMismatch_256 : decode cJ8_vectorizedMismatch 256 = .ok (.istore 10, 2) := dk_54 10 (dk_at dksJ8_vectorizedMismatch_11 0 rfl rfl)
theorem dJ8_vectorizedMismatch_258 : decode cJ8_vectorizedMismatch 258 = .ok (.iload 10, 2) := dk_21 10 (dk_at dksJ8_vectorizedMismatch_11 2 rfl rfl)
theorem dJ8_vectorizedMismatch_260 : decode cJ8_vectorizedMismatch 260 = .ok (.iconst (-1), 1) := dk_2 (dk_at dksJ8_vectorizedMismatch_11 4 rfl rfl)
theorem dJ8_vectorizedMismatch_261 : decode cJ8_vectorizedMismatch 261 = .ok (.ixor, 1) := dk_130 (dk_at dksJ8_vectorizedMismatch_11 5 rfl rfl)
theorem dJ8_vectorizedMismatch_262 : decode cJ8_vectorizedMismatch 262 = .ok (.ireturn, 1) := dk_172 (dk_at dksJ8_vectorizedMismatch_11 6 rfl rfl)
theorem dJ8_vectorizedMismatch_263 : decode cJ8_vectorizedMismatch 263 = .ok (.iload 10, 2) := dk_21 10 (dk_at dksJ8_vectorizedMismatch_11 7 rfl rfl)
theorem dJ8_vectorizedMismatch_265 : decode cJ8_vectorizedMismatch 265 = .ok (.iconst (-1), 1) := dk_2 (dk_at dksJ8_vectorizedMismatch_11 9 rfl rfl)
theorem dJ8_vectorizedMismatch_266 : decode cJ8_vectorizedMismatch 266 = .ok (.ixor, 1) := dk_130 (dk_at dksJ8_vectorizedMismatch_11 10 rfl rfl)
theorem dJ8_vectorizedMismatch_267 : decode cJ8_vectorizedMismatch 267 = .ok (.ireturn, 1) := dk_172 (dk_at dksJ8_vectorizedMismatch_11 11 rfl rfl)
abbrev cJ8_vectorizedHashCode : ByteArray := prog_82_method_4_code
def yJ8_vectorizedHashCode : MethodName := ⟨RJ8, "vectorizedHashCode", "(Ljava/lang/Object;IIII)I"⟩
def dkwJ8_vectorizedHashCode_6 : List UInt8 := [183, 0, 91, 18, 92, 182, 0, 94, 21, 4, 182, 0, 98, 182, 0, 101, 183, 0, 105, 191, 172]
abbrev dktJ8_vectorizedHashCode_6 : List UInt8 := dkwJ8_vectorizedHashCode_6 ++ []
def dkwJ8_vectorizedHashCode_5 : List UInt8 := [167, 0, 44, 29, 42, 192, 0, 82, 27, 28, 184, 0, 84, 167, 0, 31, 187, 0, 87, 89, 187, 0, 89, 89]
abbrev dktJ8_vectorizedHashCode_5 : List UInt8 := dkwJ8_vectorizedHashCode_5 ++ dktJ8_vectorizedHashCode_6
def dkwJ8_vectorizedHashCode_4 : List UInt8 := [29, 42, 192, 0, 60, 27, 28, 184, 0, 75, 167, 0, 57, 29, 42, 192, 0, 77, 27, 28, 184, 0, 79]
abbrev dktJ8_vectorizedHashCode_4 : List UInt8 := dkwJ8_vectorizedHashCode_4 ++ dktJ8_vectorizedHashCode_5
def dkwJ8_vectorizedHashCode_3 : List UInt8 := [192, 0, 60, 27, 28, 184, 0, 66, 167, 0, 83, 29, 42, 192, 0, 69, 27, 28, 184, 0, 71, 167, 0, 70]
abbrev dktJ8_vectorizedHashCode_3 : List UInt8 := dkwJ8_vectorizedHashCode_3 ++ dktJ8_vectorizedHashCode_4
def dkwJ8_vectorizedHashCode_2 : List UInt8 := [29, 42, 192, 0, 60, 27, 28, 184, 0, 62, 167, 0, 103, 42, 193, 0, 60, 153, 0, 16, 29, 42]
abbrev dktJ8_vectorizedHashCode_2 : List UInt8 := dkwJ8_vectorizedHashCode_2 ++ dktJ8_vectorizedHashCode_3
def dkwJ8_vectorizedHashCode_1 : List UInt8 := [170, 0, 0, 0, 0, 127, 0, 0, 0, 4, 0, 0, 0, 10, 0, 0, 0, 42, 0, 0, 0, 55, 0, 0, 0, 127, 0, 0, 0, 127, 0, 0, 0, 88, 0, 0, 0, 101, 0, 0, 0, 114]
abbrev dktJ8_vectorizedHashCode_1 : List UInt8 := dkwJ8_vectorizedHashCode_1 ++ dktJ8_vectorizedHashCode_2
def dkwJ8_vectorizedHashCode_0 : List UInt8 := [21, 4]
abbrev dktJ8_vectorizedHashCode_0 : List UInt8 := dkwJ8_vectorizedHashCode_0 ++ dktJ8_vectorizedHashCode_1
theorem dksJ8_vectorizedHashCode_0 : cJ8_vectorizedHashCode.data.toList.drop 0 = dktJ8_vectorizedHashCode_0 := by decide +kernel
theorem dksJ8_vectorizedHashCode_1 : cJ8_vectorizedHashCode.data.toList.drop 2 = dktJ8_vectorizedHashCode_1 := dk_seg dksJ8_vectorizedHashCode_0 2 rfl rfl
theorem dksJ8_vectorizedHashCode_2 : cJ8_vectorizedHashCode.data.toList.drop 44 = dktJ8_vectorizedHashCode_2 := dk_seg dksJ8_vectorizedHashCode_1 42 rfl rfl
theorem dksJ8_vectorizedHashCode_3 : cJ8_vectorizedHashCode.data.toList.drop 66 = dktJ8_vectorizedHashCode_3 := dk_seg dksJ8_vectorizedHashCode_2 22 rfl rfl
theorem dksJ8_vectorizedHashCode_4 : cJ8_vectorizedHashCode.data.toList.drop 90 = dktJ8_vectorizedHashCode_4 := dk_seg dksJ8_vectorizedHashCode_3 24 rfl rfl
theorem dksJ8_vectorizedHashCode_5 : cJ8_vectorizedHashCode.data.toList.drop 113 = dktJ8_vectorizedHashCode_5 := dk_seg dksJ8_vectorizedHashCode_4 23 rfl rfl
theorem dksJ8_vectorizedHashCode_6 : cJ8_vectorizedHashCode.data.toList.drop 137 = dktJ8_vectorizedHashCode_6 := dk_seg dksJ8_vectorizedHashCode_5 24 rfl rfl
theorem dJ8_vectorizedHashCode_0 : decode cJ8_vectorizedHashCode 0 = .ok (.iload 4, 2) := dk_21 4 (dk_at dksJ8_vectorizedHashCode_0 0 rfl rfl)
theorem dJ8_vectorizedHashCode_2 : decode cJ8_vectorizedHashCode 2 = .ok (.tableswitch 127 4 10 #[42, 55, 127, 127, 88, 101, 114], 42) := by decide +kernel
theorem dJ8_vectorizedHashCode_44 : decode cJ8_vectorizedHashCode 44 = .ok (.iload_n 3, 1) := dk_29 (dk_at dksJ8_vectorizedHashCode_2 0 rfl rfl)
theorem dJ8_vectorizedHashCode_45 : decode cJ8_vectorizedHashCode 45 = .ok (.aload_n 0, 1) := dk_42 (dk_at dksJ8_vectorizedHashCode_2 1 rfl rfl)
theorem dJ8_vectorizedHashCode_46 : decode cJ8_vectorizedHashCode 46 = .ok (.checkcast 60, 3) := dk_192 0 60 (dk_at dksJ8_vectorizedHashCode_2 2 rfl rfl)
theorem dJ8_vectorizedHashCode_49 : decode cJ8_vectorizedHashCode 49 = .ok (.iload_n 1, 1) := dk_27 (dk_at dksJ8_vectorizedHashCode_2 5 rfl rfl)
theorem dJ8_vectorizedHashCode_50 : decode cJ8_vectorizedHashCode 50 = .ok (.iload_n 2, 1) := dk_28 (dk_at dksJ8_vectorizedHashCode_2 6 rfl rfl)
theorem dJ8_vectorizedHashCode_51 : decode cJ8_vectorizedHashCode 51 = .ok (.invokestatic 62, 3) := dk_184 0 62 (dk_at dksJ8_vectorizedHashCode_2 7 rfl rfl)
theorem dJ8_vectorizedHashCode_54 : decode cJ8_vectorizedHashCode 54 = .ok (.goto 103, 3) := dk_167 0 103 (dk_at dksJ8_vectorizedHashCode_2 10 rfl rfl)
theorem dJ8_vectorizedHashCode_57 : decode cJ8_vectorizedHashCode 57 = .ok (.aload_n 0, 1) := dk_42 (dk_at dksJ8_vectorizedHashCode_2 13 rfl rfl)
theorem dJ8_vectorizedHashCode_58 : decode cJ8_vectorizedHashCode 58 = .ok (.instanceof 60, 3) := dk_193 0 60 (dk_at dksJ8_vectorizedHashCode_2 14 rfl rfl)
theorem dJ8_vectorizedHashCode_61 : decode cJ8_vectorizedHashCode 61 = .ok (.ifCond .eq 16, 3) := dk_153 0 16 (dk_at dksJ8_vectorizedHashCode_2 17 rfl rfl)
theorem dJ8_vectorizedHashCode_64 : decode cJ8_vectorizedHashCode 64 = .ok (.iload_n 3, 1) := dk_29 (dk_at dksJ8_vectorizedHashCode_2 20 rfl rfl)
theorem dJ8_vectorizedHashCode_65 : decode cJ8_vectorizedHashCode 65 = .ok (.aload_n 0, 1) := dk_42 (dk_at dksJ8_vectorizedHashCode_2 21 rfl rfl)
theorem dJ8_vectorizedHashCode_66 : decode cJ8_vectorizedHashCode 66 = .ok (.checkcast 60, 3) := dk_192 0 60 (dk_at dksJ8_vectorizedHashCode_3 0 rfl rfl)
theorem dJ8_vectorizedHashCode_69 : decode cJ8_vectorizedHashCode 69 = .ok (.iload_n 1, 1) := dk_27 (dk_at dksJ8_vectorizedHashCode_3 3 rfl rfl)
theorem dJ8_vectorizedHashCode_70 : decode cJ8_vectorizedHashCode 70 = .ok (.iload_n 2, 1) := dk_28 (dk_at dksJ8_vectorizedHashCode_3 4 rfl rfl)
theorem dJ8_vectorizedHashCode_71 : decode cJ8_vectorizedHashCode 71 = .ok (.invokestatic 66, 3) := dk_184 0 66 (dk_at dksJ8_vectorizedHashCode_3 5 rfl rfl)
theorem dJ8_vectorizedHashCode_74 : decode cJ8_vectorizedHashCode 74 = .ok (.goto 83, 3) := dk_167 0 83 (dk_at dksJ8_vectorizedHashCode_3 8 rfl rfl)
theorem dJ8_vectorizedHashCode_77 : decode cJ8_vectorizedHashCode 77 = .ok (.iload_n 3, 1) := dk_29 (dk_at dksJ8_vectorizedHashCode_3 11 rfl rfl)
theorem dJ8_vectorizedHashCode_78 : decode cJ8_vectorizedHashCode 78 = .ok (.aload_n 0, 1) := dk_42 (dk_at dksJ8_vectorizedHashCode_3 12 rfl rfl)
theorem dJ8_vectorizedHashCode_79 : decode cJ8_vectorizedHashCode 79 = .ok (.checkcast 69, 3) := dk_192 0 69 (dk_at dksJ8_vectorizedHashCode_3 13 rfl rfl)
theorem dJ8_vectorizedHashCode_82 : decode cJ8_vectorizedHashCode 82 = .ok (.iload_n 1, 1) := dk_27 (dk_at dksJ8_vectorizedHashCode_3 16 rfl rfl)
theorem dJ8_vectorizedHashCode_83 : decode cJ8_vectorizedHashCode 83 = .ok (.iload_n 2, 1) := dk_28 (dk_at dksJ8_vectorizedHashCode_3 17 rfl rfl)
theorem dJ8_vectorizedHashCode_84 : decode cJ8_vectorizedHashCode 84 = .ok (.invokestatic 71, 3) := dk_184 0 71 (dk_at dksJ8_vectorizedHashCode_3 18 rfl rfl)
theorem dJ8_vectorizedHashCode_87 : decode cJ8_vectorizedHashCode 87 = .ok (.goto 70, 3) := dk_167 0 70 (dk_at dksJ8_vectorizedHashCode_3 21 rfl rfl)
theorem dJ8_vectorizedHashCode_90 : decode cJ8_vectorizedHashCode 90 = .ok (.iload_n 3, 1) := dk_29 (dk_at dksJ8_vectorizedHashCode_4 0 rfl rfl)
theorem dJ8_vectorizedHashCode_91 : decode cJ8_vectorizedHashCode 91 = .ok (.aload_n 0, 1) := dk_42 (dk_at dksJ8_vectorizedHashCode_4 1 rfl rfl)
theorem dJ8_vectorizedHashCode_92 : decode cJ8_vectorizedHashCode 92 = .ok (.checkcast 60, 3) := dk_192 0 60 (dk_at dksJ8_vectorizedHashCode_4 2 rfl rfl)
theorem dJ8_vectorizedHashCode_95 : decode cJ8_vectorizedHashCode 95 = .ok (.iload_n 1, 1) := dk_27 (dk_at dksJ8_vectorizedHashCode_4 5 rfl rfl)
theorem dJ8_vectorizedHashCode_96 : decode cJ8_vectorizedHashCode 96 = .ok (.iload_n 2, 1) := dk_28 (dk_at dksJ8_vectorizedHashCode_4 6 rfl rfl)
theorem dJ8_vectorizedHashCode_97 : decode cJ8_vectorizedHashCode 97 = .ok (.invokestatic 75, 3) := dk_184 0 75 (dk_at dksJ8_vectorizedHashCode_4 7 rfl rfl)
theorem dJ8_vectorizedHashCode_100 : decode cJ8_vectorizedHashCode 100 = .ok (.goto 57, 3) := dk_167 0 57 (dk_at dksJ8_vectorizedHashCode_4 10 rfl rfl)
theorem dJ8_vectorizedHashCode_103 : decode cJ8_vectorizedHashCode 103 = .ok (.iload_n 3, 1) := dk_29 (dk_at dksJ8_vectorizedHashCode_4 13 rfl rfl)
theorem dJ8_vectorizedHashCode_104 : decode cJ8_vectorizedHashCode 104 = .ok (.aload_n 0, 1) := dk_42 (dk_at dksJ8_vectorizedHashCode_4 14 rfl rfl)
theorem dJ8_vectorizedHashCode_105 : decode cJ8_vectorizedHashCode 105 = .ok (.checkcast 77, 3) := dk_192 0 77 (dk_at dksJ8_vectorizedHashCode_4 15 rfl rfl)
theorem dJ8_vectorizedHashCode_108 : decode cJ8_vectorizedHashCode 108 = .ok (.iload_n 1, 1) := dk_27 (dk_at dksJ8_vectorizedHashCode_4 18 rfl rfl)
theorem dJ8_vectorizedHashCode_109 : decode cJ8_vectorizedHashCode 109 = .ok (.iload_n 2, 1) := dk_28 (dk_at dksJ8_vectorizedHashCode_4 19 rfl rfl)
theorem dJ8_vectorizedHashCode_110 : decode cJ8_vectorizedHashCode 110 = .ok (.invokestatic 79, 3) := dk_184 0 79 (dk_at dksJ8_vectorizedHashCode_4 20 rfl rfl)
theorem dJ8_vectorizedHashCode_113 : decode cJ8_vectorizedHashCode 113 = .ok (.goto 44, 3) := dk_167 0 44 (dk_at dksJ8_vectorizedHashCode_5 0 rfl rfl)
theorem dJ8_vectorizedHashCode_116 : decode cJ8_vectorizedHashCode 116 = .ok (.iload_n 3, 1) := dk_29 (dk_at dksJ8_vectorizedHashCode_5 3 rfl rfl)
theorem dJ8_vectorizedHashCode_117 : decode cJ8_vectorizedHashCode 117 = .ok (.aload_n 0, 1) := dk_42 (dk_at dksJ8_vectorizedHashCode_5 4 rfl rfl)
theorem dJ8_vectorizedHashCode_118 : decode cJ8_vectorizedHashCode 118 = .ok (.checkcast 82, 3) := dk_192 0 82 (dk_at dksJ8_vectorizedHashCode_5 5 rfl rfl)
theorem dJ8_vectorizedHashCode_121 : decode cJ8_vectorizedHashCode 121 = .ok (.iload_n 1, 1) := dk_27 (dk_at dksJ8_vectorizedHashCode_5 8 rfl rfl)
theorem dJ8_vectorizedHashCode_122 : decode cJ8_vectorizedHashCode 122 = .ok (.iload_n 2, 1) := dk_28 (dk_at dksJ8_vectorizedHashCode_5 9 rfl rfl)
theorem dJ8_vectorizedHashCode_123 : decode cJ8_vectorizedHashCode 123 = .ok (.invokestatic 84, 3) := dk_184 0 84 (dk_at dksJ8_vectorizedHashCode_5 10 rfl rfl)
theorem dJ8_vectorizedHashCode_126 : decode cJ8_vectorizedHashCode 126 = .ok (.goto 31, 3) := dk_167 0 31 (dk_at dksJ8_vectorizedHashCode_5 13 rfl rfl)
theorem dJ8_vectorizedHashCode_129 : decode cJ8_vectorizedHashCode 129 = .ok (.new 87, 3) := dk_187 0 87 (dk_at dksJ8_vectorizedHashCode_5 16 rfl rfl)
theorem dJ8_vectorizedHashCode_132 : decode cJ8_vectorizedHashCode 132 = .ok (.dup, 1) := dk_89 (dk_at dksJ8_vectorizedHashCode_5 19 rfl rfl)
theorem dJ8_vectorizedHashCode_133 : decode cJ8_vectorizedHashCode 133 = .ok (.new 89, 3) := dk_187 0 89 (dk_at dksJ8_vectorizedHashCode_5 20 rfl rfl)
theorem dJ8_vectorizedHashCode_136 : decode cJ8_vectorizedHashCode 136 = .ok (.dup, 1) := dk_89 (dk_at dksJ8_vectorizedHashCode_5 23 rfl rfl)
theorem dJ8_vectorizedHashCode_137 : decode cJ8_vectorizedHashCode 137 = .ok (.invokespecial 91, 3) := dk_183 0 91 (dk_at dksJ8_vectorizedHashCode_6 0 rfl rfl)
theorem dJ8_vectorizedHashCode_140 : decode cJ8_vectorizedHashCode 140 = .ok (.ldc 92, 2) := dk_18 92 (dk_at dksJ8_vectorizedHashCode_6 3 rfl rfl)
theorem dJ8_vectorizedHashCode_142 : decode cJ8_vectorizedHashCode 142 = .ok (.invokevirtual 94, 3) := dk_182 0 94 (dk_at dksJ8_vectorizedHashCode_6 5 rfl rfl)
theorem dJ8_vectorizedHashCode_145 : decode cJ8_vectorizedHashCode 145 = .ok (.iload 4, 2) := dk_21 4 (dk_at dksJ8_vectorizedHashCode_6 8 rfl rfl)
theorem dJ8_vectorizedHashCode_147 : decode cJ8_vectorizedHashCode 147 = .ok (.invokevirtual 98, 3) := dk_182 0 98 (dk_at dksJ8_vectorizedHashCode_6 10 rfl rfl)
theorem dJ8_vectorizedHashCode_150 : decode cJ8_vectorizedHashCode 150 = .ok (.invokevirtual 101, 3) := dk_182 0 101 (dk_at dksJ8_vectorizedHashCode_6 13 rfl rfl)
theorem dJ8_vectorizedHashCode_153 : decode cJ8_vectorizedHashCode 153 = .ok (.invokespecial 105, 3) := dk_183 0 105 (dk_at dksJ8_vectorizedHashCode_6 16 rfl rfl)
theorem dJ8_vectorizedHashCode_156 : decode cJ8_vectorizedHashCode 156 = .ok (.athrow, 1) := dk_191 (dk_at dksJ8_vectorizedHashCode_6 19 rfl rfl)
theorem dJ8_vectorizedHashCode_157 : decode cJ8_vectorizedHashCode 157 = .ok (.ireturn, 1) := dk_172 (dk_at dksJ8_vectorizedHashCode_6 20 rfl rfl)
abbrev cJ8_signedHashCode : ByteArray := prog_82_method_5_code
def yJ8_signedHashCode : MethodName := ⟨RJ8, "signedHashCode", "(I[BII)I"⟩
def dkwJ8_signedHashCode_1 : List UInt8 := [17, 0, 255, 126, 96, 59, 132, 5, 1, 167, 255, 232, 26, 172]
abbrev dktJ8_signedHashCode_1 : List UInt8 := dkwJ8_signedHashCode_1 ++ []
def dkwJ8_signedHashCode_0 : List UInt8 := [28, 29, 96, 54, 4, 28, 54, 5, 21, 5, 21, 4, 162, 0, 23, 16, 31, 26, 104, 43, 21, 5, 51]
abbrev dktJ8_signedHashCode_0 : List UInt8 := dkwJ8_signedHashCode_0 ++ dktJ8_signedHashCode_1
theorem dksJ8_signedHashCode_0 : cJ8_signedHashCode.data.toList.drop 0 = dktJ8_signedHashCode_0 := by decide +kernel
theorem dksJ8_signedHashCode_1 : cJ8_signedHashCode.data.toList.drop 23 = dktJ8_signedHashCode_1 := dk_seg dksJ8_signedHashCode_0 23 rfl rfl
theorem dJ8_signedHashCode_0 : decode cJ8_signedHashCode 0 = .ok (.iload_n 2, 1) := dk_28 (dk_at dksJ8_signedHashCode_0 0 rfl rfl)
theorem dJ8_signedHashCode_1 : decode cJ8_signedHashCode 1 = .ok (.iload_n 3, 1) := dk_29 (dk_at dksJ8_signedHashCode_0 1 rfl rfl)
theorem dJ8_signedHashCode_2 : decode cJ8_signedHashCode 2 = .ok (.iadd, 1) := dk_96 (dk_at dksJ8_signedHashCode_0 2 rfl rfl)
theorem dJ8_signedHashCode_3 : decode cJ8_signedHashCode 3 = .ok (.istore 4, 2) := dk_54 4 (dk_at dksJ8_signedHashCode_0 3 rfl rfl)
theorem dJ8_signedHashCode_5 : decode cJ8_signedHashCode 5 = .ok (.iload_n 2, 1) := dk_28 (dk_at dksJ8_signedHashCode_0 5 rfl rfl)
theorem dJ8_signedHashCode_6 : decode cJ8_signedHashCode 6 = .ok (.istore 5, 2) := dk_54 5 (dk_at dksJ8_signedHashCode_0 6 rfl rfl)
theorem dJ8_signedHashCode_8 : decode cJ8_signedHashCode 8 = .ok (.iload 5, 2) := dk_21 5 (dk_at dksJ8_signedHashCode_0 8 rfl rfl)
theorem dJ8_signedHashCode_10 : decode cJ8_signedHashCode 10 = .ok (.iload 4, 2) := dk_21 4 (dk_at dksJ8_signedHashCode_0 10 rfl rfl)
theorem dJ8_signedHashCode_12 : decode cJ8_signedHashCode 12 = .ok (.if_icmp .ge 23, 3) := dk_162 0 23 (dk_at dksJ8_signedHashCode_0 12 rfl rfl)
theorem dJ8_signedHashCode_15 : decode cJ8_signedHashCode 15 = .ok (.bipush 31, 2) := dk_16 31 (dk_at dksJ8_signedHashCode_0 15 rfl rfl)
theorem dJ8_signedHashCode_17 : decode cJ8_signedHashCode 17 = .ok (.iload_n 0, 1) := dk_26 (dk_at dksJ8_signedHashCode_0 17 rfl rfl)
theorem dJ8_signedHashCode_18 : decode cJ8_signedHashCode 18 = .ok (.imul, 1) := dk_104 (dk_at dksJ8_signedHashCode_0 18 rfl rfl)
theorem dJ8_signedHashCode_19 : decode cJ8_signedHashCode 19 = .ok (.aload_n 1, 1) := dk_43 (dk_at dksJ8_signedHashCode_0 19 rfl rfl)
theorem dJ8_signedHashCode_20 : decode cJ8_signedHashCode 20 = .ok (.iload 5, 2) := dk_21 5 (dk_at dksJ8_signedHashCode_0 20 rfl rfl)
theorem dJ8_signedHashCode_22 : decode cJ8_signedHashCode 22 = .ok (.baload, 1) := dk_51 (dk_at dksJ8_signedHashCode_0 22 rfl rfl)
theorem dJ8_signedHashCode_23 : decode cJ8_signedHashCode 23 = .ok (.sipush 255, 3) := dk_17 0 255 (dk_at dksJ8_signedHashCode_1 0 rfl rfl)
theorem dJ8_signedHashCode_26 : decode cJ8_signedHashCode 26 = .ok (.iand, 1) := dk_126 (dk_at dksJ8_signedHashCode_1 3 rfl rfl)
theorem dJ8_signedHashCode_27 : decode cJ8_signedHashCode 27 = .ok (.iadd, 1) := dk_96 (dk_at dksJ8_signedHashCode_1 4 rfl rfl)
theorem dJ8_signedHashCode_28 : decode cJ8_signedHashCode 28 = .ok (.istore_n 0, 1) := dk_59 (dk_at dksJ8_signedHashCode_1 5 rfl rfl)
theorem dJ8_signedHashCode_29 : decode cJ8_signedHashCode 29 = .ok (.iinc 5 1, 3) := dk_132 5 1 (dk_at dksJ8_signedHashCode_1 6 rfl rfl)
theorem dJ8_signedHashCode_32 : decode cJ8_signedHashCode 32 = .ok (.goto (-24), 3) := dk_167 255 232 (dk_at dksJ8_signedHashCode_1 9 rfl rfl)
theorem dJ8_signedHashCode_35 : decode cJ8_signedHashCode 35 = .ok (.iload_n 0, 1) := dk_26 (dk_at dksJ8_signedHashCode_1 12 rfl rfl)
theorem dJ8_signedHashCode_36 : decode cJ8_signedHashCode 36 = .ok (.ireturn, 1) := dk_172 (dk_at dksJ8_signedHashCode_1 13 rfl rfl)
abbrev cJ8_utf16hashCode : ByteArray := prog_82_method_10_code
def yJ8_utf16hashCode : MethodName := ⟨RJ8, "utf16hashCode", "(I[BII)I"⟩
def dkwJ8_utf16hashCode_1 : List UInt8 := [21, 5, 185, 0, 110, 3, 0, 96, 59, 132, 5, 1, 167, 255, 229, 26, 172]
abbrev dktJ8_utf16hashCode_1 : List UInt8 := dkwJ8_utf16hashCode_1 ++ []
def dkwJ8_utf16hashCode_0 : List UInt8 := [28, 29, 96, 54, 4, 28, 54, 5, 21, 5, 21, 4, 162, 0, 26, 16, 31, 26, 104, 178, 0, 106, 43]
abbrev dktJ8_utf16hashCode_0 : List UInt8 := dkwJ8_utf16hashCode_0 ++ dktJ8_utf16hashCode_1
theorem dksJ8_utf16hashCode_0 : cJ8_utf16hashCode.data.toList.drop 0 = dktJ8_utf16hashCode_0 := by decide +kernel
theorem dksJ8_utf16hashCode_1 : cJ8_utf16hashCode.data.toList.drop 23 = dktJ8_utf16hashCode_1 := dk_seg dksJ8_utf16hashCode_0 23 rfl rfl
theorem dJ8_utf16hashCode_0 : decode cJ8_utf16hashCode 0 = .ok (.iload_n 2, 1) := dk_28 (dk_at dksJ8_utf16hashCode_0 0 rfl rfl)
theorem dJ8_utf16hashCode_1 : decode cJ8_utf16hashCode 1 = .ok (.iload_n 3, 1) := dk_29 (dk_at dksJ8_utf16hashCode_0 1 rfl rfl)
theorem dJ8_utf16hashCode_2 : decode cJ8_utf16hashCode 2 = .ok (.iadd, 1) := dk_96 (dk_at dksJ8_utf16hashCode_0 2 rfl rfl)
theorem dJ8_utf16hashCode_3 : decode cJ8_utf16hashCode 3 = .ok (.istore 4, 2) := dk_54 4 (dk_at dksJ8_utf16hashCode_0 3 rfl rfl)
theorem dJ8_utf16hashCode_5 : decode cJ8_utf16hashCode 5 = .ok (.iload_n 2, 1) := dk_28 (dk_at dksJ8_utf16hashCode_0 5 rfl rfl)
theorem dJ8_utf16hashCode_6 : decode cJ8_utf16hashCode 6 = .ok (.istore 5, 2) := dk_54 5 (dk_at dksJ8_utf16hashCode_0 6 rfl rfl)
theorem dJ8_utf16hashCode_8 : decode cJ8_utf16hashCode 8 = .ok (.iload 5, 2) := dk_21 5 (dk_at dksJ8_utf16hashCode_0 8 rfl rfl)
theorem dJ8_utf16hashCode_10 : decode cJ8_utf16hashCode 10 = .ok (.iload 4, 2) := dk_21 4 (dk_at dksJ8_utf16hashCode_0 10 rfl rfl)
theorem dJ8_utf16hashCode_12 : decode cJ8_utf16hashCode 12 = .ok (.if_icmp .ge 26, 3) := dk_162 0 26 (dk_at dksJ8_utf16hashCode_0 12 rfl rfl)
theorem dJ8_utf16hashCode_15 : decode cJ8_utf16hashCode 15 = .ok (.bipush 31, 2) := dk_16 31 (dk_at dksJ8_utf16hashCode_0 15 rfl rfl)
theorem dJ8_utf16hashCode_17 : decode cJ8_utf16hashCode 17 = .ok (.iload_n 0, 1) := dk_26 (dk_at dksJ8_utf16hashCode_0 17 rfl rfl)
theorem dJ8_utf16hashCode_18 : decode cJ8_utf16hashCode 18 = .ok (.imul, 1) := dk_104 (dk_at dksJ8_utf16hashCode_0 18 rfl rfl)
theorem dJ8_utf16hashCode_19 : decode cJ8_utf16hashCode 19 = .ok (.getstatic 106, 3) := dk_178 0 106 (dk_at dksJ8_utf16hashCode_0 19 rfl rfl)
theorem dJ8_utf16hashCode_22 : decode cJ8_utf16hashCode 22 = .ok (.aload_n 1, 1) := dk_43 (dk_at dksJ8_utf16hashCode_0 22 rfl rfl)
theorem dJ8_utf16hashCode_23 : decode cJ8_utf16hashCode 23 = .ok (.iload 5, 2) := dk_21 5 (dk_at dksJ8_utf16hashCode_1 0 rfl rfl)
theorem dJ8_utf16hashCode_25 : decode cJ8_utf16hashCode 25 = .ok (.invokeinterface 110 3, 5) := by decide +kernel
theorem dJ8_utf16hashCode_30 : decode cJ8_utf16hashCode 30 = .ok (.iadd, 1) := dk_96 (dk_at dksJ8_utf16hashCode_1 7 rfl rfl)
theorem dJ8_utf16hashCode_31 : decode cJ8_utf16hashCode 31 = .ok (.istore_n 0, 1) := dk_59 (dk_at dksJ8_utf16hashCode_1 8 rfl rfl)
theorem dJ8_utf16hashCode_32 : decode cJ8_utf16hashCode 32 = .ok (.iinc 5 1, 3) := dk_132 5 1 (dk_at dksJ8_utf16hashCode_1 9 rfl rfl)
theorem dJ8_utf16hashCode_35 : decode cJ8_utf16hashCode 35 = .ok (.goto (-27), 3) := dk_167 255 229 (dk_at dksJ8_utf16hashCode_1 12 rfl rfl)
theorem dJ8_utf16hashCode_38 : decode cJ8_utf16hashCode 38 = .ok (.iload_n 0, 1) := dk_26 (dk_at dksJ8_utf16hashCode_1 15 rfl rfl)
theorem dJ8_utf16hashCode_39 : decode cJ8_utf16hashCode 39 = .ok (.ireturn, 1) := dk_172 (dk_at dksJ8_utf16hashCode_1 16 rfl rfl)
abbrev cJ8_hashCode : ByteArray := prog_82_method_7_code
def yJ8_hashCode : MethodName := ⟨RJ8, "hashCode", "(I[CII)I"⟩
def dkwJ8_hashCode_1 : List UInt8 := [59, 132, 5, 1, 167, 255, 236, 26, 172]
abbrev dktJ8_hashCode_1 : List UInt8 := dkwJ8_hashCode_1 ++ []
def dkwJ8_hashCode_0 : List UInt8 := [28, 29, 96, 54, 4, 28, 54, 5, 21, 5, 21, 4, 162, 0, 19, 16, 31, 26, 104, 43, 21, 5, 52, 96]
abbrev dktJ8_hashCode_0 : List UInt8 := dkwJ8_hashCode_0 ++ dktJ8_hashCode_1
theorem dksJ8_hashCode_0 : cJ8_hashCode.data.toList.drop 0 = dktJ8_hashCode_0 := by decide +kernel
theorem dksJ8_hashCode_1 : cJ8_hashCode.data.toList.drop 24 = dktJ8_hashCode_1 := dk_seg dksJ8_hashCode_0 24 rfl rfl
theorem dJ8_hashCode_0 : decode cJ8_hashCode 0 = .ok (.iload_n 2, 1) := dk_28 (dk_at dksJ8_hashCode_0 0 rfl rfl)
theorem dJ8_hashCode_1 : decode cJ8_hashCode 1 = .ok (.iload_n 3, 1) := dk_29 (dk_at dksJ8_hashCode_0 1 rfl rfl)
theorem dJ8_hashCode_2 : decode cJ8_hashCode 2 = .ok (.iadd, 1) := dk_96 (dk_at dksJ8_hashCode_0 2 rfl rfl)
theorem dJ8_hashCode_3 : decode cJ8_hashCode 3 = .ok (.istore 4, 2) := dk_54 4 (dk_at dksJ8_hashCode_0 3 rfl rfl)
theorem dJ8_hashCode_5 : decode cJ8_hashCode 5 = .ok (.iload_n 2, 1) := dk_28 (dk_at dksJ8_hashCode_0 5 rfl rfl)
theorem dJ8_hashCode_6 : decode cJ8_hashCode 6 = .ok (.istore 5, 2) := dk_54 5 (dk_at dksJ8_hashCode_0 6 rfl rfl)
theorem dJ8_hashCode_8 : decode cJ8_hashCode 8 = .ok (.iload 5, 2) := dk_21 5 (dk_at dksJ8_hashCode_0 8 rfl rfl)
theorem dJ8_hashCode_10 : decode cJ8_hashCode 10 = .ok (.iload 4, 2) := dk_21 4 (dk_at dksJ8_hashCode_0 10 rfl rfl)
theorem dJ8_hashCode_12 : decode cJ8_hashCode 12 = .ok (.if_icmp .ge 19, 3) := dk_162 0 19 (dk_at dksJ8_hashCode_0 12 rfl rfl)
theorem dJ8_hashCode_15 : decode cJ8_hashCode 15 = .ok (.bipush 31, 2) := dk_16 31 (dk_at dksJ8_hashCode_0 15 rfl rfl)
theorem dJ8_hashCode_17 : decode cJ8_hashCode 17 = .ok (.iload_n 0, 1) := dk_26 (dk_at dksJ8_hashCode_0 17 rfl rfl)
theorem dJ8_hashCode_18 : decode cJ8_hashCode 18 = .ok (.imul, 1) := dk_104 (dk_at dksJ8_hashCode_0 18 rfl rfl)
theorem dJ8_hashCode_19 : decode cJ8_hashCode 19 = .ok (.aload_n 1, 1) := dk_43 (dk_at dksJ8_hashCode_0 19 rfl rfl)
theorem dJ8_hashCode_20 : decode cJ8_hashCode 20 = .ok (.iload 5, 2) := dk_21 5 (dk_at dksJ8_hashCode_0 20 rfl rfl)
theorem dJ8_hashCode_22 : decode cJ8_hashCode 22 = .ok (.caload, 1) := dk_52 (dk_at dksJ8_hashCode_0 22 rfl rfl)
theorem dJ8_hashCode_23 : decode cJ8_hashCode 23 = .ok (.iadd, 1) := dk_96 (dk_at dksJ8_hashCode_0 23 rfl rfl)
theorem dJ8_hashCode_24 : decode cJ8_hashCode 24 = .ok (.istore_n 0, 1) := dk_59 (dk_at dksJ8_hashCode_1 0 rfl rfl)
theorem dJ8_hashCode_25 : decode cJ8_hashCode 25 = .ok (.iinc 5 1, 3) := dk_132 5 1 (dk_at dksJ8_hashCode_1 1 rfl rfl)
theorem dJ8_hashCode_28 : decode cJ8_hashCode 28 = .ok (.goto (-20), 3) := dk_167 255 236 (dk_at dksJ8_hashCode_1 4 rfl rfl)
theorem dJ8_hashCode_31 : decode cJ8_hashCode 31 = .ok (.iload_n 0, 1) := dk_26 (dk_at dksJ8_hashCode_1 7 rfl rfl)
theorem dJ8_hashCode_32 : decode cJ8_hashCode 32 = .ok (.ireturn, 1) := dk_172 (dk_at dksJ8_hashCode_1 8 rfl rfl)
abbrev cJ8_hashCode_2 : ByteArray := prog_82_method_6_code
def yJ8_hashCode_2 : MethodName := ⟨RJ8, "hashCode", "(I[BII)I"⟩
def dkwJ8_hashCode_2_1 : List UInt8 := [59, 132, 5, 1, 167, 255, 236, 26, 172]
abbrev dktJ8_hashCode_2_1 : List UInt8 := dkwJ8_hashCode_2_1 ++ []
def dkwJ8_hashCode_2_0 : List UInt8 := [28, 29, 96, 54, 4, 28, 54, 5, 21, 5, 21, 4, 162, 0, 19, 16, 31, 26, 104, 43, 21, 5, 51, 96]
abbrev dktJ8_hashCode_2_0 : List UInt8 := dkwJ8_hashCode_2_0 ++ dktJ8_hashCode_2_1
theorem dksJ8_hashCode_2_0 : cJ8_hashCode_2.data.toList.drop 0 = dktJ8_hashCode_2_0 := by decide +kernel
theorem dksJ8_hashCode_2_1 : cJ8_hashCode_2.data.toList.drop 24 = dktJ8_hashCode_2_1 := dk_seg dksJ8_hashCode_2_0 24 rfl rfl
theorem dJ8_hashCode_2_0 : decode cJ8_hashCode_2 0 = .ok (.iload_n 2, 1) := dk_28 (dk_at dksJ8_hashCode_2_0 0 rfl rfl)
theorem dJ8_hashCode_2_1 : decode cJ8_hashCode_2 1 = .ok (.iload_n 3, 1) := dk_29 (dk_at dksJ8_hashCode_2_0 1 rfl rfl)
theorem dJ8_hashCode_2_2 : decode cJ8_hashCode_2 2 = .ok (.iadd, 1) := dk_96 (dk_at dksJ8_hashCode_2_0 2 rfl rfl)
theorem dJ8_hashCode_2_3 : decode cJ8_hashCode_2 3 = .ok (.istore 4, 2) := dk_54 4 (dk_at dksJ8_hashCode_2_0 3 rfl rfl)
theorem dJ8_hashCode_2_5 : decode cJ8_hashCode_2 5 = .ok (.iload_n 2, 1) := dk_28 (dk_at dksJ8_hashCode_2_0 5 rfl rfl)
theorem dJ8_hashCode_2_6 : decode cJ8_hashCode_2 6 = .ok (.istore 5, 2) := dk_54 5 (dk_at dksJ8_hashCode_2_0 6 rfl rfl)
theorem dJ8_hashCode_2_8 : decode cJ8_hashCode_2 8 = .ok (.iload 5, 2) := dk_21 5 (dk_at dksJ8_hashCode_2_0 8 rfl rfl)
theorem dJ8_hashCode_2_10 : decode cJ8_hashCode_2 10 = .ok (.iload 4, 2) := dk_21 4 (dk_at dksJ8_hashCode_2_0 10 rfl rfl)
theorem dJ8_hashCode_2_12 : decode cJ8_hashCode_2 12 = .ok (.if_icmp .ge 19, 3) := dk_162 0 19 (dk_at dksJ8_hashCode_2_0 12 rfl rfl)
theorem dJ8_hashCode_2_15 : decode cJ8_hashCode_2 15 = .ok (.bipush 31, 2) := dk_16 31 (dk_at dksJ8_hashCode_2_0 15 rfl rfl)
theorem dJ8_hashCode_2_17 : decode cJ8_hashCode_2 17 = .ok (.iload_n 0, 1) := dk_26 (dk_at dksJ8_hashCode_2_0 17 rfl rfl)
theorem dJ8_hashCode_2_18 : decode cJ8_hashCode_2 18 = .ok (.imul, 1) := dk_104 (dk_at dksJ8_hashCode_2_0 18 rfl rfl)
theorem dJ8_hashCode_2_19 : decode cJ8_hashCode_2 19 = .ok (.aload_n 1, 1) := dk_43 (dk_at dksJ8_hashCode_2_0 19 rfl rfl)
theorem dJ8_hashCode_2_20 : decode cJ8_hashCode_2 20 = .ok (.iload 5, 2) := dk_21 5 (dk_at dksJ8_hashCode_2_0 20 rfl rfl)
theorem dJ8_hashCode_2_22 : decode cJ8_hashCode_2 22 = .ok (.baload, 1) := dk_51 (dk_at dksJ8_hashCode_2_0 22 rfl rfl)
theorem dJ8_hashCode_2_23 : decode cJ8_hashCode_2 23 = .ok (.iadd, 1) := dk_96 (dk_at dksJ8_hashCode_2_0 23 rfl rfl)
theorem dJ8_hashCode_2_24 : decode cJ8_hashCode_2 24 = .ok (.istore_n 0, 1) := dk_59 (dk_at dksJ8_hashCode_2_1 0 rfl rfl)
theorem dJ8_hashCode_2_25 : decode cJ8_hashCode_2 25 = .ok (.iinc 5 1, 3) := dk_132 5 1 (dk_at dksJ8_hashCode_2_1 1 rfl rfl)
theorem dJ8_hashCode_2_28 : decode cJ8_hashCode_2 28 = .ok (.goto (-20), 3) := dk_167 255 236 (dk_at dksJ8_hashCode_2_1 4 rfl rfl)
theorem dJ8_hashCode_2_31 : decode cJ8_hashCode_2 31 = .ok (.iload_n 0, 1) := dk_26 (dk_at dksJ8_hashCode_2_1 7 rfl rfl)
theorem dJ8_hashCode_2_32 : decode cJ8_hashCode_2 32 = .ok (.ireturn, 1) := dk_172 (dk_at dksJ8_hashCode_2_1 8 rfl rfl)
abbrev cJ8_hashCode_3 : ByteArray := prog_82_method_8_code
def yJ8_hashCode_3 : MethodName := ⟨RJ8, "hashCode", "(I[SII)I"⟩
def dkwJ8_hashCode_3_1 : List UInt8 := [59, 132, 5, 1, 167, 255, 236, 26, 172]
abbrev dktJ8_hashCode_3_1 : List UInt8 := dkwJ8_hashCode_3_1 ++ []
def dkwJ8_hashCode_3_0 : List UInt8 := [28, 29, 96, 54, 4, 28, 54, 5, 21, 5, 21, 4, 162, 0, 19, 16, 31, 26, 104, 43, 21, 5, 53, 96]
abbrev dktJ8_hashCode_3_0 : List UInt8 := dkwJ8_hashCode_3_0 ++ dktJ8_hashCode_3_1
theorem dksJ8_hashCode_3_0 : cJ8_hashCode_3.data.toList.drop 0 = dktJ8_hashCode_3_0 := by decide +kernel
theorem dksJ8_hashCode_3_1 : cJ8_hashCode_3.data.toList.drop 24 = dktJ8_hashCode_3_1 := dk_seg dksJ8_hashCode_3_0 24 rfl rfl
theorem dJ8_hashCode_3_0 : decode cJ8_hashCode_3 0 = .ok (.iload_n 2, 1) := dk_28 (dk_at dksJ8_hashCode_3_0 0 rfl rfl)
theorem dJ8_hashCode_3_1 : decode cJ8_hashCode_3 1 = .ok (.iload_n 3, 1) := dk_29 (dk_at dksJ8_hashCode_3_0 1 rfl rfl)
theorem dJ8_hashCode_3_2 : decode cJ8_hashCode_3 2 = .ok (.iadd, 1) := dk_96 (dk_at dksJ8_hashCode_3_0 2 rfl rfl)
theorem dJ8_hashCode_3_3 : decode cJ8_hashCode_3 3 = .ok (.istore 4, 2) := dk_54 4 (dk_at dksJ8_hashCode_3_0 3 rfl rfl)
theorem dJ8_hashCode_3_5 : decode cJ8_hashCode_3 5 = .ok (.iload_n 2, 1) := dk_28 (dk_at dksJ8_hashCode_3_0 5 rfl rfl)
theorem dJ8_hashCode_3_6 : decode cJ8_hashCode_3 6 = .ok (.istore 5, 2) := dk_54 5 (dk_at dksJ8_hashCode_3_0 6 rfl rfl)
theorem dJ8_hashCode_3_8 : decode cJ8_hashCode_3 8 = .ok (.iload 5, 2) := dk_21 5 (dk_at dksJ8_hashCode_3_0 8 rfl rfl)
theorem dJ8_hashCode_3_10 : decode cJ8_hashCode_3 10 = .ok (.iload 4, 2) := dk_21 4 (dk_at dksJ8_hashCode_3_0 10 rfl rfl)
theorem dJ8_hashCode_3_12 : decode cJ8_hashCode_3 12 = .ok (.if_icmp .ge 19, 3) := dk_162 0 19 (dk_at dksJ8_hashCode_3_0 12 rfl rfl)
theorem dJ8_hashCode_3_15 : decode cJ8_hashCode_3 15 = .ok (.bipush 31, 2) := dk_16 31 (dk_at dksJ8_hashCode_3_0 15 rfl rfl)
theorem dJ8_hashCode_3_17 : decode cJ8_hashCode_3 17 = .ok (.iload_n 0, 1) := dk_26 (dk_at dksJ8_hashCode_3_0 17 rfl rfl)
theorem dJ8_hashCode_3_18 : decode cJ8_hashCode_3 18 = .ok (.imul, 1) := dk_104 (dk_at dksJ8_hashCode_3_0 18 rfl rfl)
theorem dJ8_hashCode_3_19 : decode cJ8_hashCode_3 19 = .ok (.aload_n 1, 1) := dk_43 (dk_at dksJ8_hashCode_3_0 19 rfl rfl)
theorem dJ8_hashCode_3_20 : decode cJ8_hashCode_3 20 = .ok (.iload 5, 2) := dk_21 5 (dk_at dksJ8_hashCode_3_0 20 rfl rfl)
theorem dJ8_hashCode_3_22 : decode cJ8_hashCode_3 22 = .ok (.saload, 1) := dk_53 (dk_at dksJ8_hashCode_3_0 22 rfl rfl)
theorem dJ8_hashCode_3_23 : decode cJ8_hashCode_3 23 = .ok (.iadd, 1) := dk_96 (dk_at dksJ8_hashCode_3_0 23 rfl rfl)
theorem dJ8_hashCode_3_24 : decode cJ8_hashCode_3 24 = .ok (.istore_n 0, 1) := dk_59 (dk_at dksJ8_hashCode_3_1 0 rfl rfl)
theorem dJ8_hashCode_3_25 : decode cJ8_hashCode_3 25 = .ok (.iinc 5 1, 3) := dk_132 5 1 (dk_at dksJ8_hashCode_3_1 1 rfl rfl)
theorem dJ8_hashCode_3_28 : decode cJ8_hashCode_3 28 = .ok (.goto (-20), 3) := dk_167 255 236 (dk_at dksJ8_hashCode_3_1 4 rfl rfl)
theorem dJ8_hashCode_3_31 : decode cJ8_hashCode_3 31 = .ok (.iload_n 0, 1) := dk_26 (dk_at dksJ8_hashCode_3_1 7 rfl rfl)
theorem dJ8_hashCode_3_32 : decode cJ8_hashCode_3 32 = .ok (.ireturn, 1) := dk_172 (dk_at dksJ8_hashCode_3_1 8 rfl rfl)
abbrev cJ8_hashCode_4 : ByteArray := prog_82_method_9_code
def yJ8_hashCode_4 : MethodName := ⟨RJ8, "hashCode", "(I[III)I"⟩
def dkwJ8_hashCode_4_1 : List UInt8 := [59, 132, 5, 1, 167, 255, 236, 26, 172]
abbrev dktJ8_hashCode_4_1 : List UInt8 := dkwJ8_hashCode_4_1 ++ []
def dkwJ8_hashCode_4_0 : List UInt8 := [28, 29, 96, 54, 4, 28, 54, 5, 21, 5, 21, 4, 162, 0, 19, 16, 31, 26, 104, 43, 21, 5, 46, 96]
abbrev dktJ8_hashCode_4_0 : List UInt8 := dkwJ8_hashCode_4_0 ++ dktJ8_hashCode_4_1
theorem dksJ8_hashCode_4_0 : cJ8_hashCode_4.data.toList.drop 0 = dktJ8_hashCode_4_0 := by decide +kernel
theorem dksJ8_hashCode_4_1 : cJ8_hashCode_4.data.toList.drop 24 = dktJ8_hashCode_4_1 := dk_seg dksJ8_hashCode_4_0 24 rfl rfl
theorem dJ8_hashCode_4_0 : decode cJ8_hashCode_4 0 = .ok (.iload_n 2, 1) := dk_28 (dk_at dksJ8_hashCode_4_0 0 rfl rfl)
theorem dJ8_hashCode_4_1 : decode cJ8_hashCode_4 1 = .ok (.iload_n 3, 1) := dk_29 (dk_at dksJ8_hashCode_4_0 1 rfl rfl)
theorem dJ8_hashCode_4_2 : decode cJ8_hashCode_4 2 = .ok (.iadd, 1) := dk_96 (dk_at dksJ8_hashCode_4_0 2 rfl rfl)
theorem dJ8_hashCode_4_3 : decode cJ8_hashCode_4 3 = .ok (.istore 4, 2) := dk_54 4 (dk_at dksJ8_hashCode_4_0 3 rfl rfl)
theorem dJ8_hashCode_4_5 : decode cJ8_hashCode_4 5 = .ok (.iload_n 2, 1) := dk_28 (dk_at dksJ8_hashCode_4_0 5 rfl rfl)
theorem dJ8_hashCode_4_6 : decode cJ8_hashCode_4 6 = .ok (.istore 5, 2) := dk_54 5 (dk_at dksJ8_hashCode_4_0 6 rfl rfl)
theorem dJ8_hashCode_4_8 : decode cJ8_hashCode_4 8 = .ok (.iload 5, 2) := dk_21 5 (dk_at dksJ8_hashCode_4_0 8 rfl rfl)
theorem dJ8_hashCode_4_10 : decode cJ8_hashCode_4 10 = .ok (.iload 4, 2) := dk_21 4 (dk_at dksJ8_hashCode_4_0 10 rfl rfl)
theorem dJ8_hashCode_4_12 : decode cJ8_hashCode_4 12 = .ok (.if_icmp .ge 19, 3) := dk_162 0 19 (dk_at dksJ8_hashCode_4_0 12 rfl rfl)
theorem dJ8_hashCode_4_15 : decode cJ8_hashCode_4 15 = .ok (.bipush 31, 2) := dk_16 31 (dk_at dksJ8_hashCode_4_0 15 rfl rfl)
theorem dJ8_hashCode_4_17 : decode cJ8_hashCode_4 17 = .ok (.iload_n 0, 1) := dk_26 (dk_at dksJ8_hashCode_4_0 17 rfl rfl)
theorem dJ8_hashCode_4_18 : decode cJ8_hashCode_4 18 = .ok (.imul, 1) := dk_104 (dk_at dksJ8_hashCode_4_0 18 rfl rfl)
theorem dJ8_hashCode_4_19 : decode cJ8_hashCode_4 19 = .ok (.aload_n 1, 1) := dk_43 (dk_at dksJ8_hashCode_4_0 19 rfl rfl)
theorem dJ8_hashCode_4_20 : decode cJ8_hashCode_4 20 = .ok (.iload 5, 2) := dk_21 5 (dk_at dksJ8_hashCode_4_0 20 rfl rfl)
theorem dJ8_hashCode_4_22 : decode cJ8_hashCode_4 22 = .ok (.iaload, 1) := dk_46 (dk_at dksJ8_hashCode_4_0 22 rfl rfl)
theorem dJ8_hashCode_4_23 : decode cJ8_hashCode_4 23 = .ok (.iadd, 1) := dk_96 (dk_at dksJ8_hashCode_4_0 23 rfl rfl)
theorem dJ8_hashCode_4_24 : decode cJ8_hashCode_4 24 = .ok (.istore_n 0, 1) := dk_59 (dk_at dksJ8_hashCode_4_1 0 rfl rfl)
theorem dJ8_hashCode_4_25 : decode cJ8_hashCode_4 25 = .ok (.iinc 5 1, 3) := dk_132 5 1 (dk_at dksJ8_hashCode_4_1 1 rfl rfl)
theorem dJ8_hashCode_4_28 : decode cJ8_hashCode_4 28 = .ok (.goto (-20), 3) := dk_167 255 236 (dk_at dksJ8_hashCode_4_1 4 rfl rfl)
theorem dJ8_hashCode_4_31 : decode cJ8_hashCode_4 31 = .ok (.iload_n 0, 1) := dk_26 (dk_at dksJ8_hashCode_4_1 7 rfl rfl)
theorem dJ8_hashCode_4_32 : decode cJ8_hashCode_4 32 = .ok (.ireturn, 1) := dk_172 (dk_at dksJ8_hashCode_4_1 8 rfl rfl)
abbrev cJ8_newLength : ByteArray := prog_82_method_27_code
def yJ8_newLength : MethodName := ⟨RJ8, "newLength", "(III)I"⟩
def dkwJ8_newLength_1 : List UInt8 := [184, 0, 201, 172]
abbrev dktJ8_newLength_1 : List UInt8 := dkwJ8_newLength_1 ++ []
def dkwJ8_newLength_0 : List UInt8 := [26, 27, 28, 184, 0, 194, 96, 62, 3, 29, 162, 0, 11, 29, 18, 200, 163, 0, 5, 29, 172, 26, 27]
abbrev dktJ8_newLength_0 : List UInt8 := dkwJ8_newLength_0 ++ dktJ8_newLength_1
theorem dksJ8_newLength_0 : cJ8_newLength.data.toList.drop 0 = dktJ8_newLength_0 := by decide +kernel
theorem dksJ8_newLength_1 : cJ8_newLength.data.toList.drop 23 = dktJ8_newLength_1 := dk_seg dksJ8_newLength_0 23 rfl rfl
theorem dJ8_newLength_0 : decode cJ8_newLength 0 = .ok (.iload_n 0, 1) := dk_26 (dk_at dksJ8_newLength_0 0 rfl rfl)
theorem dJ8_newLength_1 : decode cJ8_newLength 1 = .ok (.iload_n 1, 1) := dk_27 (dk_at dksJ8_newLength_0 1 rfl rfl)
theorem dJ8_newLength_2 : decode cJ8_newLength 2 = .ok (.iload_n 2, 1) := dk_28 (dk_at dksJ8_newLength_0 2 rfl rfl)
theorem dJ8_newLength_3 : decode cJ8_newLength 3 = .ok (.invokestatic 194, 3) := dk_184 0 194 (dk_at dksJ8_newLength_0 3 rfl rfl)
theorem dJ8_newLength_6 : decode cJ8_newLength 6 = .ok (.iadd, 1) := dk_96 (dk_at dksJ8_newLength_0 6 rfl rfl)
theorem dJ8_newLength_7 : decode cJ8_newLength 7 = .ok (.istore_n 3, 1) := dk_62 (dk_at dksJ8_newLength_0 7 rfl rfl)
theorem dJ8_newLength_8 : decode cJ8_newLength 8 = .ok (.iconst 0, 1) := dk_3 (dk_at dksJ8_newLength_0 8 rfl rfl)
theorem dJ8_newLength_9 : decode cJ8_newLength 9 = .ok (.iload_n 3, 1) := dk_29 (dk_at dksJ8_newLength_0 9 rfl rfl)
theorem dJ8_newLength_10 : decode cJ8_newLength 10 = .ok (.if_icmp .ge 11, 3) := dk_162 0 11 (dk_at dksJ8_newLength_0 10 rfl rfl)
theorem dJ8_newLength_13 : decode cJ8_newLength 13 = .ok (.iload_n 3, 1) := dk_29 (dk_at dksJ8_newLength_0 13 rfl rfl)
theorem dJ8_newLength_14 : decode cJ8_newLength 14 = .ok (.ldc 200, 2) := dk_18 200 (dk_at dksJ8_newLength_0 14 rfl rfl)
theorem dJ8_newLength_16 : decode cJ8_newLength 16 = .ok (.if_icmp .gt 5, 3) := dk_163 0 5 (dk_at dksJ8_newLength_0 16 rfl rfl)
theorem dJ8_newLength_19 : decode cJ8_newLength 19 = .ok (.iload_n 3, 1) := dk_29 (dk_at dksJ8_newLength_0 19 rfl rfl)
theorem dJ8_newLength_20 : decode cJ8_newLength 20 = .ok (.ireturn, 1) := dk_172 (dk_at dksJ8_newLength_0 20 rfl rfl)
theorem dJ8_newLength_21 : decode cJ8_newLength 21 = .ok (.iload_n 0, 1) := dk_26 (dk_at dksJ8_newLength_0 21 rfl rfl)
theorem dJ8_newLength_22 : decode cJ8_newLength 22 = .ok (.iload_n 1, 1) := dk_27 (dk_at dksJ8_newLength_0 22 rfl rfl)
theorem dJ8_newLength_23 : decode cJ8_newLength 23 = .ok (.invokestatic 201, 3) := dk_184 0 201 (dk_at dksJ8_newLength_1 0 rfl rfl)
theorem dJ8_newLength_26 : decode cJ8_newLength 26 = .ok (.ireturn, 1) := dk_172 (dk_at dksJ8_newLength_1 3 rfl rfl)
abbrev cJ8_hugeLength : ByteArray := prog_82_method_28_code
def yJ8_hugeLength : MethodName := ⟨RJ8, "hugeLength", "(II)I"⟩
def dkwJ8_hugeLength_2 : List UInt8 := [191, 28, 18, 200, 163, 0, 6, 18, 200, 172, 28, 172]
abbrev dktJ8_hugeLength_2 : List UInt8 := dkwJ8_hugeLength_2 ++ []
def dkwJ8_hugeLength_1 : List UInt8 := [26, 182, 0, 98, 18, 208, 182, 0, 94, 27, 182, 0, 98, 18, 210, 182, 0, 94, 182, 0, 101, 183, 0, 212]
abbrev dktJ8_hugeLength_1 : List UInt8 := dkwJ8_hugeLength_1 ++ dktJ8_hugeLength_2
def dkwJ8_hugeLength_0 : List UInt8 := [26, 27, 96, 61, 28, 156, 0, 44, 187, 0, 204, 89, 187, 0, 89, 89, 183, 0, 91, 18, 206, 182, 0, 94]
abbrev dktJ8_hugeLength_0 : List UInt8 := dkwJ8_hugeLength_0 ++ dktJ8_hugeLength_1
theorem dksJ8_hugeLength_0 : cJ8_hugeLength.data.toList.drop 0 = dktJ8_hugeLength_0 := by decide +kernel
theorem dksJ8_hugeLength_1 : cJ8_hugeLength.data.toList.drop 24 = dktJ8_hugeLength_1 := dk_seg dksJ8_hugeLength_0 24 rfl rfl
theorem dksJ8_hugeLength_2 : cJ8_hugeLength.data.toList.drop 48 = dktJ8_hugeLength_2 := dk_seg dksJ8_hugeLength_1 24 rfl rfl
theorem dJ8_hugeLength_0 : decode cJ8_hugeLength 0 = .ok (.iload_n 0, 1) := dk_26 (dk_at dksJ8_hugeLength_0 0 rfl rfl)
theorem dJ8_hugeLength_1 : decode cJ8_hugeLength 1 = .ok (.iload_n 1, 1) := dk_27 (dk_at dksJ8_hugeLength_0 1 rfl rfl)
theorem dJ8_hugeLength_2 : decode cJ8_hugeLength 2 = .ok (.iadd, 1) := dk_96 (dk_at dksJ8_hugeLength_0 2 rfl rfl)
theorem dJ8_hugeLength_3 : decode cJ8_hugeLength 3 = .ok (.istore_n 2, 1) := dk_61 (dk_at dksJ8_hugeLength_0 3 rfl rfl)
theorem dJ8_hugeLength_4 : decode cJ8_hugeLength 4 = .ok (.iload_n 2, 1) := dk_28 (dk_at dksJ8_hugeLength_0 4 rfl rfl)
theorem dJ8_hugeLength_5 : decode cJ8_hugeLength 5 = .ok (.ifCond .ge 44, 3) := dk_156 0 44 (dk_at dksJ8_hugeLength_0 5 rfl rfl)
theorem dJ8_hugeLength_8 : decode cJ8_hugeLength 8 = .ok (.new 204, 3) := dk_187 0 204 (dk_at dksJ8_hugeLength_0 8 rfl rfl)
theorem dJ8_hugeLength_11 : decode cJ8_hugeLength 11 = .ok (.dup, 1) := dk_89 (dk_at dksJ8_hugeLength_0 11 rfl rfl)
theorem dJ8_hugeLength_12 : decode cJ8_hugeLength 12 = .ok (.new 89, 3) := dk_187 0 89 (dk_at dksJ8_hugeLength_0 12 rfl rfl)
theorem dJ8_hugeLength_15 : decode cJ8_hugeLength 15 = .ok (.dup, 1) := dk_89 (dk_at dksJ8_hugeLength_0 15 rfl rfl)
theorem dJ8_hugeLength_16 : decode cJ8_hugeLength 16 = .ok (.invokespecial 91, 3) := dk_183 0 91 (dk_at dksJ8_hugeLength_0 16 rfl rfl)
theorem dJ8_hugeLength_19 : decode cJ8_hugeLength 19 = .ok (.ldc 206, 2) := dk_18 206 (dk_at dksJ8_hugeLength_0 19 rfl rfl)
theorem dJ8_hugeLength_21 : decode cJ8_hugeLength 21 = .ok (.invokevirtual 94, 3) := dk_182 0 94 (dk_at dksJ8_hugeLength_0 21 rfl rfl)
theorem dJ8_hugeLength_24 : decode cJ8_hugeLength 24 = .ok (.iload_n 0, 1) := dk_26 (dk_at dksJ8_hugeLength_1 0 rfl rfl)
theorem dJ8_hugeLength_25 : decode cJ8_hugeLength 25 = .ok (.invokevirtual 98, 3) := dk_182 0 98 (dk_at dksJ8_hugeLength_1 1 rfl rfl)
theorem dJ8_hugeLength_28 : decode cJ8_hugeLength 28 = .ok (.ldc 208, 2) := dk_18 208 (dk_at dksJ8_hugeLength_1 4 rfl rfl)
theorem dJ8_hugeLength_30 : decode cJ8_hugeLength 30 = .ok (.invokevirtual 94, 3) := dk_182 0 94 (dk_at dksJ8_hugeLength_1 6 rfl rfl)
theorem dJ8_hugeLength_33 : decode cJ8_hugeLength 33 = .ok (.iload_n 1, 1) := dk_27 (dk_at dksJ8_hugeLength_1 9 rfl rfl)
theorem dJ8_hugeLength_34 : decode cJ8_hugeLength 34 = .ok (.invokevirtual 98, 3) := dk_182 0 98 (dk_at dksJ8_hugeLength_1 10 rfl rfl)
theorem dJ8_hugeLength_37 : decode cJ8_hugeLength 37 = .ok (.ldc 210, 2) := dk_18 210 (dk_at dksJ8_hugeLength_1 13 rfl rfl)
theorem dJ8_hugeLength_39 : decode cJ8_hugeLength 39 = .ok (.invokevirtual 94, 3) := dk_182 0 94 (dk_at dksJ8_hugeLength_1 15 rfl rfl)
theorem dJ8_hugeLength_42 : decode cJ8_hugeLength 42 = .ok (.invokevirtual 101, 3) := dk_182 0 101 (dk_at dksJ8_hugeLength_1 18 rfl rfl)
theorem dJ8_hugeLength_45 : decode cJ8_hugeLength 45 = .ok (.invokespecial 212, 3) := dk_183 0 212 (dk_at dksJ8_hugeLength_1 21 rfl rfl)
theorem dJ8_hugeLength_48 : decode cJ8_hugeLength 48 = .ok (.athrow, 1) := dk_191 (dk_at dksJ8_hugeLength_2 0 rfl rfl)
theorem dJ8_hugeLength_49 : decode cJ8_hugeLength 49 = .ok (.iload_n 2, 1) := dk_28 (dk_at dksJ8_hugeLength_2 1 rfl rfl)
theorem dJ8_hugeLength_50 : decode cJ8_hugeLength 50 = .ok (.ldc 200, 2) := dk_18 200 (dk_at dksJ8_hugeLength_2 2 rfl rfl)
theorem dJ8_hugeLength_52 : decode cJ8_hugeLength 52 = .ok (.if_icmp .gt 6, 3) := dk_163 0 6 (dk_at dksJ8_hugeLength_2 4 rfl rfl)
theorem dJ8_hugeLength_55 : decode cJ8_hugeLength 55 = .ok (.ldc 200, 2) := dk_18 200 (dk_at dksJ8_hugeLength_2 7 rfl rfl)
theorem dJ8_hugeLength_57 : decode cJ8_hugeLength 57 = .ok (.ireturn, 1) := dk_172 (dk_at dksJ8_hugeLength_2 9 rfl rfl)
theorem dJ8_hugeLength_58 : decode cJ8_hugeLength 58 = .ok (.iload_n 2, 1) := dk_28 (dk_at dksJ8_hugeLength_2 10 rfl rfl)
theorem dJ8_hugeLength_59 : decode cJ8_hugeLength 59 = .ok (.ireturn, 1) := dk_172 (dk_at dksJ8_hugeLength_2 11 rfl rfl)
theorem q138 : (Jvm.Cond.initialized "jdk/internal/util/ArraysSupport") ∈ lw_all := lw_g (lw_at lw_m1 14 rfl) rfl
theorem q409 : (Jvm.Cond.static ({ cls := "jdk/internal/util/ArraysSupport", name := "mismatch", desc := "([B[BI)I" } : Jvm.MethodName)) ∈ lw_all := lw_g (lw_at lw_m2 45 rfl) rfl
theorem q410 : (Jvm.Cond.code ({ cls := "jdk/internal/util/ArraysSupport", name := "mismatch", desc := "([B[BI)I" } : Jvm.MethodName) prog_82_method_13_code (4 : Nat) (Option.some Jvm.ClassFile.FieldType.int)) ∈ lw_all := lw_g (lw_at lw_m2 46 rfl) rfl
theorem q411 : (Jvm.Cond.fieldLink "jdk/internal/util/ArraysSupport" (126 : Nat) "jdk/internal/misc/Unsafe" "ARRAY_BYTE_BASE_OFFSET" "I") ∈ lw_all := lw_g (lw_at lw_m2 47 rfl) rfl
theorem q413 : (Jvm.Cond.fieldLink "jdk/internal/util/ArraysSupport" (129 : Nat) "jdk/internal/util/ArraysSupport" "LOG2_ARRAY_BYTE_INDEX_SCALE" "I") ∈ lw_all := lw_g (lw_at lw_m2 49 rfl) rfl
theorem q414 : (Jvm.Cond.laysStatic "jdk/internal/util/ArraysSupport" "LOG2_ARRAY_BYTE_INDEX_SCALE" "I") ∈ lw_tbl := lw_at lw_m2 50 rfl
theorem q415 : (Jvm.Cond.methodLink "jdk/internal/util/ArraysSupport" (122 : Nat) ({ cls := "jdk/internal/util/ArraysSupport", name := "vectorizedMismatch", desc := "(Ljava/lang/Object;JLjava/lang/Object;JII)I" } : Jvm.MethodName)) ∈ lw_all := lw_g (lw_at lw_m2 51 rfl) rfl
theorem q416 : (Jvm.Cond.static ({ cls := "jdk/internal/util/ArraysSupport", name := "vectorizedMismatch", desc := "(Ljava/lang/Object;JLjava/lang/Object;JII)I" } : Jvm.MethodName)) ∈ lw_all := lw_g (lw_at lw_m2 52 rfl) rfl
theorem q417 : (Jvm.Cond.code ({ cls := "jdk/internal/util/ArraysSupport", name := "vectorizedMismatch", desc := "(Ljava/lang/Object;JLjava/lang/Object;JII)I" } : Jvm.MethodName) prog_82_method_3_code (19 : Nat) (Option.some Jvm.ClassFile.FieldType.int)) ∈ lw_all := lw_g (lw_at lw_m2 53 rfl) rfl
theorem q418 : (Jvm.Cond.fieldLink "jdk/internal/util/ArraysSupport" (20 : Nat) "jdk/internal/util/ArraysSupport" "LOG2_ARRAY_LONG_INDEX_SCALE" "I") ∈ lw_all := lw_g (lw_at lw_m2 54 rfl) rfl
theorem q419 : (Jvm.Cond.laysStatic "jdk/internal/util/ArraysSupport" "LOG2_ARRAY_LONG_INDEX_SCALE" "I") ∈ lw_tbl := lw_at lw_m2 55 rfl
theorem q420 : (Jvm.Cond.fieldLink "jdk/internal/util/ArraysSupport" (26 : Nat) "jdk/internal/util/ArraysSupport" "U" "Ljdk/internal/misc/Unsafe;") ∈ lw_all := lw_g (lw_at lw_m2 56 rfl) rfl
theorem q421 : (Jvm.Cond.laysStatic "jdk/internal/util/ArraysSupport" "U" "Ljdk/internal/misc/Unsafe;") ∈ lw_tbl := lw_at lw_m2 57 rfl
theorem q422 : (Jvm.Cond.methodLink "jdk/internal/util/ArraysSupport" (30 : Nat) ({ cls := "jdk/internal/misc/Unsafe", name := "getLongUnaligned", desc := "(Ljava/lang/Object;J)J" } : Jvm.MethodName)) ∈ lw_all := lw_g (lw_at lw_m2 58 rfl) rfl
theorem q474 : (Jvm.Cond.fieldLink "jdk/internal/util/ArraysSupport" (36 : Nat) "jdk/internal/util/ArraysSupport" "BIG_ENDIAN" "Z") ∈ lw_all := lw_g (lw_at lw_m2 110 rfl) rfl
theorem q475 : (Jvm.Cond.laysStatic "jdk/internal/util/ArraysSupport" "BIG_ENDIAN" "Z") ∈ lw_tbl := lw_at lw_m2 111 rfl
theorem q476 : (Jvm.Cond.methodLink "jdk/internal/util/ArraysSupport" (40 : Nat) ({ cls := "java/lang/Long", name := "numberOfLeadingZeros", desc := "(J)I" } : Jvm.MethodName)) ∈ lw_all := lw_g (lw_at lw_m2 112 rfl) rfl
theorem q483 : (Jvm.Cond.fieldLink "jdk/internal/util/ArraysSupport" (46 : Nat) "jdk/internal/util/ArraysSupport" "LOG2_BYTE_BIT_SIZE" "I") ∈ lw_all := lw_g (lw_at lw_m2 119 rfl) rfl
theorem q484 : (Jvm.Cond.laysStatic "jdk/internal/util/ArraysSupport" "LOG2_BYTE_BIT_SIZE" "I") ∈ lw_tbl := lw_at lw_m2 120 rfl
theorem q485 : (Jvm.Cond.methodLink "jdk/internal/util/ArraysSupport" (49 : Nat) ({ cls := "java/lang/Long", name := "numberOfTrailingZeros", desc := "(J)I" } : Jvm.MethodName)) ∈ lw_all := lw_g (lw_at lw_m2 121 rfl) rfl
theorem q491 : (Jvm.Cond.fieldLink "jdk/internal/util/ArraysSupport" (51 : Nat) "jdk/internal/util/ArraysSupport" "LOG2_ARRAY_INT_INDEX_SCALE" "I") ∈ lw_all := lw_g (lw_at lw_m2 127 rfl) rfl
theorem q492 : (Jvm.Cond.laysStatic "jdk/internal/util/ArraysSupport" "LOG2_ARRAY_INT_INDEX_SCALE" "I") ∈ lw_tbl := lw_at lw_m2 128 rfl
theorem q493 : (Jvm.Cond.methodLink "jdk/internal/util/ArraysSupport" (54 : Nat) ({ cls := "jdk/internal/misc/Unsafe", name := "getIntUnaligned", desc := "(Ljava/lang/Object;J)I" } : Jvm.MethodName)) ∈ lw_all := lw_g (lw_at lw_m2 129 rfl) rfl
theorem q510 : (Jvm.Cond.methodLink "jdk/internal/util/ArraysSupport" (58 : Nat) ({ cls := "java/lang/Integer", name := "numberOfLeadingZeros", desc := "(I)I" } : Jvm.MethodName)) ∈ lw_all := lw_g (lw_at lw_m2 146 rfl) rfl
theorem q511 : (Jvm.Cond.methodLink "jdk/internal/util/ArraysSupport" (11 : Nat) ({ cls := "java/lang/Integer", name := "numberOfTrailingZeros", desc := "(I)I" } : Jvm.MethodName)) ∈ lw_all := lw_g (lw_at lw_m2 147 rfl) rfl
theorem q871 : (Jvm.Cond.static ({ cls := "jdk/internal/util/ArraysSupport", name := "vectorizedHashCode", desc := "(Ljava/lang/Object;IIII)I" } : Jvm.MethodName)) ∈ lw_all := lw_g (lw_at lw_m4 27 rfl) rfl
theorem q872 : (Jvm.Cond.code ({ cls := "jdk/internal/util/ArraysSupport", name := "vectorizedHashCode", desc := "(Ljava/lang/Object;IIII)I" } : Jvm.MethodName) prog_82_method_4_code (5 : Nat) (Option.some Jvm.ClassFile.FieldType.int)) ∈ lw_all := lw_g (lw_at lw_m4 28 rfl) rfl
theorem q873 : (Jvm.Cond.classLink "jdk/internal/util/ArraysSupport" (60 : Nat) "[B") ∈ lw_all := lw_g (lw_at lw_m4 29 rfl) rfl
theorem q874 : (Jvm.Cond.methodLink "jdk/internal/util/ArraysSupport" (62 : Nat) ({ cls := "jdk/internal/util/ArraysSupport", name := "signedHashCode", desc := "(I[BII)I" } : Jvm.MethodName)) ∈ lw_all := lw_g (lw_at lw_m4 30 rfl) rfl
theorem q875 : (Jvm.Cond.static ({ cls := "jdk/internal/util/ArraysSupport", name := "signedHashCode", desc := "(I[BII)I" } : Jvm.MethodName)) ∈ lw_all := lw_g (lw_at lw_m4 31 rfl) rfl
theorem q876 : (Jvm.Cond.code ({ cls := "jdk/internal/util/ArraysSupport", name := "signedHashCode", desc := "(I[BII)I" } : Jvm.MethodName) prog_82_method_5_code (6 : Nat) (Option.some Jvm.ClassFile.FieldType.int)) ∈ lw_all := lw_g (lw_at lw_m4 32 rfl) rfl
theorem q877 : (Jvm.Cond.methodLink "jdk/internal/util/ArraysSupport" (66 : Nat) ({ cls := "jdk/internal/util/ArraysSupport", name := "utf16hashCode", desc := "(I[BII)I" } : Jvm.MethodName)) ∈ lw_all := lw_g (lw_at lw_m4 33 rfl) rfl
theorem q878 : (Jvm.Cond.static ({ cls := "jdk/internal/util/ArraysSupport", name := "utf16hashCode", desc := "(I[BII)I" } : Jvm.MethodName)) ∈ lw_all := lw_g (lw_at lw_m4 34 rfl) rfl
theorem q879 : (Jvm.Cond.code ({ cls := "jdk/internal/util/ArraysSupport", name := "utf16hashCode", desc := "(I[BII)I" } : Jvm.MethodName) prog_82_method_10_code (6 : Nat) (Option.some Jvm.ClassFile.FieldType.int)) ∈ lw_all := lw_g (lw_at lw_m4 35 rfl) rfl
theorem q880 : (Jvm.Cond.fieldLink "jdk/internal/util/ArraysSupport" (106 : Nat) "jdk/internal/util/ArraysSupport" "JLA" "Ljdk/internal/access/JavaLangAccess;") ∈ lw_all := lw_g (lw_at lw_m4 36 rfl) rfl
theorem q881 : (Jvm.Cond.laysStatic "jdk/internal/util/ArraysSupport" "JLA" "Ljdk/internal/access/JavaLangAccess;") ∈ lw_tbl := lw_at lw_m4 37 rfl
theorem q882 : (Jvm.Cond.interfaceEntry "jdk/internal/util/ArraysSupport" (110 : Nat)) ∈ lw_tbl := lw_at lw_m4 38 rfl
theorem q883 : (Jvm.Cond.methodLink "jdk/internal/util/ArraysSupport" (110 : Nat) ({ cls := "jdk/internal/access/JavaLangAccess", name := "getUTF16Char", desc := "([BI)C" } : Jvm.MethodName)) ∈ lw_all := lw_g (lw_at lw_m4 39 rfl) rfl
theorem q893 : (Jvm.Cond.classLink "jdk/internal/util/ArraysSupport" (69 : Nat) "[C") ∈ lw_all := lw_g (lw_at lw_m4 49 rfl) rfl
theorem q894 : (Jvm.Cond.methodLink "jdk/internal/util/ArraysSupport" (71 : Nat) ({ cls := "jdk/internal/util/ArraysSupport", name := "hashCode", desc := "(I[CII)I" } : Jvm.MethodName)) ∈ lw_all := lw_g (lw_at lw_m4 50 rfl) rfl
theorem q895 : (Jvm.Cond.static ({ cls := "jdk/internal/util/ArraysSupport", name := "hashCode", desc := "(I[CII)I" } : Jvm.MethodName)) ∈ lw_all := lw_g (lw_at lw_m4 51 rfl) rfl
theorem q896 : (Jvm.Cond.code ({ cls := "jdk/internal/util/ArraysSupport", name := "hashCode", desc := "(I[CII)I" } : Jvm.MethodName) prog_82_method_7_code (6 : Nat) (Option.some Jvm.ClassFile.FieldType.int)) ∈ lw_all := lw_g (lw_at lw_m4 52 rfl) rfl
theorem q897 : (Jvm.Cond.methodLink "jdk/internal/util/ArraysSupport" (75 : Nat) ({ cls := "jdk/internal/util/ArraysSupport", name := "hashCode", desc := "(I[BII)I" } : Jvm.MethodName)) ∈ lw_all := lw_g (lw_at lw_m4 53 rfl) rfl
theorem q898 : (Jvm.Cond.static ({ cls := "jdk/internal/util/ArraysSupport", name := "hashCode", desc := "(I[BII)I" } : Jvm.MethodName)) ∈ lw_all := lw_g (lw_at lw_m4 54 rfl) rfl
theorem q899 : (Jvm.Cond.code ({ cls := "jdk/internal/util/ArraysSupport", name := "hashCode", desc := "(I[BII)I" } : Jvm.MethodName) prog_82_method_6_code (6 : Nat) (Option.some Jvm.ClassFile.FieldType.int)) ∈ lw_all := lw_g (lw_at lw_m4 55 rfl) rfl
theorem q900 : (Jvm.Cond.classLink "jdk/internal/util/ArraysSupport" (77 : Nat) "[S") ∈ lw_all := lw_g (lw_at lw_m4 56 rfl) rfl
theorem q901 : (Jvm.Cond.methodLink "jdk/internal/util/ArraysSupport" (79 : Nat) ({ cls := "jdk/internal/util/ArraysSupport", name := "hashCode", desc := "(I[SII)I" } : Jvm.MethodName)) ∈ lw_all := lw_g (lw_at lw_m4 57 rfl) rfl
theorem q902 : (Jvm.Cond.static ({ cls := "jdk/internal/util/ArraysSupport", name := "hashCode", desc := "(I[SII)I" } : Jvm.MethodName)) ∈ lw_all := lw_g (lw_at lw_m4 58 rfl) rfl
theorem q903 : (Jvm.Cond.code ({ cls := "jdk/internal/util/ArraysSupport", name := "hashCode", desc := "(I[SII)I" } : Jvm.MethodName) prog_82_method_8_code (6 : Nat) (Option.some Jvm.ClassFile.FieldType.int)) ∈ lw_all := lw_g (lw_at lw_m4 59 rfl) rfl
theorem q904 : (Jvm.Cond.classLink "jdk/internal/util/ArraysSupport" (82 : Nat) "[I") ∈ lw_all := lw_g (lw_at lw_m4 60 rfl) rfl
theorem q905 : (Jvm.Cond.methodLink "jdk/internal/util/ArraysSupport" (84 : Nat) ({ cls := "jdk/internal/util/ArraysSupport", name := "hashCode", desc := "(I[III)I" } : Jvm.MethodName)) ∈ lw_all := lw_g (lw_at lw_m4 61 rfl) rfl
theorem q906 : (Jvm.Cond.static ({ cls := "jdk/internal/util/ArraysSupport", name := "hashCode", desc := "(I[III)I" } : Jvm.MethodName)) ∈ lw_all := lw_g (lw_at lw_m4 62 rfl) rfl
theorem q907 : (Jvm.Cond.code ({ cls := "jdk/internal/util/ArraysSupport", name := "hashCode", desc := "(I[III)I" } : Jvm.MethodName) prog_82_method_9_code (6 : Nat) (Option.some Jvm.ClassFile.FieldType.int)) ∈ lw_all := lw_g (lw_at lw_m4 63 rfl) rfl
theorem q1511 : (Jvm.Cond.static ({ cls := "jdk/internal/util/ArraysSupport", name := "newLength", desc := "(III)I" } : Jvm.MethodName)) ∈ lw_all := lw_g (lw_at lw_m6 187 rfl) rfl
theorem q1512 : (Jvm.Cond.code ({ cls := "jdk/internal/util/ArraysSupport", name := "newLength", desc := "(III)I" } : Jvm.MethodName) prog_82_method_27_code (4 : Nat) (Option.some Jvm.ClassFile.FieldType.int)) ∈ lw_all := lw_g (lw_at lw_m6 188 rfl) rfl
theorem q1513 : (Jvm.Cond.methodLink "jdk/internal/util/ArraysSupport" (194 : Nat) ({ cls := "java/lang/Math", name := "max", desc := "(II)I" } : Jvm.MethodName)) ∈ lw_all := lw_g (lw_at lw_m6 189 rfl) rfl
theorem q1516 : (Jvm.Cond.constant "jdk/internal/util/ArraysSupport" (200 : Nat) (2147483639 : Int32)) ∈ lw_all := lw_g (lw_at lw_m6 192 rfl) rfl
theorem q1517 : (Jvm.Cond.methodLink "jdk/internal/util/ArraysSupport" (201 : Nat) ({ cls := "jdk/internal/util/ArraysSupport", name := "hugeLength", desc := "(II)I" } : Jvm.MethodName)) ∈ lw_all := lw_g (lw_at lw_m6 193 rfl) rfl
theorem q1518 : (Jvm.Cond.static ({ cls := "jdk/internal/util/ArraysSupport", name := "hugeLength", desc := "(II)I" } : Jvm.MethodName)) ∈ lw_all := lw_g (lw_at lw_m6 194 rfl) rfl
theorem q1519 : (Jvm.Cond.code ({ cls := "jdk/internal/util/ArraysSupport", name := "hugeLength", desc := "(II)I" } : Jvm.MethodName) prog_82_method_28_code (3 : Nat) (Option.some Jvm.ClassFile.FieldType.int)) ∈ lw_all := lw_g (lw_at lw_m6 195 rfl) rfl
/-! jdk/internal/misc/Unsafe -/
set_option maxRecDepth 100000
def RJ9 : String := "jdk/internal/misc/Unsafe"
abbrev cJ9_getLongUnaligned : ByteArray := prog_80_method_334_code
def yJ9_getLongUnaligned : MethodName := ⟨RJ9, "getLongUnaligned", "(Ljava/lang/Object;J)J"⟩
def dkwJ9_getLongUnaligned_7 : List UInt8 := [182, 0, 39, 184, 2, 197, 173]
abbrev dktJ9_getLongUnaligned_7 : List UInt8 := dkwJ9_getLongUnaligned_7 ++ []
def dkwJ9_getLongUnaligned_6 : List UInt8 := [20, 2, 195, 97, 182, 0, 39, 42, 43, 32, 20, 2, 190, 97, 182, 0, 39, 42, 43, 32, 20, 2, 184, 97]
abbrev dktJ9_getLongUnaligned_6 : List UInt8 := dkwJ9_getLongUnaligned_6 ++ dktJ9_getLongUnaligned_7
def dkwJ9_getLongUnaligned_5 : List UInt8 := [43, 32, 20, 1, 93, 97, 182, 0, 39, 42, 43, 32, 20, 0, 205, 97, 182, 0, 39, 42, 43, 32]
abbrev dktJ9_getLongUnaligned_5 : List UInt8 := dkwJ9_getLongUnaligned_5 ++ dktJ9_getLongUnaligned_6
def dkwJ9_getLongUnaligned_4 : List UInt8 := [43, 32, 182, 0, 39, 42, 43, 32, 10, 97, 182, 0, 39, 42, 43, 32, 20, 0, 203, 97, 182, 0, 39, 42]
abbrev dktJ9_getLongUnaligned_4 : List UInt8 := dkwJ9_getLongUnaligned_4 ++ dktJ9_getLongUnaligned_5
def dkwJ9_getLongUnaligned_3 : List UInt8 := [43, 32, 20, 0, 205, 97, 182, 0, 47, 42, 43, 32, 20, 2, 190, 97, 182, 0, 47, 184, 2, 192, 173, 42]
abbrev dktJ9_getLongUnaligned_3 : List UInt8 := dkwJ9_getLongUnaligned_3 ++ dktJ9_getLongUnaligned_4
def dkwJ9_getLongUnaligned_2 : List UInt8 := [10, 127, 9, 148, 154, 0, 43, 42, 43, 32, 182, 0, 47, 42, 43, 32, 20, 0, 203, 97, 182, 0, 47, 42]
abbrev dktJ9_getLongUnaligned_2 : List UInt8 := dkwJ9_getLongUnaligned_2 ++ dktJ9_getLongUnaligned_3
def dkwJ9_getLongUnaligned_1 : List UInt8 := [154, 0, 23, 42, 43, 32, 182, 0, 17, 42, 43, 32, 20, 0, 205, 97, 182, 0, 17, 184, 2, 186, 173, 32]
abbrev dktJ9_getLongUnaligned_1 : List UInt8 := dkwJ9_getLongUnaligned_1 ++ dktJ9_getLongUnaligned_2
def dkwJ9_getLongUnaligned_0 : List UInt8 := [32, 20, 2, 184, 127, 9, 148, 154, 0, 10, 42, 43, 32, 182, 0, 27, 173, 32, 20, 1, 93, 127, 9, 148]
abbrev dktJ9_getLongUnaligned_0 : List UInt8 := dkwJ9_getLongUnaligned_0 ++ dktJ9_getLongUnaligned_1
theorem dksJ9_getLongUnaligned_0 : cJ9_getLongUnaligned.data.toList.drop 0 = dktJ9_getLongUnaligned_0 := by decide +kernel
theorem dksJ9_getLongUnaligned_1 : cJ9_getLongUnaligned.data.toList.drop 24 = dktJ9_getLongUnaligned_1 := dk_seg dksJ9_getLongUnaligned_0 24 rfl rfl
theorem dksJ9_getLongUnaligned_2 : cJ9_getLongUnaligned.data.toList.drop 48 = dktJ9_getLongUnaligned_2 := dk_seg dksJ9_getLongUnaligned_1 24 rfl rfl
theorem dksJ9_getLongUnaligned_3 : cJ9_getLongUnaligned.data.toList.drop 72 = dktJ9_getLongUnaligned_3 := dk_seg dksJ9_getLongUnaligned_2 24 rfl rfl
theorem dksJ9_getLongUnaligned_4 : cJ9_getLongUnaligned.data.toList.drop 96 = dktJ9_getLongUnaligned_4 := dk_seg dksJ9_getLongUnaligned_3 24 rfl rfl
theorem dksJ9_getLongUnaligned_5 : cJ9_getLongUnaligned.data.toList.drop 120 = dktJ9_getLongUnaligned_5 := dk_seg dksJ9_getLongUnaligned_4 24 rfl rfl
theorem dksJ9_getLongUnaligned_6 : cJ9_getLongUnaligned.data.toList.drop 142 = dktJ9_getLongUnaligned_6 := dk_seg dksJ9_getLongUnaligned_5 22 rfl rfl
theorem dksJ9_getLongUnaligned_7 : cJ9_getLongUnaligned.data.toList.drop 166 = dktJ9_getLongUnaligned_7 := dk_seg dksJ9_getLongUnaligned_6 24 rfl rfl
theorem dJ9_getLongUnaligned_0 : decode cJ9_getLongUnaligned 0 = .ok (.lload_n 2, 1) := dk_32 (dk_at dksJ9_getLongUnaligned_0 0 rfl rfl)
theorem dJ9_getLongUnaligned_1 : decode cJ9_getLongUnaligned 1 = .ok (.ldc2_w 696, 3) := dk_20 2 184 (dk_at dksJ9_getLongUnaligned_0 1 rfl rfl)
theorem dJ9_getLongUnaligned_4 : decode cJ9_getLongUnaligned 4 = .ok (.land, 1) := dk_127 (dk_at dksJ9_getLongUnaligned_0 4 rfl rfl)
theorem dJ9_getLongUnaligned_5 : decode cJ9_getLongUnaligned 5 = .ok (.lconst 0, 1) := dk_9 (dk_at dksJ9_getLongUnaligned_0 5 rfl rfl)
theorem dJ9_getLongUnaligned_6 : decode cJ9_getLongUnaligned 6 = .ok (.lcmp, 1) := dk_148 (dk_at dksJ9_getLongUnaligned_0 6 rfl rfl)
theorem dJ9_getLongUnaligned_7 : decode cJ9_getLongUnaligned 7 = .ok (.ifCond .ne 10, 3) := dk_154 0 10 (dk_at dksJ9_getLongUnaligned_0 7 rfl rfl)
theorem dJ9_getLongUnaligned_10 : decode cJ9_getLongUnaligned 10 = .ok (.aload_n 0, 1) := dk_42 (dk_at dksJ9_getLongUnaligned_0 10 rfl rfl)
theorem dJ9_getLongUnaligned_11 : decode cJ9_getLongUnaligned 11 = .ok (.aload_n 1, 1) := dk_43 (dk_at dksJ9_getLongUnaligned_0 11 rfl rfl)
theorem dJ9_getLongUnaligned_12 : decode cJ9_getLongUnaligned 12 = .ok (.lload_n 2, 1) := dk_32 (dk_at dksJ9_getLongUnaligned_0 12 rfl rfl)
theorem dJ9_getLongUnaligned_13 : decode cJ9_getLongUnaligned 13 = .ok (.invokevirtual 27, 3) := dk_182 0 27 (dk_at dksJ9_getLongUnaligned_0 13 rfl rfl)
theorem dJ9_getLongUnaligned_16 : decode cJ9_getLongUnaligned 16 = .ok (.lreturn, 1) := dk_173 (dk_at dksJ9_getLongUnaligned_0 16 rfl rfl)
theorem dJ9_getLongUnaligned_17 : decode cJ9_getLongUnaligned 17 = .ok (.lload_n 2, 1) := dk_32 (dk_at dksJ9_getLongUnaligned_0 17 rfl rfl)
theorem dJ9_getLongUnaligned_18 : decode cJ9_getLongUnaligned 18 = .ok (.ldc2_w 349, 3) := dk_20 1 93 (dk_at dksJ9_getLongUnaligned_0 18 rfl rfl)
theorem dJ9_getLongUnaligned_21 : decode cJ9_getLongUnaligned 21 = .ok (.land, 1) := dk_127 (dk_at dksJ9_getLongUnaligned_0 21 rfl rfl)
theorem dJ9_getLongUnaligned_22 : decode cJ9_getLongUnaligned 22 = .ok (.lconst 0, 1) := dk_9 (dk_at dksJ9_getLongUnaligned_0 22 rfl rfl)
theorem dJ9_getLongUnaligned_23 : decode cJ9_getLongUnaligned 23 = .ok (.lcmp, 1) := dk_148 (dk_at dksJ9_getLongUnaligned_0 23 rfl rfl)
theorem dJ9_getLongUnaligned_24 : decode cJ9_getLongUnaligned 24 = .ok (.ifCond .ne 23, 3) := dk_154 0 23 (dk_at dksJ9_getLongUnaligned_1 0 rfl rfl)
theorem dJ9_getLongUnaligned_27 : decode cJ9_getLongUnaligned 27 = .ok (.aload_n 0, 1) := dk_42 (dk_at dksJ9_getLongUnaligned_1 3 rfl rfl)
theorem dJ9_getLongUnaligned_28 : decode cJ9_getLongUnaligned 28 = .ok (.aload_n 1, 1) := dk_43 (dk_at dksJ9_getLongUnaligned_1 4 rfl rfl)
theorem dJ9_getLongUnaligned_29 : decode cJ9_getLongUnaligned 29 = .ok (.lload_n 2, 1) := dk_32 (dk_at dksJ9_getLongUnaligned_1 5 rfl rfl)
theorem dJ9_getLongUnaligned_30 : decode cJ9_getLongUnaligned 30 = .ok (.invokevirtual 17, 3) := dk_182 0 17 (dk_at dksJ9_getLongUnaligned_1 6 rfl rfl)
theorem dJ9_getLongUnaligned_33 : decode cJ9_getLongUnaligned 33 = .ok (.aload_n 0, 1) := dk_42 (dk_at dksJ9_getLongUnaligned_1 9 rfl rfl)
theorem dJ9_getLongUnaligned_34 : decode cJ9_getLongUnaligned 34 = .ok (.aload_n 1, 1) := dk_43 (dk_at dksJ9_getLongUnaligned_1 10 rfl rfl)
theorem dJ9_getLongUnaligned_35 : decode cJ9_getLongUnaligned 35 = .ok (.lload_n 2, 1) := dk_32 (dk_at dksJ9_getLongUnaligned_1 11 rfl rfl)
theorem dJ9_getLongUnaligned_36 : decode cJ9_getLongUnaligned 36 = .ok (.ldc2_w 205, 3) := dk_20 0 205 (dk_at dksJ9_getLongUnaligned_1 12 rfl rfl)
theorem dJ9_getLongUnaligned_39 : decode cJ9_getLongUnaligned 39 = .ok (.ladd, 1) := dk_97 (dk_at dksJ9_getLongUnaligned_1 15 rfl rfl)
theorem dJ9_getLongUnaligned_40 : decode cJ9_getLongUnaligned 40 = .ok (.invokevirtual 17, 3) := dk_182 0 17 (dk_at dksJ9_getLongUnaligned_1 16 rfl rfl)
theorem dJ9_getLongUnaligned_43 : decode cJ9_getLongUnaligned 43 = .ok (.invokestatic 698, 3) := dk_184 2 186 (dk_at dksJ9_getLongUnaligned_1 19 rfl rfl)
theorem dJ9_getLongUnaligned_46 : decode cJ9_getLongUnaligned 46 = .ok (.lreturn, 1) := dk_173 (dk_at dksJ9_getLongUnaligned_1 22 rfl rfl)
theorem dJ9_getLongUnaligned_47 : decode cJ9_getLongUnaligned 47 = .ok (.lload_n 2, 1) := dk_32 (dk_at dksJ9_getLongUnaligned_1 23 rfl rfl)
theorem dJ9_getLongUnaligned_48 : decode cJ9_getLongUnaligned 48 = .ok (.lconst 1, 1) := dk_10 (dk_at dksJ9_getLongUnaligned_2 0 rfl rfl)
theorem dJ9_getLongUnaligned_49 : decode cJ9_getLongUnaligned 49 = .ok (.land, 1) := dk_127 (dk_at dksJ9_getLongUnaligned_2 1 rfl rfl)
theorem dJ9_getLongUnaligned_50 : decode cJ9_getLongUnaligned 50 = .ok (.lconst 0, 1) := dk_9 (dk_at dksJ9_getLongUnaligned_2 2 rfl rfl)
theorem dJ9_getLongUnaligned_51 : decode cJ9_getLongUnaligned 51 = .ok (.lcmp, 1) := dk_148 (dk_at dksJ9_getLongUnaligned_2 3 rfl rfl)
theorem dJ9_getLongUnaligned_52 : decode cJ9_getLongUnaligned 52 = .ok (.ifCond .ne 43, 3) := dk_154 0 43 (dk_at dksJ9_getLongUnaligned_2 4 rfl rfl)
theorem dJ9_getLongUnaligned_55 : decode cJ9_getLongUnaligned 55 = .ok (.aload_n 0, 1) := dk_42 (dk_at dksJ9_getLongUnaligned_2 7 rfl rfl)
theorem dJ9_getLongUnaligned_56 : decode cJ9_getLongUnaligned 56 = .ok (.aload_n 1, 1) := dk_43 (dk_at dksJ9_getLongUnaligned_2 8 rfl rfl)
theorem dJ9_getLongUnaligned_57 : decode cJ9_getLongUnaligned 57 = .ok (.lload_n 2, 1) := dk_32 (dk_at dksJ9_getLongUnaligned_2 9 rfl rfl)
theorem dJ9_getLongUnaligned_58 : decode cJ9_getLongUnaligned 58 = .ok (.invokevirtual 47, 3) := dk_182 0 47 (dk_at dksJ9_getLongUnaligned_2 10 rfl rfl)
theorem dJ9_getLongUnaligned_61 : decode cJ9_getLongUnaligned 61 = .ok (.aload_n 0, 1) := dk_42 (dk_at dksJ9_getLongUnaligned_2 13 rfl rfl)
theorem dJ9_getLongUnaligned_62 : decode cJ9_getLongUnaligned 62 = .ok (.aload_n 1, 1) := dk_43 (dk_at dksJ9_getLongUnaligned_2 14 rfl rfl)
theorem dJ9_getLongUnaligned_63 : decode cJ9_getLongUnaligned 63 = .ok (.lload_n 2, 1) := dk_32 (dk_at dksJ9_getLongUnaligned_2 15 rfl rfl)
theorem dJ9_getLongUnaligned_64 : decode cJ9_getLongUnaligned 64 = .ok (.ldc2_w 203, 3) := dk_20 0 203 (dk_at dksJ9_getLongUnaligned_2 16 rfl rfl)
theorem dJ9_getLongUnaligned_67 : decode cJ9_getLongUnaligned 67 = .ok (.ladd, 1) := dk_97 (dk_at dksJ9_getLongUnaligned_2 19 rfl rfl)
theorem dJ9_getLongUnaligned_68 : decode cJ9_getLongUnaligned 68 = .ok (.invokevirtual 47, 3) := dk_182 0 47 (dk_at dksJ9_getLongUnaligned_2 20 rfl rfl)
theorem dJ9_getLongUnaligned_71 : decode cJ9_getLongUnaligned 71 = .ok (.aload_n 0, 1) := dk_42 (dk_at dksJ9_getLongUnaligned_2 23 rfl rfl)
theorem dJ9_getLongUnaligned_72 : decode cJ9_getLongUnaligned 72 = .ok (.aload_n 1, 1) := dk_43 (dk_at dksJ9_getLongUnaligned_3 0 rfl rfl)
theorem dJ9_getLongUnaligned_73 : decode cJ9_getLongUnaligned 73 = .ok (.lload_n 2, 1) := dk_32 (dk_at dksJ9_getLongUnaligned_3 1 rfl rfl)
theorem dJ9_getLongUnaligned_74 : decode cJ9_getLongUnaligned 74 = .ok (.ldc2_w 205, 3) := dk_20 0 205 (dk_at dksJ9_getLongUnaligned_3 2 rfl rfl)
theorem dJ9_getLongUnaligned_77 : decode cJ9_getLongUnaligned 77 = .ok (.ladd, 1) := dk_97 (dk_at dksJ9_getLongUnaligned_3 5 rfl rfl)
theorem dJ9_getLongUnaligned_78 : decode cJ9_getLongUnaligned 78 = .ok (.invokevirtual 47, 3) := dk_182 0 47 (dk_at dksJ9_getLongUnaligned_3 6 rfl rfl)
theorem dJ9_getLongUnaligned_81 : decode cJ9_getLongUnaligned 81 = .ok (.aload_n 0, 1) := dk_42 (dk_at dksJ9_getLongUnaligned_3 9 rfl rfl)
theorem dJ9_getLongUnaligned_82 : decode cJ9_getLongUnaligned 82 = .ok (.aload_n 1, 1) := dk_43 (dk_at dksJ9_getLongUnaligned_3 10 rfl rfl)
theorem dJ9_getLongUnaligned_83 : decode cJ9_getLongUnaligned 83 = .ok (.lload_n 2, 1) := dk_32 (dk_at dksJ9_getLongUnaligned_3 11 rfl rfl)
theorem dJ9_getLongUnaligned_84 : decode cJ9_getLongUnaligned 84 = .ok (.ldc2_w 702, 3) := dk_20 2 190 (dk_at dksJ9_getLongUnaligned_3 12 rfl rfl)
theorem dJ9_getLongUnaligned_87 : decode cJ9_getLongUnaligned 87 = .ok (.ladd, 1) := dk_97 (dk_at dksJ9_getLongUnaligned_3 15 rfl rfl)
theorem dJ9_getLongUnaligned_88 : decode cJ9_getLongUnaligned 88 = .ok (.invokevirtual 47, 3) := dk_182 0 47 (dk_at dksJ9_getLongUnaligned_3 16 rfl rfl)
theorem dJ9_getLongUnaligned_91 : decode cJ9_getLongUnaligned 91 = .ok (.invokestatic 704, 3) := dk_184 2 192 (dk_at dksJ9_getLongUnaligned_3 19 rfl rfl)
theorem dJ9_getLongUnaligned_94 : decode cJ9_getLongUnaligned 94 = .ok (.lreturn, 1) := dk_173 (dk_at dksJ9_getLongUnaligned_3 22 rfl rfl)
theorem dJ9_getLongUnaligned_95 : decode cJ9_getLongUnaligned 95 = .ok (.aload_n 0, 1) := dk_42 (dk_at dksJ9_getLongUnaligned_3 23 rfl rfl)
theorem dJ9_getLongUnaligned_96 : decode cJ9_getLongUnaligned 96 = .ok (.aload_n 1, 1) := dk_43 (dk_at dksJ9_getLongUnaligned_4 0 rfl rfl)
theorem dJ9_getLongUnaligned_97 : decode cJ9_getLongUnaligned 97 = .ok (.lload_n 2, 1) := dk_32 (dk_at dksJ9_getLongUnaligned_4 1 rfl rfl)
theorem dJ9_getLongUnaligned_98 : decode cJ9_getLongUnaligned 98 = .ok (.invokevirtual 39, 3) := dk_182 0 39 (dk_at dksJ9_getLongUnaligned_4 2 rfl rfl)
theorem dJ9_getLongUnaligned_101 : decode cJ9_getLongUnaligned 101 = .ok (.aload_n 0, 1) := dk_42 (dk_at dksJ9_getLongUnaligned_4 5 rfl rfl)
theorem dJ9_getLongUnaligned_102 : decode cJ9_getLongUnaligned 102 = .ok (.aload_n 1, 1) := dk_43 (dk_at dksJ9_getLongUnaligned_4 6 rfl rfl)
theorem dJ9_getLongUnaligned_103 : decode cJ9_getLongUnaligned 103 = .ok (.lload_n 2, 1) := dk_32 (dk_at dksJ9_getLongUnaligned_4 7 rfl rfl)
theorem dJ9_getLongUnaligned_104 : decode cJ9_getLongUnaligned 104 = .ok (.lconst 1, 1) := dk_10 (dk_at dksJ9_getLongUnaligned_4 8 rfl rfl)
theorem dJ9_getLongUnaligned_105 : decode cJ9_getLongUnaligned 105 = .ok (.ladd, 1) := dk_97 (dk_at dksJ9_getLongUnaligned_4 9 rfl rfl)
theorem dJ9_getLongUnaligned_106 : decode cJ9_getLongUnaligned 106 = .ok (.invokevirtual 39, 3) := dk_182 0 39 (dk_at dksJ9_getLongUnaligned_4 10 rfl rfl)
theorem dJ9_getLongUnaligned_109 : decode cJ9_getLongUnaligned 109 = .ok (.aload_n 0, 1) := dk_42 (dk_at dksJ9_getLongUnaligned_4 13 rfl rfl)
theorem dJ9_getLongUnaligned_110 : decode cJ9_getLongUnaligned 110 = .ok (.aload_n 1, 1) := dk_43 (dk_at dksJ9_getLongUnaligned_4 14 rfl rfl)
theorem dJ9_getLongUnaligned_111 : decode cJ9_getLongUnaligned 111 = .ok (.lload_n 2, 1) := dk_32 (dk_at dksJ9_getLongUnaligned_4 15 rfl rfl)
theorem dJ9_getLongUnaligned_112 : decode cJ9_getLongUnaligned 112 = .ok (.ldc2_w 203, 3) := dk_20 0 203 (dk_at dksJ9_getLongUnaligned_4 16 rfl rfl)
theorem dJ9_getLongUnaligned_115 : decode cJ9_getLongUnaligned 115 = .ok (.ladd, 1) := dk_97 (dk_at dksJ9_getLongUnaligned_4 19 rfl rfl)
theorem dJ9_getLongUnaligned_116 : decode cJ9_getLongUnaligned 116 = .ok (.invokevirtual 39, 3) := dk_182 0 39 (dk_at dksJ9_getLongUnaligned_4 20 rfl rfl)
theorem dJ9_getLongUnaligned_119 : decode cJ9_getLongUnaligned 119 = .ok (.aload_n 0, 1) := dk_42 (dk_at dksJ9_getLongUnaligned_4 23 rfl rfl)
theorem dJ9_getLongUnaligned_120 : decode cJ9_getLongUnaligned 120 = .ok (.aload_n 1, 1) := dk_43 (dk_at dksJ9_getLongUnaligned_5 0 rfl rfl)
theorem dJ9_getLongUnaligned_121 : decode cJ9_getLongUnaligned 121 = .ok (.lload_n 2, 1) := dk_32 (dk_at dksJ9_getLongUnaligned_5 1 rfl rfl)
theorem dJ9_getLongUnaligned_122 : decode cJ9_getLongUnaligned 122 = .ok (.ldc2_w 349, 3) := dk_20 1 93 (dk_at dksJ9_getLongUnaligned_5 2 rfl rfl)
theorem dJ9_getLongUnaligned_125 : decode cJ9_getLongUnaligned 125 = .ok (.ladd, 1) := dk_97 (dk_at dksJ9_getLongUnaligned_5 5 rfl rfl)
theorem dJ9_getLongUnaligned_126 : decode cJ9_getLongUnaligned 126 = .ok (.invokevirtual 39, 3) := dk_182 0 39 (dk_at dksJ9_getLongUnaligned_5 6 rfl rfl)
theorem dJ9_getLongUnaligned_129 : decode cJ9_getLongUnaligned 129 = .ok (.aload_n 0, 1) := dk_42 (dk_at dksJ9_getLongUnaligned_5 9 rfl rfl)
theorem dJ9_getLongUnaligned_130 : decode cJ9_getLongUnaligned 130 = .ok (.aload_n 1, 1) := dk_43 (dk_at dksJ9_getLongUnaligned_5 10 rfl rfl)
theorem dJ9_getLongUnaligned_131 : decode cJ9_getLongUnaligned 131 = .ok (.lload_n 2, 1) := dk_32 (dk_at dksJ9_getLongUnaligned_5 11 rfl rfl)
theorem dJ9_getLongUnaligned_132 : decode cJ9_getLongUnaligned 132 = .ok (.ldc2_w 205, 3) := dk_20 0 205 (dk_at dksJ9_getLongUnaligned_5 12 rfl rfl)
theorem dJ9_getLongUnaligned_135 : decode cJ9_getLongUnaligned 135 = .ok (.ladd, 1) := dk_97 (dk_at dksJ9_getLongUnaligned_5 15 rfl rfl)
theorem dJ9_getLongUnaligned_136 : decode cJ9_getLongUnaligned 136 = .ok (.invokevirtual 39, 3) := dk_182 0 39 (dk_at dksJ9_getLongUnaligned_5 16 rfl rfl)
theorem dJ9_getLongUnaligned_139 : decode cJ9_getLongUnaligned 139 = .ok (.aload_n 0, 1) := dk_42 (dk_at dksJ9_getLongUnaligned_5 19 rfl rfl)
theorem dJ9_getLongUnaligned_140 : decode cJ9_getLongUnaligned 140 = .ok (.aload_n 1, 1) := dk_43 (dk_at dksJ9_getLongUnaligned_5 20 rfl rfl)
theorem dJ9_getLongUnaligned_141 : decode cJ9_getLongUnaligned 141 = .ok (.lload_n 2, 1) := dk_32 (dk_at dksJ9_getLongUnaligned_5 21 rfl rfl)
theorem dJ9_getLongUnaligned_142 : decode cJ9_getLongUnaligned 142 = .ok (.ldc2_w 707, 3) := dk_20 2 195 (dk_at dksJ9_getLongUnaligned_6 0 rfl rfl)
theorem dJ9_getLongUnaligned_145 : decode cJ9_getLongUnaligned 145 = .ok (.ladd, 1) := dk_97 (dk_at dksJ9_getLongUnaligned_6 3 rfl rfl)
theorem dJ9_getLongUnaligned_146 : decode cJ9_getLongUnaligned 146 = .ok (.invokevirtual 39, 3) := dk_182 0 39 (dk_at dksJ9_getLongUnaligned_6 4 rfl rfl)
theorem dJ9_getLongUnaligned_149 : decode cJ9_getLongUnaligned 149 = .ok (.aload_n 0, 1) := dk_42 (dk_at dksJ9_getLongUnaligned_6 7 rfl rfl)
theorem dJ9_getLongUnaligned_150 : decode cJ9_getLongUnaligned 150 = .ok (.aload_n 1, 1) := dk_43 (dk_at dksJ9_getLongUnaligned_6 8 rfl rfl)
theorem dJ9_getLongUnaligned_151 : decode cJ9_getLongUnaligned 151 = .ok (.lload_n 2, 1) := dk_32 (dk_at dksJ9_getLongUnaligned_6 9 rfl rfl)
theorem dJ9_getLongUnaligned_152 : decode cJ9_getLongUnaligned 152 = .ok (.ldc2_w 702, 3) := dk_20 2 190 (dk_at dksJ9_getLongUnaligned_6 10 rfl rfl)
theorem dJ9_getLongUnaligned_155 : decode cJ9_getLongUnaligned 155 = .ok (.ladd, 1) := dk_97 (dk_at dksJ9_getLongUnaligned_6 13 rfl rfl)
theorem dJ9_getLongUnaligned_156 : decode cJ9_getLongUnaligned 156 = .ok (.invokevirtual 39, 3) := dk_182 0 39 (dk_at dksJ9_getLongUnaligned_6 14 rfl rfl)
theorem dJ9_getLongUnaligned_159 : decode cJ9_getLongUnaligned 159 = .ok (.aload_n 0, 1) := dk_42 (dk_at dksJ9_getLongUnaligned_6 17 rfl rfl)
theorem dJ9_getLongUnaligned_160 : decode cJ9_getLongUnaligned 160 = .ok (.aload_n 1, 1) := dk_43 (dk_at dksJ9_getLongUnaligned_6 18 rfl rfl)
theorem dJ9_getLongUnaligned_161 : decode cJ9_getLongUnaligned 161 = .ok (.lload_n 2, 1) := dk_32 (dk_at dksJ9_getLongUnaligned_6 19 rfl rfl)
theorem dJ9_getLongUnaligned_162 : decode cJ9_getLongUnaligned 162 = .ok (.ldc2_w 696, 3) := dk_20 2 184 (dk_at dksJ9_getLongUnaligned_6 20 rfl rfl)
theorem dJ9_getLongUnaligned_165 : decode cJ9_getLongUnaligned 165 = .ok (.ladd, 1) := dk_97 (dk_at dksJ9_getLongUnaligned_6 23 rfl rfl)
theorem dJ9_getLongUnaligned_166 : decode cJ9_getLongUnaligned 166 = .ok (.invokevirtual 39, 3) := dk_182 0 39 (dk_at dksJ9_getLongUnaligned_7 0 rfl rfl)
theorem dJ9_getLongUnaligned_169 : decode cJ9_getLongUnaligned 169 = .ok (.invokestatic 709, 3) := dk_184 2 197 (dk_at dksJ9_getLongUnaligned_7 3 rfl rfl)
theorem dJ9_getLongUnaligned_172 : decode cJ9_getLongUnaligned 172 = .ok (.lreturn, 1) := dk_173 (dk_at dksJ9_getLongUnaligned_7 6 rfl rfl)
abbrev cJ9_makeLong : ByteArray := prog_80_method_353_code
def yJ9_makeLong : MethodName := ⟨RJ9, "makeLong", "(II)J"⟩
def dkwJ9_makeLong_1 : List UInt8 := [173]
abbrev dktJ9_makeLong_1 : List UInt8 := dkwJ9_makeLong_1 ++ []
def dkwJ9_makeLong_0 : List UInt8 := [26, 184, 3, 23, 16, 32, 3, 184, 3, 16, 121, 27, 184, 3, 23, 16, 32, 16, 32, 184, 3, 16, 121, 129]
abbrev dktJ9_makeLong_0 : List UInt8 := dkwJ9_makeLong_0 ++ dktJ9_makeLong_1
theorem dksJ9_makeLong_0 : cJ9_makeLong.data.toList.drop 0 = dktJ9_makeLong_0 := by decide +kernel
theorem dksJ9_makeLong_1 : cJ9_makeLong.data.toList.drop 24 = dktJ9_makeLong_1 := dk_seg dksJ9_makeLong_0 24 rfl rfl
theorem dJ9_makeLong_0 : decode cJ9_makeLong 0 = .ok (.iload_n 0, 1) := dk_26 (dk_at dksJ9_makeLong_0 0 rfl rfl)
theorem dJ9_makeLong_1 : decode cJ9_makeLong 1 = .ok (.invokestatic 791, 3) := dk_184 3 23 (dk_at dksJ9_makeLong_0 1 rfl rfl)
theorem dJ9_makeLong_4 : decode cJ9_makeLong 4 = .ok (.bipush 32, 2) := dk_16 32 (dk_at dksJ9_makeLong_0 4 rfl rfl)
theorem dJ9_makeLong_6 : decode cJ9_makeLong 6 = .ok (.iconst 0, 1) := dk_3 (dk_at dksJ9_makeLong_0 6 rfl rfl)
theorem dJ9_makeLong_7 : decode cJ9_makeLong 7 = .ok (.invokestatic 784, 3) := dk_184 3 16 (dk_at dksJ9_makeLong_0 7 rfl rfl)
theorem dJ9_makeLong_10 : decode cJ9_makeLong 10 = .ok (.lshl, 1) := dk_121 (dk_at dksJ9_makeLong_0 10 rfl rfl)
theorem dJ9_makeLong_11 : decode cJ9_makeLong 11 = .ok (.iload_n 1, 1) := dk_27 (dk_at dksJ9_makeLong_0 11 rfl rfl)
theorem dJ9_makeLong_12 : decode cJ9_makeLong 12 = .ok (.invokestatic 791, 3) := dk_184 3 23 (dk_at dksJ9_makeLong_0 12 rfl rfl)
theorem dJ9_makeLong_15 : decode cJ9_makeLong 15 = .ok (.bipush 32, 2) := dk_16 32 (dk_at dksJ9_makeLong_0 15 rfl rfl)
theorem dJ9_makeLong_17 : decode cJ9_makeLong 17 = .ok (.bipush 32, 2) := dk_16 32 (dk_at dksJ9_makeLong_0 17 rfl rfl)
theorem dJ9_makeLong_19 : decode cJ9_makeLong 19 = .ok (.invokestatic 784, 3) := dk_184 3 16 (dk_at dksJ9_makeLong_0 19 rfl rfl)
theorem dJ9_makeLong_22 : decode cJ9_makeLong 22 = .ok (.lshl, 1) := dk_121 (dk_at dksJ9_makeLong_0 22 rfl rfl)
theorem dJ9_makeLong_23 : decode cJ9_makeLong 23 = .ok (.lor, 1) := dk_129 (dk_at dksJ9_makeLong_0 23 rfl rfl)
theorem dJ9_makeLong_24 : decode cJ9_makeLong 24 = .ok (.lreturn, 1) := dk_173 (dk_at dksJ9_makeLong_1 0 rfl rfl)
abbrev cJ9_toUnsignedLong : ByteArray := prog_80_method_370_code
def yJ9_toUnsignedLong : MethodName := ⟨RJ9, "toUnsignedLong", "(I)J"⟩
def dkwJ9_toUnsignedLong_0 : List UInt8 := [26, 133, 20, 3, 44, 127, 173]
abbrev dktJ9_toUnsignedLong_0 : List UInt8 := dkwJ9_toUnsignedLong_0 ++ []
theorem dksJ9_toUnsignedLong_0 : cJ9_toUnsignedLong.data.toList.drop 0 = dktJ9_toUnsignedLong_0 := by decide +kernel
theorem dJ9_toUnsignedLong_0 : decode cJ9_toUnsignedLong 0 = .ok (.iload_n 0, 1) := dk_26 (dk_at dksJ9_toUnsignedLong_0 0 rfl rfl)
theorem dJ9_toUnsignedLong_1 : decode cJ9_toUnsignedLong 1 = .ok (.i2l, 1) := dk_133 (dk_at dksJ9_toUnsignedLong_0 1 rfl rfl)
theorem dJ9_toUnsignedLong_2 : decode cJ9_toUnsignedLong 2 = .ok (.ldc2_w 812, 3) := dk_20 3 44 (dk_at dksJ9_toUnsignedLong_0 2 rfl rfl)
theorem dJ9_toUnsignedLong_5 : decode cJ9_toUnsignedLong 5 = .ok (.land, 1) := dk_127 (dk_at dksJ9_toUnsignedLong_0 5 rfl rfl)
theorem dJ9_toUnsignedLong_6 : decode cJ9_toUnsignedLong 6 = .ok (.lreturn, 1) := dk_173 (dk_at dksJ9_toUnsignedLong_0 6 rfl rfl)
abbrev cJ9_pickPos : ByteArray := prog_80_method_350_code
def yJ9_pickPos : MethodName := ⟨RJ9, "pickPos", "(II)I"⟩
def dkwJ9_pickPos_0 : List UInt8 := [178, 1, 95, 153, 0, 9, 26, 27, 100, 167, 0, 4, 27, 172]
abbrev dktJ9_pickPos_0 : List UInt8 := dkwJ9_pickPos_0 ++ []
theorem dksJ9_pickPos_0 : cJ9_pickPos.data.toList.drop 0 = dktJ9_pickPos_0 := by decide +kernel
theorem dJ9_pickPos_0 : decode cJ9_pickPos 0 = .ok (.getstatic 351, 3) := dk_178 1 95 (dk_at dksJ9_pickPos_0 0 rfl rfl)
theorem dJ9_pickPos_3 : decode cJ9_pickPos 3 = .ok (.ifCond .eq 9, 3) := dk_153 0 9 (dk_at dksJ9_pickPos_0 3 rfl rfl)
theorem dJ9_pickPos_6 : decode cJ9_pickPos 6 = .ok (.iload_n 0, 1) := dk_26 (dk_at dksJ9_pickPos_0 6 rfl rfl)
theorem dJ9_pickPos_7 : decode cJ9_pickPos 7 = .ok (.iload_n 1, 1) := dk_27 (dk_at dksJ9_pickPos_0 7 rfl rfl)
theorem dJ9_pickPos_8 : decode cJ9_pickPos 8 = .ok (.isub, 1) := dk_100 (dk_at dksJ9_pickPos_0 8 rfl rfl)
theorem dJ9_pickPos_9 : decode cJ9_pickPos 9 = .ok (.goto 4, 3) := dk_167 0 4 (dk_at dksJ9_pickPos_0 9 rfl rfl)
theorem dJ9_pickPos_12 : decode cJ9_pickPos 12 = .ok (.iload_n 1, 1) := dk_27 (dk_at dksJ9_pickPos_0 12 rfl rfl)
theorem dJ9_pickPos_13 : decode cJ9_pickPos 13 = .ok (.ireturn, 1) := dk_172 (dk_at dksJ9_pickPos_0 13 rfl rfl)
abbrev cJ9_makeLong_2 : ByteArray := prog_80_method_352_code
def yJ9_makeLong_2 : MethodName := ⟨RJ9, "makeLong", "(SSSS)J"⟩
def dkwJ9_makeLong_2_2 : List UInt8 := [121, 129, 173]
abbrev dktJ9_makeLong_2_2 : List UInt8 := dkwJ9_makeLong_2_2 ++ []
def dkwJ9_makeLong_2_1 : List UInt8 := [28, 184, 3, 20, 16, 48, 16, 32, 184, 3, 16, 121, 129, 29, 184, 3, 20, 16, 48, 16, 48, 184, 3, 16]
abbrev dktJ9_makeLong_2_1 : List UInt8 := dkwJ9_makeLong_2_1 ++ dktJ9_makeLong_2_2
def dkwJ9_makeLong_2_0 : List UInt8 := [26, 184, 3, 20, 16, 48, 3, 184, 3, 16, 121, 27, 184, 3, 20, 16, 48, 16, 16, 184, 3, 16, 121, 129]
abbrev dktJ9_makeLong_2_0 : List UInt8 := dkwJ9_makeLong_2_0 ++ dktJ9_makeLong_2_1
theorem dksJ9_makeLong_2_0 : cJ9_makeLong_2.data.toList.drop 0 = dktJ9_makeLong_2_0 := by decide +kernel
theorem dksJ9_makeLong_2_1 : cJ9_makeLong_2.data.toList.drop 24 = dktJ9_makeLong_2_1 := dk_seg dksJ9_makeLong_2_0 24 rfl rfl
theorem dksJ9_makeLong_2_2 : cJ9_makeLong_2.data.toList.drop 48 = dktJ9_makeLong_2_2 := dk_seg dksJ9_makeLong_2_1 24 rfl rfl
theorem dJ9_makeLong_2_0 : decode cJ9_makeLong_2 0 = .ok (.iload_n 0, 1) := dk_26 (dk_at dksJ9_makeLong_2_0 0 rfl rfl)
theorem dJ9_makeLong_2_1 : decode cJ9_makeLong_2 1 = .ok (.invokestatic 788, 3) := dk_184 3 20 (dk_at dksJ9_makeLong_2_0 1 rfl rfl)
theorem dJ9_makeLong_2_4 : decode cJ9_makeLong_2 4 = .ok (.bipush 48, 2) := dk_16 48 (dk_at dksJ9_makeLong_2_0 4 rfl rfl)
theorem dJ9_makeLong_2_6 : decode cJ9_makeLong_2 6 = .ok (.iconst 0, 1) := dk_3 (dk_at dksJ9_makeLong_2_0 6 rfl rfl)
theorem dJ9_makeLong_2_7 : decode cJ9_makeLong_2 7 = .ok (.invokestatic 784, 3) := dk_184 3 16 (dk_at dksJ9_makeLong_2_0 7 rfl rfl)
theorem dJ9_makeLong_2_10 : decode cJ9_makeLong_2 10 = .ok (.lshl, 1) := dk_121 (dk_at dksJ9_makeLong_2_0 10 rfl rfl)
theorem dJ9_makeLong_2_11 : decode cJ9_makeLong_2 11 = .ok (.iload_n 1, 1) := dk_27 (dk_at dksJ9_makeLong_2_0 11 rfl rfl)
theorem dJ9_makeLong_2_12 : decode cJ9_makeLong_2 12 = .ok (.invokestatic 788, 3) := dk_184 3 20 (dk_at dksJ9_makeLong_2_0 12 rfl rfl)
theorem dJ9_makeLong_2_15 : decode cJ9_makeLong_2 15 = .ok (.bipush 48, 2) := dk_16 48 (dk_at dksJ9_makeLong_2_0 15 rfl rfl)
theorem dJ9_makeLong_2_17 : decode cJ9_makeLong_2 17 = .ok (.bipush 16, 2) := dk_16 16 (dk_at dksJ9_makeLong_2_0 17 rfl rfl)
theorem dJ9_makeLong_2_19 : decode cJ9_makeLong_2 19 = .ok (.invokestatic 784, 3) := dk_184 3 16 (dk_at dksJ9_makeLong_2_0 19 rfl rfl)
theorem dJ9_makeLong_2_22 : decode cJ9_makeLong_2 22 = .ok (.lshl, 1) := dk_121 (dk_at dksJ9_makeLong_2_0 22 rfl rfl)
theorem dJ9_makeLong_2_23 : decode cJ9_makeLong_2 23 = .ok (.lor, 1) := dk_129 (dk_at dksJ9_makeLong_2_0 23 rfl rfl)
theorem dJ9_makeLong_2_24 : decode cJ9_makeLong_2 24 = .ok (.iload_n 2, 1) := dk_28 (dk_at dksJ9_makeLong_2_1 0 rfl rfl)
theorem dJ9_makeLong_2_25 : decode cJ9_makeLong_2 25 = .ok (.invokestatic 788, 3) := dk_184 3 20 (dk_at dksJ9_makeLong_2_1 1 rfl rfl)
theorem dJ9_makeLong_2_28 : decode cJ9_makeLong_2 28 = .ok (.bipush 48, 2) := dk_16 48 (dk_at dksJ9_makeLong_2_1 4 rfl rfl)
theorem dJ9_makeLong_2_30 : decode cJ9_makeLong_2 30 = .ok (.bipush 32, 2) := dk_16 32 (dk_at dksJ9_makeLong_2_1 6 rfl rfl)
theorem dJ9_makeLong_2_32 : decode cJ9_makeLong_2 32 = .ok (.invokestatic 784, 3) := dk_184 3 16 (dk_at dksJ9_makeLong_2_1 8 rfl rfl)
theorem dJ9_makeLong_2_35 : decode cJ9_makeLong_2 35 = .ok (.lshl, 1) := dk_121 (dk_at dksJ9_makeLong_2_1 11 rfl rfl)
theorem dJ9_makeLong_2_36 : decode cJ9_makeLong_2 36 = .ok (.lor, 1) := dk_129 (dk_at dksJ9_makeLong_2_1 12 rfl rfl)
theorem dJ9_makeLong_2_37 : decode cJ9_makeLong_2 37 = .ok (.iload_n 3, 1) := dk_29 (dk_at dksJ9_makeLong_2_1 13 rfl rfl)
theorem dJ9_makeLong_2_38 : decode cJ9_makeLong_2 38 = .ok (.invokestatic 788, 3) := dk_184 3 20 (dk_at dksJ9_makeLong_2_1 14 rfl rfl)
theorem dJ9_makeLong_2_41 : decode cJ9_makeLong_2 41 = .ok (.bipush 48, 2) := dk_16 48 (dk_at dksJ9_makeLong_2_1 17 rfl rfl)
theorem dJ9_makeLong_2_43 : decode cJ9_makeLong_2 43 = .ok (.bipush 48, 2) := dk_16 48 (dk_at dksJ9_makeLong_2_1 19 rfl rfl)
theorem dJ9_makeLong_2_45 : decode cJ9_makeLong_2 45 = .ok (.invokestatic 784, 3) := dk_184 3 16 (dk_at dksJ9_makeLong_2_1 21 rfl rfl)
theorem dJ9_makeLong_2_48 : decode cJ9_makeLong_2 48 = .ok (.lshl, 1) := dk_121 (dk_at dksJ9_makeLong_2_2 0 rfl rfl)
theorem dJ9_makeLong_2_49 : decode cJ9_makeLong_2 49 = .ok (.lor, 1) := dk_129 (dk_at dksJ9_makeLong_2_2 1 rfl rfl)
theorem dJ9_makeLong_2_50 : decode cJ9_makeLong_2 50 = .ok (.lreturn, 1) := dk_173 (dk_at dksJ9_makeLong_2_2 2 rfl rfl)
abbrev cJ9_toUnsignedLong_2 : ByteArray := prog_80_method_369_code
def yJ9_toUnsignedLong_2 : MethodName := ⟨RJ9, "toUnsignedLong", "(S)J"⟩
def dkwJ9_toUnsignedLong_2_0 : List UInt8 := [26, 133, 20, 3, 42, 127, 173]
abbrev dktJ9_toUnsignedLong_2_0 : List UInt8 := dkwJ9_toUnsignedLong_2_0 ++ []
theorem dksJ9_toUnsignedLong_2_0 : cJ9_toUnsignedLong_2.data.toList.drop 0 = dktJ9_toUnsignedLong_2_0 := by decide +kernel
theorem dJ9_toUnsignedLong_2_0 : decode cJ9_toUnsignedLong_2 0 = .ok (.iload_n 0, 1) := dk_26 (dk_at dksJ9_toUnsignedLong_2_0 0 rfl rfl)
theorem dJ9_toUnsignedLong_2_1 : decode cJ9_toUnsignedLong_2 1 = .ok (.i2l, 1) := dk_133 (dk_at dksJ9_toUnsignedLong_2_0 1 rfl rfl)
theorem dJ9_toUnsignedLong_2_2 : decode cJ9_toUnsignedLong_2 2 = .ok (.ldc2_w 810, 3) := dk_20 3 42 (dk_at dksJ9_toUnsignedLong_2_0 2 rfl rfl)
theorem dJ9_toUnsignedLong_2_5 : decode cJ9_toUnsignedLong_2 5 = .ok (.land, 1) := dk_127 (dk_at dksJ9_toUnsignedLong_2_0 5 rfl rfl)
theorem dJ9_toUnsignedLong_2_6 : decode cJ9_toUnsignedLong_2 6 = .ok (.lreturn, 1) := dk_173 (dk_at dksJ9_toUnsignedLong_2_0 6 rfl rfl)
abbrev cJ9_makeLong_3 : ByteArray := prog_80_method_351_code
def yJ9_makeLong_3 : MethodName := ⟨RJ9, "makeLong", "(BBBBBBBB)J"⟩
def dkwJ9_makeLong_3_4 : List UInt8 := [184, 3, 13, 16, 56, 16, 56, 184, 3, 16, 121, 129, 173]
abbrev dktJ9_makeLong_3_4 : List UInt8 := dkwJ9_makeLong_3_4 ++ []
def dkwJ9_makeLong_3_3 : List UInt8 := [16, 40, 184, 3, 16, 121, 129, 21, 6, 184, 3, 13, 16, 56, 16, 48, 184, 3, 16, 121, 129, 21, 7]
abbrev dktJ9_makeLong_3_3 : List UInt8 := dkwJ9_makeLong_3_3 ++ dktJ9_makeLong_3_4
def dkwJ9_makeLong_3_2 : List UInt8 := [121, 129, 21, 4, 184, 3, 13, 16, 56, 16, 32, 184, 3, 16, 121, 129, 21, 5, 184, 3, 13, 16, 56]
abbrev dktJ9_makeLong_3_2 : List UInt8 := dkwJ9_makeLong_3_2 ++ dktJ9_makeLong_3_3
def dkwJ9_makeLong_3_1 : List UInt8 := [28, 184, 3, 13, 16, 56, 16, 16, 184, 3, 16, 121, 129, 29, 184, 3, 13, 16, 56, 16, 24, 184, 3, 16]
abbrev dktJ9_makeLong_3_1 : List UInt8 := dkwJ9_makeLong_3_1 ++ dktJ9_makeLong_3_2
def dkwJ9_makeLong_3_0 : List UInt8 := [26, 184, 3, 13, 16, 56, 3, 184, 3, 16, 121, 27, 184, 3, 13, 16, 56, 16, 8, 184, 3, 16, 121, 129]
abbrev dktJ9_makeLong_3_0 : List UInt8 := dkwJ9_makeLong_3_0 ++ dktJ9_makeLong_3_1
theorem dksJ9_makeLong_3_0 : cJ9_makeLong_3.data.toList.drop 0 = dktJ9_makeLong_3_0 := by decide +kernel
theorem dksJ9_makeLong_3_1 : cJ9_makeLong_3.data.toList.drop 24 = dktJ9_makeLong_3_1 := dk_seg dksJ9_makeLong_3_0 24 rfl rfl
theorem dksJ9_makeLong_3_2 : cJ9_makeLong_3.data.toList.drop 48 = dktJ9_makeLong_3_2 := dk_seg dksJ9_makeLong_3_1 24 rfl rfl
theorem dksJ9_makeLong_3_3 : cJ9_makeLong_3.data.toList.drop 71 = dktJ9_makeLong_3_3 := dk_seg dksJ9_makeLong_3_2 23 rfl rfl
theorem dksJ9_makeLong_3_4 : cJ9_makeLong_3.data.toList.drop 94 = dktJ9_makeLong_3_4 := dk_seg dksJ9_makeLong_3_3 23 rfl rfl
theorem dJ9_makeLong_3_0 : decode cJ9_makeLong_3 0 = .ok (.iload_n 0, 1) := dk_26 (dk_at dksJ9_makeLong_3_0 0 rfl rfl)
theorem dJ9_makeLong_3_1 : decode cJ9_makeLong_3 1 = .ok (.invokestatic 781, 3) := dk_184 3 13 (dk_at dksJ9_makeLong_3_0 1 rfl rfl)
theorem dJ9_makeLong_3_4 : decode cJ9_makeLong_3 4 = .ok (.bipush 56, 2) := dk_16 56 (dk_at dksJ9_makeLong_3_0 4 rfl rfl)
theorem dJ9_makeLong_3_6 : decode cJ9_makeLong_3 6 = .ok (.iconst 0, 1) := dk_3 (dk_at dksJ9_makeLong_3_0 6 rfl rfl)
theorem dJ9_makeLong_3_7 : decode cJ9_makeLong_3 7 = .ok (.invokestatic 784, 3) := dk_184 3 16 (dk_at dksJ9_makeLong_3_0 7 rfl rfl)
theorem dJ9_makeLong_3_10 : decode cJ9_makeLong_3 10 = .ok (.lshl, 1) := dk_121 (dk_at dksJ9_makeLong_3_0 10 rfl rfl)
theorem dJ9_makeLong_3_11 : decode cJ9_makeLong_3 11 = .ok (.iload_n 1, 1) := dk_27 (dk_at dksJ9_makeLong_3_0 11 rfl rfl)
theorem dJ9_makeLong_3_12 : decode cJ9_makeLong_3 12 = .ok (.invokestatic 781, 3) := dk_184 3 13 (dk_at dksJ9_makeLong_3_0 12 rfl rfl)
theorem dJ9_makeLong_3_15 : decode cJ9_makeLong_3 15 = .ok (.bipush 56, 2) := dk_16 56 (dk_at dksJ9_makeLong_3_0 15 rfl rfl)
theorem dJ9_makeLong_3_17 : decode cJ9_makeLong_3 17 = .ok (.bipush 8, 2) := dk_16 8 (dk_at dksJ9_makeLong_3_0 17 rfl rfl)
theorem dJ9_makeLong_3_19 : decode cJ9_makeLong_3 19 = .ok (.invokestatic 784, 3) := dk_184 3 16 (dk_at dksJ9_makeLong_3_0 19 rfl rfl)
theorem dJ9_makeLong_3_22 : decode cJ9_makeLong_3 22 = .ok (.lshl, 1) := dk_121 (dk_at dksJ9_makeLong_3_0 22 rfl rfl)
theorem dJ9_makeLong_3_23 : decode cJ9_makeLong_3 23 = .ok (.lor, 1) := dk_129 (dk_at dksJ9_makeLong_3_0 23 rfl rfl)
theorem dJ9_makeLong_3_24 : decode cJ9_makeLong_3 24 = .ok (.iload_n 2, 1) := dk_28 (dk_at dksJ9_makeLong_3_1 0 rfl rfl)
theorem dJ9_makeLong_3_25 : decode cJ9_makeLong_3 25 = .ok (.invokestatic 781, 3) := dk_184 3 13 (dk_at dksJ9_makeLong_3_1 1 rfl rfl)
theorem dJ9_makeLong_3_28 : decode cJ9_makeLong_3 28 = .ok (.bipush 56, 2) := dk_16 56 (dk_at dksJ9_makeLong_3_1 4 rfl rfl)
theorem dJ9_makeLong_3_30 : decode cJ9_makeLong_3 30 = .ok (.bipush 16, 2) := dk_16 16 (dk_at dksJ9_makeLong_3_1 6 rfl rfl)
theorem dJ9_makeLong_3_32 : decode cJ9_makeLong_3 32 = .ok (.invokestatic 784, 3) := dk_184 3 16 (dk_at dksJ9_makeLong_3_1 8 rfl rfl)
theorem dJ9_makeLong_3_35 : decode cJ9_makeLong_3 35 = .ok (.lshl, 1) := dk_121 (dk_at dksJ9_makeLong_3_1 11 rfl rfl)
theorem dJ9_makeLong_3_36 : decode cJ9_makeLong_3 36 = .ok (.lor, 1) := dk_129 (dk_at dksJ9_makeLong_3_1 12 rfl rfl)
theorem dJ9_makeLong_3_37 : decode cJ9_makeLong_3 37 = .ok (.iload_n 3, 1) := dk_29 (dk_at dksJ9_makeLong_3_1 13 rfl rfl)
theorem dJ9_makeLong_3_38 : decode cJ9_makeLong_3 38 = .ok (.invokestatic 781, 3) := dk_184 3 13 (dk_at dksJ9_makeLong_3_1 14 rfl rfl)
theorem dJ9_makeLong_3_41 : decode cJ9_makeLong_3 41 = .ok (.bipush 56, 2) := dk_16 56 (dk_at dksJ9_makeLong_3_1 17 rfl rfl)
theorem dJ9_makeLong_3_43 : decode cJ9_makeLong_3 43 = .ok (.bipush 24, 2) := dk_16 24 (dk_at dksJ9_makeLong_3_1 19 rfl rfl)
theorem dJ9_makeLong_3_45 : decode cJ9_makeLong_3 45 = .ok (.invokestatic 784, 3) := dk_184 3 16 (dk_at dksJ9_makeLong_3_1 21 rfl rfl)
theorem dJ9_makeLong_3_48 : decode cJ9_makeLong_3 48 = .ok (.lshl, 1) := dk_121 (dk_at dksJ9_makeLong_3_2 0 rfl rfl)
theorem dJ9_makeLong_3_49 : decode cJ9_makeLong_3 49 = .ok (.lor, 1) := dk_129 (dk_at dksJ9_makeLong_3_2 1 rfl rfl)
theorem dJ9_makeLong_3_50 : decode cJ9_makeLong_3 50 = .ok (.iload 4, 2) := dk_21 4 (dk_at dksJ9_makeLong_3_2 2 rfl rfl)
theorem dJ9_makeLong_3_52 : decode cJ9_makeLong_3 52 = .ok (.invokestatic 781, 3) := dk_184 3 13 (dk_at dksJ9_makeLong_3_2 4 rfl rfl)
theorem dJ9_makeLong_3_55 : decode cJ9_makeLong_3 55 = .ok (.bipush 56, 2) := dk_16 56 (dk_at dksJ9_makeLong_3_2 7 rfl rfl)
theorem dJ9_makeLong_3_57 : decode cJ9_makeLong_3 57 = .ok (.bipush 32, 2) := dk_16 32 (dk_at dksJ9_makeLong_3_2 9 rfl rfl)
theorem dJ9_makeLong_3_59 : decode cJ9_makeLong_3 59 = .ok (.invokestatic 784, 3) := dk_184 3 16 (dk_at dksJ9_makeLong_3_2 11 rfl rfl)
theorem dJ9_makeLong_3_62 : decode cJ9_makeLong_3 62 = .ok (.lshl, 1) := dk_121 (dk_at dksJ9_makeLong_3_2 14 rfl rfl)
theorem dJ9_makeLong_3_63 : decode cJ9_makeLong_3 63 = .ok (.lor, 1) := dk_129 (dk_at dksJ9_makeLong_3_2 15 rfl rfl)
theorem dJ9_makeLong_3_64 : decode cJ9_makeLong_3 64 = .ok (.iload 5, 2) := dk_21 5 (dk_at dksJ9_makeLong_3_2 16 rfl rfl)
theorem dJ9_makeLong_3_66 : decode cJ9_makeLong_3 66 = .ok (.invokestatic 781, 3) := dk_184 3 13 (dk_at dksJ9_makeLong_3_2 18 rfl rfl)
theorem dJ9_makeLong_3_69 : decode cJ9_makeLong_3 69 = .ok (.bipush 56, 2) := dk_16 56 (dk_at dksJ9_makeLong_3_2 21 rfl rfl)
theorem dJ9_makeLong_3_71 : decode cJ9_makeLong_3 71 = .ok (.bipush 40, 2) := dk_16 40 (dk_at dksJ9_makeLong_3_3 0 rfl rfl)
theorem dJ9_makeLong_3_73 : decode cJ9_makeLong_3 73 = .ok (.invokestatic 784, 3) := dk_184 3 16 (dk_at dksJ9_makeLong_3_3 2 rfl rfl)
theorem dJ9_makeLong_3_76 : decode cJ9_makeLong_3 76 = .ok (.lshl, 1) := dk_121 (dk_at dksJ9_makeLong_3_3 5 rfl rfl)
theorem dJ9_makeLong_3_77 : decode cJ9_makeLong_3 77 = .ok (.lor, 1) := dk_129 (dk_at dksJ9_makeLong_3_3 6 rfl rfl)
theorem dJ9_makeLong_3_78 : decode cJ9_makeLong_3 78 = .ok (.iload 6, 2) := dk_21 6 (dk_at dksJ9_makeLong_3_3 7 rfl rfl)
theorem dJ9_makeLong_3_80 : decode cJ9_makeLong_3 80 = .ok (.invokestatic 781, 3) := dk_184 3 13 (dk_at dksJ9_makeLong_3_3 9 rfl rfl)
theorem dJ9_makeLong_3_83 : decode cJ9_makeLong_3 83 = .ok (.bipush 56, 2) := dk_16 56 (dk_at dksJ9_makeLong_3_3 12 rfl rfl)
theorem dJ9_makeLong_3_85 : decode cJ9_makeLong_3 85 = .ok (.bipush 48, 2) := dk_16 48 (dk_at dksJ9_makeLong_3_3 14 rfl rfl)
theorem dJ9_makeLong_3_87 : decode cJ9_makeLong_3 87 = .ok (.invokestatic 784, 3) := dk_184 3 16 (dk_at dksJ9_makeLong_3_3 16 rfl rfl)
theorem dJ9_makeLong_3_90 : decode cJ9_makeLong_3 90 = .ok (.lshl, 1) := dk_121 (dk_at dksJ9_makeLong_3_3 19 rfl rfl)
theorem dJ9_makeLong_3_91 : decode cJ9_makeLong_3 91 = .ok (.lor, 1) := dk_129 (dk_at dksJ9_makeLong_3_3 20 rfl rfl)
theorem dJ9_makeLong_3_92 : decode cJ9_makeLong_3 92 = .ok (.iload 7, 2) := dk_21 7 (dk_at dksJ9_makeLong_3_3 21 rfl rfl)
theorem dJ9_makeLong_3_94 : decode cJ9_makeLong_3 94 = .ok (.invokestatic 781, 3) := dk_184 3 13 (dk_at dksJ9_makeLong_3_4 0 rfl rfl)
theorem dJ9_makeLong_3_97 : decode cJ9_makeLong_3 97 = .ok (.bipush 56, 2) := dk_16 56 (dk_at dksJ9_makeLong_3_4 3 rfl rfl)
theorem dJ9_makeLong_3_99 : decode cJ9_makeLong_3 99 = .ok (.bipush 56, 2) := dk_16 56 (dk_at dksJ9_makeLong_3_4 5 rfl rfl)
theorem dJ9_makeLong_3_101 : decode cJ9_makeLong_3 101 = .ok (.invokestatic 784, 3) := dk_184 3 16 (dk_at dksJ9_makeLong_3_4 7 rfl rfl)
theorem dJ9_makeLong_3_104 : decode cJ9_makeLong_3 104 = .ok (.lshl, 1) := dk_121 (dk_at dksJ9_makeLong_3_4 10 rfl rfl)
theorem dJ9_makeLong_3_105 : decode cJ9_makeLong_3 105 = .ok (.lor, 1) := dk_129 (dk_at dksJ9_makeLong_3_4 11 rfl rfl)
theorem dJ9_makeLong_3_106 : decode cJ9_makeLong_3 106 = .ok (.lreturn, 1) := dk_173 (dk_at dksJ9_makeLong_3_4 12 rfl rfl)
abbrev cJ9_toUnsignedLong_3 : ByteArray := prog_80_method_368_code
def yJ9_toUnsignedLong_3 : MethodName := ⟨RJ9, "toUnsignedLong", "(B)J"⟩
def dkwJ9_toUnsignedLong_3_0 : List UInt8 := [26, 133, 20, 3, 40, 127, 173]
abbrev dktJ9_toUnsignedLong_3_0 : List UInt8 := dkwJ9_toUnsignedLong_3_0 ++ []
theorem dksJ9_toUnsignedLong_3_0 : cJ9_toUnsignedLong_3.data.toList.drop 0 = dktJ9_toUnsignedLong_3_0 := by decide +kernel
theorem dJ9_toUnsignedLong_3_0 : decode cJ9_toUnsignedLong_3 0 = .ok (.iload_n 0, 1) := dk_26 (dk_at dksJ9_toUnsignedLong_3_0 0 rfl rfl)
theorem dJ9_toUnsignedLong_3_1 : decode cJ9_toUnsignedLong_3 1 = .ok (.i2l, 1) := dk_133 (dk_at dksJ9_toUnsignedLong_3_0 1 rfl rfl)
theorem dJ9_toUnsignedLong_3_2 : decode cJ9_toUnsignedLong_3 2 = .ok (.ldc2_w 808, 3) := dk_20 3 40 (dk_at dksJ9_toUnsignedLong_3_0 2 rfl rfl)
theorem dJ9_toUnsignedLong_3_5 : decode cJ9_toUnsignedLong_3 5 = .ok (.land, 1) := dk_127 (dk_at dksJ9_toUnsignedLong_3_0 5 rfl rfl)
theorem dJ9_toUnsignedLong_3_6 : decode cJ9_toUnsignedLong_3 6 = .ok (.lreturn, 1) := dk_173 (dk_at dksJ9_toUnsignedLong_3_0 6 rfl rfl)
abbrev cJ9_getIntUnaligned : ByteArray := prog_80_method_336_code
def yJ9_getIntUnaligned : MethodName := ⟨RJ9, "getIntUnaligned", "(Ljava/lang/Object;J)I"⟩
def dkwJ9_getIntUnaligned_3 : List UInt8 := [43, 32, 20, 1, 93, 97, 182, 0, 39, 184, 2, 211, 172]
abbrev dktJ9_getIntUnaligned_3 : List UInt8 := dkwJ9_getIntUnaligned_3 ++ []
def dkwJ9_getIntUnaligned_2 : List UInt8 := [43, 32, 182, 0, 39, 42, 43, 32, 10, 97, 182, 0, 39, 42, 43, 32, 20, 0, 203, 97, 182, 0, 39, 42]
abbrev dktJ9_getIntUnaligned_2 : List UInt8 := dkwJ9_getIntUnaligned_2 ++ dktJ9_getIntUnaligned_3
def dkwJ9_getIntUnaligned_1 : List UInt8 := [154, 0, 23, 42, 43, 32, 182, 0, 47, 42, 43, 32, 20, 0, 203, 97, 182, 0, 47, 184, 2, 207, 172, 42]
abbrev dktJ9_getIntUnaligned_1 : List UInt8 := dkwJ9_getIntUnaligned_1 ++ dktJ9_getIntUnaligned_2
def dkwJ9_getIntUnaligned_0 : List UInt8 := [32, 20, 1, 93, 127, 9, 148, 154, 0, 10, 42, 43, 32, 182, 0, 17, 172, 32, 10, 127, 9, 148]
abbrev dktJ9_getIntUnaligned_0 : List UInt8 := dkwJ9_getIntUnaligned_0 ++ dktJ9_getIntUnaligned_1
theorem dksJ9_getIntUnaligned_0 : cJ9_getIntUnaligned.data.toList.drop 0 = dktJ9_getIntUnaligned_0 := by decide +kernel
theorem dksJ9_getIntUnaligned_1 : cJ9_getIntUnaligned.data.toList.drop 22 = dktJ9_getIntUnaligned_1 := dk_seg dksJ9_getIntUnaligned_0 22 rfl rfl
theorem dksJ9_getIntUnaligned_2 : cJ9_getIntUnaligned.data.toList.drop 46 = dktJ9_getIntUnaligned_2 := dk_seg dksJ9_getIntUnaligned_1 24 rfl rfl
theorem dksJ9_getIntUnaligned_3 : cJ9_getIntUnaligned.data.toList.drop 70 = dktJ9_getIntUnaligned_3 := dk_seg dksJ9_getIntUnaligned_2 24 rfl rfl
theorem dJ9_getIntUnaligned_0 : decode cJ9_getIntUnaligned 0 = .ok (.lload_n 2, 1) := dk_32 (dk_at dksJ9_getIntUnaligned_0 0 rfl rfl)
theorem dJ9_getIntUnaligned_1 : decode cJ9_getIntUnaligned 1 = .ok (.ldc2_w 349, 3) := dk_20 1 93 (dk_at dksJ9_getIntUnaligned_0 1 rfl rfl)
theorem dJ9_getIntUnaligned_4 : decode cJ9_getIntUnaligned 4 = .ok (.land, 1) := dk_127 (dk_at dksJ9_getIntUnaligned_0 4 rfl rfl)
theorem dJ9_getIntUnaligned_5 : decode cJ9_getIntUnaligned 5 = .ok (.lconst 0, 1) := dk_9 (dk_at dksJ9_getIntUnaligned_0 5 rfl rfl)
theorem dJ9_getIntUnaligned_6 : decode cJ9_getIntUnaligned 6 = .ok (.lcmp, 1) := dk_148 (dk_at dksJ9_getIntUnaligned_0 6 rfl rfl)
theorem dJ9_getIntUnaligned_7 : decode cJ9_getIntUnaligned 7 = .ok (.ifCond .ne 10, 3) := dk_154 0 10 (dk_at dksJ9_getIntUnaligned_0 7 rfl rfl)
theorem dJ9_getIntUnaligned_10 : decode cJ9_getIntUnaligned 10 = .ok (.aload_n 0, 1) := dk_42 (dk_at dksJ9_getIntUnaligned_0 10 rfl rfl)
theorem dJ9_getIntUnaligned_11 : decode cJ9_getIntUnaligned 11 = .ok (.aload_n 1, 1) := dk_43 (dk_at dksJ9_getIntUnaligned_0 11 rfl rfl)
theorem dJ9_getIntUnaligned_12 : decode cJ9_getIntUnaligned 12 = .ok (.lload_n 2, 1) := dk_32 (dk_at dksJ9_getIntUnaligned_0 12 rfl rfl)
theorem dJ9_getIntUnaligned_13 : decode cJ9_getIntUnaligned 13 = .ok (.invokevirtual 17, 3) := dk_182 0 17 (dk_at dksJ9_getIntUnaligned_0 13 rfl rfl)
theorem dJ9_getIntUnaligned_16 : decode cJ9_getIntUnaligned 16 = .ok (.ireturn, 1) := dk_172 (dk_at dksJ9_getIntUnaligned_0 16 rfl rfl)
theorem dJ9_getIntUnaligned_17 : decode cJ9_getIntUnaligned 17 = .ok (.lload_n 2, 1) := dk_32 (dk_at dksJ9_getIntUnaligned_0 17 rfl rfl)
theorem dJ9_getIntUnaligned_18 : decode cJ9_getIntUnaligned 18 = .ok (.lconst 1, 1) := dk_10 (dk_at dksJ9_getIntUnaligned_0 18 rfl rfl)
theorem dJ9_getIntUnaligned_19 : decode cJ9_getIntUnaligned 19 = .ok (.land, 1) := dk_127 (dk_at dksJ9_getIntUnaligned_0 19 rfl rfl)
theorem dJ9_getIntUnaligned_20 : decode cJ9_getIntUnaligned 20 = .ok (.lconst 0, 1) := dk_9 (dk_at dksJ9_getIntUnaligned_0 20 rfl rfl)
theorem dJ9_getIntUnaligned_21 : decode cJ9_getIntUnaligned 21 = .ok (.lcmp, 1) := dk_148 (dk_at dksJ9_getIntUnaligned_0 21 rfl rfl)
theorem dJ9_getIntUnaligned_22 : decode cJ9_getIntUnaligned 22 = .ok (.ifCond .ne 23, 3) := dk_154 0 23 (dk_at dksJ9_getIntUnaligned_1 0 rfl rfl)
theorem dJ9_getIntUnaligned_25 : decode cJ9_getIntUnaligned 25 = .ok (.aload_n 0, 1) := dk_42 (dk_at dksJ9_getIntUnaligned_1 3 rfl rfl)
theorem dJ9_getIntUnaligned_26 : decode cJ9_getIntUnaligned 26 = .ok (.aload_n 1, 1) := dk_43 (dk_at dksJ9_getIntUnaligned_1 4 rfl rfl)
theorem dJ9_getIntUnaligned_27 : decode cJ9_getIntUnaligned 27 = .ok (.lload_n 2, 1) := dk_32 (dk_at dksJ9_getIntUnaligned_1 5 rfl rfl)
theorem dJ9_getIntUnaligned_28 : decode cJ9_getIntUnaligned 28 = .ok (.invokevirtual 47, 3) := dk_182 0 47 (dk_at dksJ9_getIntUnaligned_1 6 rfl rfl)
theorem dJ9_getIntUnaligned_31 : decode cJ9_getIntUnaligned 31 = .ok (.aload_n 0, 1) := dk_42 (dk_at dksJ9_getIntUnaligned_1 9 rfl rfl)
theorem dJ9_getIntUnaligned_32 : decode cJ9_getIntUnaligned 32 = .ok (.aload_n 1, 1) := dk_43 (dk_at dksJ9_getIntUnaligned_1 10 rfl rfl)
theorem dJ9_getIntUnaligned_33 : decode cJ9_getIntUnaligned 33 = .ok (.lload_n 2, 1) := dk_32 (dk_at dksJ9_getIntUnaligned_1 11 rfl rfl)
theorem dJ9_getIntUnaligned_34 : decode cJ9_getIntUnaligned 34 = .ok (.ldc2_w 203, 3) := dk_20 0 203 (dk_at dksJ9_getIntUnaligned_1 12 rfl rfl)
theorem dJ9_getIntUnaligned_37 : decode cJ9_getIntUnaligned 37 = .ok (.ladd, 1) := dk_97 (dk_at dksJ9_getIntUnaligned_1 15 rfl rfl)
theorem dJ9_getIntUnaligned_38 : decode cJ9_getIntUnaligned 38 = .ok (.invokevirtual 47, 3) := dk_182 0 47 (dk_at dksJ9_getIntUnaligned_1 16 rfl rfl)
theorem dJ9_getIntUnaligned_41 : decode cJ9_getIntUnaligned 41 = .ok (.invokestatic 719, 3) := dk_184 2 207 (dk_at dksJ9_getIntUnaligned_1 19 rfl rfl)
theorem dJ9_getIntUnaligned_44 : decode cJ9_getIntUnaligned 44 = .ok (.ireturn, 1) := dk_172 (dk_at dksJ9_getIntUnaligned_1 22 rfl rfl)
theorem dJ9_getIntUnaligned_45 : decode cJ9_getIntUnaligned 45 = .ok (.aload_n 0, 1) := dk_42 (dk_at dksJ9_getIntUnaligned_1 23 rfl rfl)
theorem dJ9_getIntUnaligned_46 : decode cJ9_getIntUnaligned 46 = .ok (.aload_n 1, 1) := dk_43 (dk_at dksJ9_getIntUnaligned_2 0 rfl rfl)
theorem dJ9_getIntUnaligned_47 : decode cJ9_getIntUnaligned 47 = .ok (.lload_n 2, 1) := dk_32 (dk_at dksJ9_getIntUnaligned_2 1 rfl rfl)
theorem dJ9_getIntUnaligned_48 : decode cJ9_getIntUnaligned 48 = .ok (.invokevirtual 39, 3) := dk_182 0 39 (dk_at dksJ9_getIntUnaligned_2 2 rfl rfl)
theorem dJ9_getIntUnaligned_51 : decode cJ9_getIntUnaligned 51 = .ok (.aload_n 0, 1) := dk_42 (dk_at dksJ9_getIntUnaligned_2 5 rfl rfl)
theorem dJ9_getIntUnaligned_52 : decode cJ9_getIntUnaligned 52 = .ok (.aload_n 1, 1) := dk_43 (dk_at dksJ9_getIntUnaligned_2 6 rfl rfl)
theorem dJ9_getIntUnaligned_53 : decode cJ9_getIntUnaligned 53 = .ok (.lload_n 2, 1) := dk_32 (dk_at dksJ9_getIntUnaligned_2 7 rfl rfl)
theorem dJ9_getIntUnaligned_54 : decode cJ9_getIntUnaligned 54 = .ok (.lconst 1, 1) := dk_10 (dk_at dksJ9_getIntUnaligned_2 8 rfl rfl)
theorem dJ9_getIntUnaligned_55 : decode cJ9_getIntUnaligned 55 = .ok (.ladd, 1) := dk_97 (dk_at dksJ9_getIntUnaligned_2 9 rfl rfl)
theorem dJ9_getIntUnaligned_56 : decode cJ9_getIntUnaligned 56 = .ok (.invokevirtual 39, 3) := dk_182 0 39 (dk_at dksJ9_getIntUnaligned_2 10 rfl rfl)
theorem dJ9_getIntUnaligned_59 : decode cJ9_getIntUnaligned 59 = .ok (.aload_n 0, 1) := dk_42 (dk_at dksJ9_getIntUnaligned_2 13 rfl rfl)
theorem dJ9_getIntUnaligned_60 : decode cJ9_getIntUnaligned 60 = .ok (.aload_n 1, 1) := dk_43 (dk_at dksJ9_getIntUnaligned_2 14 rfl rfl)
theorem dJ9_getIntUnaligned_61 : decode cJ9_getIntUnaligned 61 = .ok (.lload_n 2, 1) := dk_32 (dk_at dksJ9_getIntUnaligned_2 15 rfl rfl)
theorem dJ9_getIntUnaligned_62 : decode cJ9_getIntUnaligned 62 = .ok (.ldc2_w 203, 3) := dk_20 0 203 (dk_at dksJ9_getIntUnaligned_2 16 rfl rfl)
theorem dJ9_getIntUnaligned_65 : decode cJ9_getIntUnaligned 65 = .ok (.ladd, 1) := dk_97 (dk_at dksJ9_getIntUnaligned_2 19 rfl rfl)
theorem dJ9_getIntUnaligned_66 : decode cJ9_getIntUnaligned 66 = .ok (.invokevirtual 39, 3) := dk_182 0 39 (dk_at dksJ9_getIntUnaligned_2 20 rfl rfl)
theorem dJ9_getIntUnaligned_69 : decode cJ9_getIntUnaligned 69 = .ok (.aload_n 0, 1) := dk_42 (dk_at dksJ9_getIntUnaligned_2 23 rfl rfl)
theorem dJ9_getIntUnaligned_70 : decode cJ9_getIntUnaligned 70 = .ok (.aload_n 1, 1) := dk_43 (dk_at dksJ9_getIntUnaligned_3 0 rfl rfl)
theorem dJ9_getIntUnaligned_71 : decode cJ9_getIntUnaligned 71 = .ok (.lload_n 2, 1) := dk_32 (dk_at dksJ9_getIntUnaligned_3 1 rfl rfl)
theorem dJ9_getIntUnaligned_72 : decode cJ9_getIntUnaligned 72 = .ok (.ldc2_w 349, 3) := dk_20 1 93 (dk_at dksJ9_getIntUnaligned_3 2 rfl rfl)
theorem dJ9_getIntUnaligned_75 : decode cJ9_getIntUnaligned 75 = .ok (.ladd, 1) := dk_97 (dk_at dksJ9_getIntUnaligned_3 5 rfl rfl)
theorem dJ9_getIntUnaligned_76 : decode cJ9_getIntUnaligned 76 = .ok (.invokevirtual 39, 3) := dk_182 0 39 (dk_at dksJ9_getIntUnaligned_3 6 rfl rfl)
theorem dJ9_getIntUnaligned_79 : decode cJ9_getIntUnaligned 79 = .ok (.invokestatic 723, 3) := dk_184 2 211 (dk_at dksJ9_getIntUnaligned_3 9 rfl rfl)
theorem dJ9_getIntUnaligned_82 : decode cJ9_getIntUnaligned 82 = .ok (.ireturn, 1) := dk_172 (dk_at dksJ9_getIntUnaligned_3 12 rfl rfl)
abbrev cJ9_makeInt : ByteArray := prog_80_method_354_code
def yJ9_makeInt : MethodName := ⟨RJ9, "makeInt", "(SS)I"⟩
def dkwJ9_makeInt_1 : List UInt8 := [172]
abbrev dktJ9_makeInt_1 : List UInt8 := dkwJ9_makeInt_1 ++ []
def dkwJ9_makeInt_0 : List UInt8 := [26, 184, 3, 24, 16, 16, 3, 184, 3, 16, 120, 27, 184, 3, 24, 16, 16, 16, 16, 184, 3, 16, 120, 128]
abbrev dktJ9_makeInt_0 : List UInt8 := dkwJ9_makeInt_0 ++ dktJ9_makeInt_1
theorem dksJ9_makeInt_0 : cJ9_makeInt.data.toList.drop 0 = dktJ9_makeInt_0 := by decide +kernel
theorem dksJ9_makeInt_1 : cJ9_makeInt.data.toList.drop 24 = dktJ9_makeInt_1 := dk_seg dksJ9_makeInt_0 24 rfl rfl
theorem dJ9_makeInt_0 : decode cJ9_makeInt 0 = .ok (.iload_n 0, 1) := dk_26 (dk_at dksJ9_makeInt_0 0 rfl rfl)
theorem dJ9_makeInt_1 : decode cJ9_makeInt 1 = .ok (.invokestatic 792, 3) := dk_184 3 24 (dk_at dksJ9_makeInt_0 1 rfl rfl)
theorem dJ9_makeInt_4 : decode cJ9_makeInt 4 = .ok (.bipush 16, 2) := dk_16 16 (dk_at dksJ9_makeInt_0 4 rfl rfl)
theorem dJ9_makeInt_6 : decode cJ9_makeInt 6 = .ok (.iconst 0, 1) := dk_3 (dk_at dksJ9_makeInt_0 6 rfl rfl)
theorem dJ9_makeInt_7 : decode cJ9_makeInt 7 = .ok (.invokestatic 784, 3) := dk_184 3 16 (dk_at dksJ9_makeInt_0 7 rfl rfl)
theorem dJ9_makeInt_10 : decode cJ9_makeInt 10 = .ok (.ishl, 1) := dk_120 (dk_at dksJ9_makeInt_0 10 rfl rfl)
theorem dJ9_makeInt_11 : decode cJ9_makeInt 11 = .ok (.iload_n 1, 1) := dk_27 (dk_at dksJ9_makeInt_0 11 rfl rfl)
theorem dJ9_makeInt_12 : decode cJ9_makeInt 12 = .ok (.invokestatic 792, 3) := dk_184 3 24 (dk_at dksJ9_makeInt_0 12 rfl rfl)
theorem dJ9_makeInt_15 : decode cJ9_makeInt 15 = .ok (.bipush 16, 2) := dk_16 16 (dk_at dksJ9_makeInt_0 15 rfl rfl)
theorem dJ9_makeInt_17 : decode cJ9_makeInt 17 = .ok (.bipush 16, 2) := dk_16 16 (dk_at dksJ9_makeInt_0 17 rfl rfl)
theorem dJ9_makeInt_19 : decode cJ9_makeInt 19 = .ok (.invokestatic 784, 3) := dk_184 3 16 (dk_at dksJ9_makeInt_0 19 rfl rfl)
theorem dJ9_makeInt_22 : decode cJ9_makeInt 22 = .ok (.ishl, 1) := dk_120 (dk_at dksJ9_makeInt_0 22 rfl rfl)
theorem dJ9_makeInt_23 : decode cJ9_makeInt 23 = .ok (.ior, 1) := dk_128 (dk_at dksJ9_makeInt_0 23 rfl rfl)
theorem dJ9_makeInt_24 : decode cJ9_makeInt 24 = .ok (.ireturn, 1) := dk_172 (dk_at dksJ9_makeInt_1 0 rfl rfl)
abbrev cJ9_toUnsignedInt : ByteArray := prog_80_method_367_code
def yJ9_toUnsignedInt : MethodName := ⟨RJ9, "toUnsignedInt", "(S)I"⟩
def dkwJ9_toUnsignedInt_0 : List UInt8 := [26, 19, 1, 118, 126, 172]
abbrev dktJ9_toUnsignedInt_0 : List UInt8 := dkwJ9_toUnsignedInt_0 ++ []
theorem dksJ9_toUnsignedInt_0 : cJ9_toUnsignedInt.data.toList.drop 0 = dktJ9_toUnsignedInt_0 := by decide +kernel
theorem dJ9_toUnsignedInt_0 : decode cJ9_toUnsignedInt 0 = .ok (.iload_n 0, 1) := dk_26 (dk_at dksJ9_toUnsignedInt_0 0 rfl rfl)
theorem dJ9_toUnsignedInt_1 : decode cJ9_toUnsignedInt 1 = .ok (.ldc_w 374, 3) := dk_19 1 118 (dk_at dksJ9_toUnsignedInt_0 1 rfl rfl)
theorem dJ9_toUnsignedInt_4 : decode cJ9_toUnsignedInt 4 = .ok (.iand, 1) := dk_126 (dk_at dksJ9_toUnsignedInt_0 4 rfl rfl)
theorem dJ9_toUnsignedInt_5 : decode cJ9_toUnsignedInt 5 = .ok (.ireturn, 1) := dk_172 (dk_at dksJ9_toUnsignedInt_0 5 rfl rfl)
abbrev cJ9_makeInt_2 : ByteArray := prog_80_method_355_code
def yJ9_makeInt_2 : MethodName := ⟨RJ9, "makeInt", "(BBBB)I"⟩
def dkwJ9_makeInt_2_2 : List UInt8 := [120, 128, 172]
abbrev dktJ9_makeInt_2_2 : List UInt8 := dkwJ9_makeInt_2_2 ++ []
def dkwJ9_makeInt_2_1 : List UInt8 := [28, 184, 3, 28, 16, 24, 16, 16, 184, 3, 16, 120, 128, 29, 184, 3, 28, 16, 24, 16, 24, 184, 3, 16]
abbrev dktJ9_makeInt_2_1 : List UInt8 := dkwJ9_makeInt_2_1 ++ dktJ9_makeInt_2_2
def dkwJ9_makeInt_2_0 : List UInt8 := [26, 184, 3, 28, 16, 24, 3, 184, 3, 16, 120, 27, 184, 3, 28, 16, 24, 16, 8, 184, 3, 16, 120, 128]
abbrev dktJ9_makeInt_2_0 : List UInt8 := dkwJ9_makeInt_2_0 ++ dktJ9_makeInt_2_1
theorem dksJ9_makeInt_2_0 : cJ9_makeInt_2.data.toList.drop 0 = dktJ9_makeInt_2_0 := by decide +kernel
theorem dksJ9_makeInt_2_1 : cJ9_makeInt_2.data.toList.drop 24 = dktJ9_makeInt_2_1 := dk_seg dksJ9_makeInt_2_0 24 rfl rfl
theorem dksJ9_makeInt_2_2 : cJ9_makeInt_2.data.toList.drop 48 = dktJ9_makeInt_2_2 := dk_seg dksJ9_makeInt_2_1 24 rfl rfl
theorem dJ9_makeInt_2_0 : decode cJ9_makeInt_2 0 = .ok (.iload_n 0, 1) := dk_26 (dk_at dksJ9_makeInt_2_0 0 rfl rfl)
theorem dJ9_makeInt_2_1 : decode cJ9_makeInt_2 1 = .ok (.invokestatic 796, 3) := dk_184 3 28 (dk_at dksJ9_makeInt_2_0 1 rfl rfl)
theorem dJ9_makeInt_2_4 : decode cJ9_makeInt_2 4 = .ok (.bipush 24, 2) := dk_16 24 (dk_at dksJ9_makeInt_2_0 4 rfl rfl)
theorem dJ9_makeInt_2_6 : decode cJ9_makeInt_2 6 = .ok (.iconst 0, 1) := dk_3 (dk_at dksJ9_makeInt_2_0 6 rfl rfl)
theorem dJ9_makeInt_2_7 : decode cJ9_makeInt_2 7 = .ok (.invokestatic 784, 3) := dk_184 3 16 (dk_at dksJ9_makeInt_2_0 7 rfl rfl)
theorem dJ9_makeInt_2_10 : decode cJ9_makeInt_2 10 = .ok (.ishl, 1) := dk_120 (dk_at dksJ9_makeInt_2_0 10 rfl rfl)
theorem dJ9_makeInt_2_11 : decode cJ9_makeInt_2 11 = .ok (.iload_n 1, 1) := dk_27 (dk_at dksJ9_makeInt_2_0 11 rfl rfl)
theorem dJ9_makeInt_2_12 : decode cJ9_makeInt_2 12 = .ok (.invokestatic 796, 3) := dk_184 3 28 (dk_at dksJ9_makeInt_2_0 12 rfl rfl)
theorem dJ9_makeInt_2_15 : decode cJ9_makeInt_2 15 = .ok (.bipush 24, 2) := dk_16 24 (dk_at dksJ9_makeInt_2_0 15 rfl rfl)
theorem dJ9_makeInt_2_17 : decode cJ9_makeInt_2 17 = .ok (.bipush 8, 2) := dk_16 8 (dk_at dksJ9_makeInt_2_0 17 rfl rfl)
theorem dJ9_makeInt_2_19 : decode cJ9_makeInt_2 19 = .ok (.invokestatic 784, 3) := dk_184 3 16 (dk_at dksJ9_makeInt_2_0 19 rfl rfl)
theorem dJ9_makeInt_2_22 : decode cJ9_makeInt_2 22 = .ok (.ishl, 1) := dk_120 (dk_at dksJ9_makeInt_2_0 22 rfl rfl)
theorem dJ9_makeInt_2_23 : decode cJ9_makeInt_2 23 = .ok (.ior, 1) := dk_128 (dk_at dksJ9_makeInt_2_0 23 rfl rfl)
theorem dJ9_makeInt_2_24 : decode cJ9_makeInt_2 24 = .ok (.iload_n 2, 1) := dk_28 (dk_at dksJ9_makeInt_2_1 0 rfl rfl)
theorem dJ9_makeInt_2_25 : decode cJ9_makeInt_2 25 = .ok (.invokestatic 796, 3) := dk_184 3 28 (dk_at dksJ9_makeInt_2_1 1 rfl rfl)
theorem dJ9_makeInt_2_28 : decode cJ9_makeInt_2 28 = .ok (.bipush 24, 2) := dk_16 24 (dk_at dksJ9_makeInt_2_1 4 rfl rfl)
theorem dJ9_makeInt_2_30 : decode cJ9_makeInt_2 30 = .ok (.bipush 16, 2) := dk_16 16 (dk_at dksJ9_makeInt_2_1 6 rfl rfl)
theorem dJ9_makeInt_2_32 : decode cJ9_makeInt_2 32 = .ok (.invokestatic 784, 3) := dk_184 3 16 (dk_at dksJ9_makeInt_2_1 8 rfl rfl)
theorem dJ9_makeInt_2_35 : decode cJ9_makeInt_2 35 = .ok (.ishl, 1) := dk_120 (dk_at dksJ9_makeInt_2_1 11 rfl rfl)
theorem dJ9_makeInt_2_36 : decode cJ9_makeInt_2 36 = .ok (.ior, 1) := dk_128 (dk_at dksJ9_makeInt_2_1 12 rfl rfl)
theorem dJ9_makeInt_2_37 : decode cJ9_makeInt_2 37 = .ok (.iload_n 3, 1) := dk_29 (dk_at dksJ9_makeInt_2_1 13 rfl rfl)
theorem dJ9_makeInt_2_38 : decode cJ9_makeInt_2 38 = .ok (.invokestatic 796, 3) := dk_184 3 28 (dk_at dksJ9_makeInt_2_1 14 rfl rfl)
theorem dJ9_makeInt_2_41 : decode cJ9_makeInt_2 41 = .ok (.bipush 24, 2) := dk_16 24 (dk_at dksJ9_makeInt_2_1 17 rfl rfl)
theorem dJ9_makeInt_2_43 : decode cJ9_makeInt_2 43 = .ok (.bipush 24, 2) := dk_16 24 (dk_at dksJ9_makeInt_2_1 19 rfl rfl)
theorem dJ9_makeInt_2_45 : decode cJ9_makeInt_2 45 = .ok (.invokestatic 784, 3) := dk_184 3 16 (dk_at dksJ9_makeInt_2_1 21 rfl rfl)
theorem dJ9_makeInt_2_48 : decode cJ9_makeInt_2 48 = .ok (.ishl, 1) := dk_120 (dk_at dksJ9_makeInt_2_2 0 rfl rfl)
theorem dJ9_makeInt_2_49 : decode cJ9_makeInt_2 49 = .ok (.ior, 1) := dk_128 (dk_at dksJ9_makeInt_2_2 1 rfl rfl)
theorem dJ9_makeInt_2_50 : decode cJ9_makeInt_2 50 = .ok (.ireturn, 1) := dk_172 (dk_at dksJ9_makeInt_2_2 2 rfl rfl)
abbrev cJ9_toUnsignedInt_2 : ByteArray := prog_80_method_366_code
def yJ9_toUnsignedInt_2 : MethodName := ⟨RJ9, "toUnsignedInt", "(B)I"⟩
def dkwJ9_toUnsignedInt_2_0 : List UInt8 := [26, 17, 0, 255, 126, 172]
abbrev dktJ9_toUnsignedInt_2_0 : List UInt8 := dkwJ9_toUnsignedInt_2_0 ++ []
theorem dksJ9_toUnsignedInt_2_0 : cJ9_toUnsignedInt_2.data.toList.drop 0 = dktJ9_toUnsignedInt_2_0 := by decide +kernel
theorem dJ9_toUnsignedInt_2_0 : decode cJ9_toUnsignedInt_2 0 = .ok (.iload_n 0, 1) := dk_26 (dk_at dksJ9_toUnsignedInt_2_0 0 rfl rfl)
theorem dJ9_toUnsignedInt_2_1 : decode cJ9_toUnsignedInt_2 1 = .ok (.sipush 255, 3) := dk_17 0 255 (dk_at dksJ9_toUnsignedInt_2_0 1 rfl rfl)
theorem dJ9_toUnsignedInt_2_4 : decode cJ9_toUnsignedInt_2 4 = .ok (.iand, 1) := dk_126 (dk_at dksJ9_toUnsignedInt_2_0 4 rfl rfl)
theorem dJ9_toUnsignedInt_2_5 : decode cJ9_toUnsignedInt_2 5 = .ok (.ireturn, 1) := dk_172 (dk_at dksJ9_toUnsignedInt_2_0 5 rfl rfl)
theorem q139 : (Jvm.Cond.initialized "jdk/internal/misc/Unsafe") ∈ lw_all := lw_g (lw_at lw_m1 15 rfl) rfl
theorem q412 : (Jvm.Cond.laysStatic "jdk/internal/misc/Unsafe" "ARRAY_BYTE_BASE_OFFSET" "I") ∈ lw_tbl := lw_at lw_m2 48 rfl
theorem q423 : (Jvm.Cond.instanceMethod ({ cls := "jdk/internal/misc/Unsafe", name := "getLongUnaligned", desc := "(Ljava/lang/Object;J)J" } : Jvm.MethodName)) ∈ lw_all := lw_g (lw_at lw_m2 59 rfl) rfl
theorem q424 : (Jvm.Cond.selects "jdk/internal/misc/Unsafe" ({ cls := "jdk/internal/misc/Unsafe", name := "getLongUnaligned", desc := "(Ljava/lang/Object;J)J" } : Jvm.MethodName) ({ cls := "jdk/internal/misc/Unsafe", name := "getLongUnaligned", desc := "(Ljava/lang/Object;J)J" } : Jvm.MethodName)) ∈ lw_all := lw_g (lw_at lw_m2 60 rfl) rfl
theorem q425 : (Jvm.Cond.code ({ cls := "jdk/internal/misc/Unsafe", name := "getLongUnaligned", desc := "(Ljava/lang/Object;J)J" } : Jvm.MethodName) prog_80_method_334_code (4 : Nat) (Option.some Jvm.ClassFile.FieldType.long)) ∈ lw_all := lw_g (lw_at lw_m2 61 rfl) rfl
theorem q426 : (Jvm.Cond.constantLong "jdk/internal/misc/Unsafe" (696 : Nat) (7 : Int64)) ∈ lw_all := lw_g (lw_at lw_m2 62 rfl) rfl
theorem q427 : (Jvm.Cond.methodLink "jdk/internal/misc/Unsafe" (27 : Nat) ({ cls := "jdk/internal/misc/Unsafe", name := "getLong", desc := "(Ljava/lang/Object;J)J" } : Jvm.MethodName)) ∈ lw_all := lw_g (lw_at lw_m2 63 rfl) rfl
theorem q428 : (Jvm.Cond.instanceMethod ({ cls := "jdk/internal/misc/Unsafe", name := "getLong", desc := "(Ljava/lang/Object;J)J" } : Jvm.MethodName)) ∈ lw_all := lw_g (lw_at lw_m2 64 rfl) rfl
theorem q429 : (Jvm.Cond.selects "jdk/internal/misc/Unsafe" ({ cls := "jdk/internal/misc/Unsafe", name := "getLong", desc := "(Ljava/lang/Object;J)J" } : Jvm.MethodName) ({ cls := "jdk/internal/misc/Unsafe", name := "getLong", desc := "(Ljava/lang/Object;J)J" } : Jvm.MethodName)) ∈ lw_all := lw_g (lw_at lw_m2 65 rfl) rfl
theorem q430 : (Jvm.Cond.native ({ cls := "jdk/internal/misc/Unsafe", name := "getLong", desc := "(Ljava/lang/Object;J)J" } : Jvm.MethodName)) ∈ lw_all := lw_g (lw_at lw_m2 66 rfl) rfl
theorem q431 : (Jvm.Cond.constantLong "jdk/internal/misc/Unsafe" (349 : Nat) (3 : Int64)) ∈ lw_all := lw_g (lw_at lw_m2 67 rfl) rfl
theorem q432 : (Jvm.Cond.methodLink "jdk/internal/misc/Unsafe" (17 : Nat) ({ cls := "jdk/internal/misc/Unsafe", name := "getInt", desc := "(Ljava/lang/Object;J)I" } : Jvm.MethodName)) ∈ lw_all := lw_g (lw_at lw_m2 68 rfl) rfl
theorem q433 : (Jvm.Cond.instanceMethod ({ cls := "jdk/internal/misc/Unsafe", name := "getInt", desc := "(Ljava/lang/Object;J)I" } : Jvm.MethodName)) ∈ lw_all := lw_g (lw_at lw_m2 69 rfl) rfl
theorem q434 : (Jvm.Cond.selects "jdk/internal/misc/Unsafe" ({ cls := "jdk/internal/misc/Unsafe", name := "getInt", desc := "(Ljava/lang/Object;J)I" } : Jvm.MethodName) ({ cls := "jdk/internal/misc/Unsafe", name := "getInt", desc := "(Ljava/lang/Object;J)I" } : Jvm.MethodName)) ∈ lw_all := lw_g (lw_at lw_m2 70 rfl) rfl
theorem q435 : (Jvm.Cond.native ({ cls := "jdk/internal/misc/Unsafe", name := "getInt", desc := "(Ljava/lang/Object;J)I" } : Jvm.MethodName)) ∈ lw_all := lw_g (lw_at lw_m2 71 rfl) rfl
theorem q436 : (Jvm.Cond.constantLong "jdk/internal/misc/Unsafe" (205 : Nat) (4 : Int64)) ∈ lw_all := lw_g (lw_at lw_m2 72 rfl) rfl
theorem q437 : (Jvm.Cond.methodLink "jdk/internal/misc/Unsafe" (698 : Nat) ({ cls := "jdk/internal/misc/Unsafe", name := "makeLong", desc := "(II)J" } : Jvm.MethodName)) ∈ lw_all := lw_g (lw_at lw_m2 73 rfl) rfl
theorem q438 : (Jvm.Cond.static ({ cls := "jdk/internal/misc/Unsafe", name := "makeLong", desc := "(II)J" } : Jvm.MethodName)) ∈ lw_all := lw_g (lw_at lw_m2 74 rfl) rfl
theorem q439 : (Jvm.Cond.code ({ cls := "jdk/internal/misc/Unsafe", name := "makeLong", desc := "(II)J" } : Jvm.MethodName) prog_80_method_353_code (2 : Nat) (Option.some Jvm.ClassFile.FieldType.long)) ∈ lw_all := lw_g (lw_at lw_m2 75 rfl) rfl
theorem q440 : (Jvm.Cond.methodLink "jdk/internal/misc/Unsafe" (791 : Nat) ({ cls := "jdk/internal/misc/Unsafe", name := "toUnsignedLong", desc := "(I)J" } : Jvm.MethodName)) ∈ lw_all := lw_g (lw_at lw_m2 76 rfl) rfl
theorem q441 : (Jvm.Cond.static ({ cls := "jdk/internal/misc/Unsafe", name := "toUnsignedLong", desc := "(I)J" } : Jvm.MethodName)) ∈ lw_all := lw_g (lw_at lw_m2 77 rfl) rfl
theorem q442 : (Jvm.Cond.code ({ cls := "jdk/internal/misc/Unsafe", name := "toUnsignedLong", desc := "(I)J" } : Jvm.MethodName) prog_80_method_370_code (1 : Nat) (Option.some Jvm.ClassFile.FieldType.long)) ∈ lw_all := lw_g (lw_at lw_m2 78 rfl) rfl
theorem q443 : (Jvm.Cond.constantLong "jdk/internal/misc/Unsafe" (812 : Nat) (4294967295 : Int64)) ∈ lw_all := lw_g (lw_at lw_m2 79 rfl) rfl
theorem q444 : (Jvm.Cond.methodLink "jdk/internal/misc/Unsafe" (784 : Nat) ({ cls := "jdk/internal/misc/Unsafe", name := "pickPos", desc := "(II)I" } : Jvm.MethodName)) ∈ lw_all := lw_g (lw_at lw_m2 80 rfl) rfl
theorem q445 : (Jvm.Cond.static ({ cls := "jdk/internal/misc/Unsafe", name := "pickPos", desc := "(II)I" } : Jvm.MethodName)) ∈ lw_all := lw_g (lw_at lw_m2 81 rfl) rfl
theorem q446 : (Jvm.Cond.code ({ cls := "jdk/internal/misc/Unsafe", name := "pickPos", desc := "(II)I" } : Jvm.MethodName) prog_80_method_350_code (2 : Nat) (Option.some Jvm.ClassFile.FieldType.int)) ∈ lw_all := lw_g (lw_at lw_m2 82 rfl) rfl
theorem q447 : (Jvm.Cond.fieldLink "jdk/internal/misc/Unsafe" (351 : Nat) "jdk/internal/misc/UnsafeConstants" "BIG_ENDIAN" "Z") ∈ lw_all := lw_g (lw_at lw_m2 83 rfl) rfl
theorem q449 : (Jvm.Cond.methodLink "jdk/internal/misc/Unsafe" (47 : Nat) ({ cls := "jdk/internal/misc/Unsafe", name := "getShort", desc := "(Ljava/lang/Object;J)S" } : Jvm.MethodName)) ∈ lw_all := lw_g (lw_at lw_m2 85 rfl) rfl
theorem q450 : (Jvm.Cond.instanceMethod ({ cls := "jdk/internal/misc/Unsafe", name := "getShort", desc := "(Ljava/lang/Object;J)S" } : Jvm.MethodName)) ∈ lw_all := lw_g (lw_at lw_m2 86 rfl) rfl
theorem q451 : (Jvm.Cond.selects "jdk/internal/misc/Unsafe" ({ cls := "jdk/internal/misc/Unsafe", name := "getShort", desc := "(Ljava/lang/Object;J)S" } : Jvm.MethodName) ({ cls := "jdk/internal/misc/Unsafe", name := "getShort", desc := "(Ljava/lang/Object;J)S" } : Jvm.MethodName)) ∈ lw_all := lw_g (lw_at lw_m2 87 rfl) rfl
theorem q452 : (Jvm.Cond.native ({ cls := "jdk/internal/misc/Unsafe", name := "getShort", desc := "(Ljava/lang/Object;J)S" } : Jvm.MethodName)) ∈ lw_all := lw_g (lw_at lw_m2 88 rfl) rfl
theorem q453 : (Jvm.Cond.constantLong "jdk/internal/misc/Unsafe" (203 : Nat) (2 : Int64)) ∈ lw_all := lw_g (lw_at lw_m2 89 rfl) rfl
theorem q454 : (Jvm.Cond.constantLong "jdk/internal/misc/Unsafe" (702 : Nat) (6 : Int64)) ∈ lw_all := lw_g (lw_at lw_m2 90 rfl) rfl
theorem q455 : (Jvm.Cond.methodLink "jdk/internal/misc/Unsafe" (704 : Nat) ({ cls := "jdk/internal/misc/Unsafe", name := "makeLong", desc := "(SSSS)J" } : Jvm.MethodName)) ∈ lw_all := lw_g (lw_at lw_m2 91 rfl) rfl
theorem q456 : (Jvm.Cond.static ({ cls := "jdk/internal/misc/Unsafe", name := "makeLong", desc := "(SSSS)J" } : Jvm.MethodName)) ∈ lw_all := lw_g (lw_at lw_m2 92 rfl) rfl
theorem q457 : (Jvm.Cond.code ({ cls := "jdk/internal/misc/Unsafe", name := "makeLong", desc := "(SSSS)J" } : Jvm.MethodName) prog_80_method_352_code (4 : Nat) (Option.some Jvm.ClassFile.FieldType.long)) ∈ lw_all := lw_g (lw_at lw_m2 93 rfl) rfl
theorem q458 : (Jvm.Cond.methodLink "jdk/internal/misc/Unsafe" (788 : Nat) ({ cls := "jdk/internal/misc/Unsafe", name := "toUnsignedLong", desc := "(S)J" } : Jvm.MethodName)) ∈ lw_all := lw_g (lw_at lw_m2 94 rfl) rfl
theorem q459 : (Jvm.Cond.static ({ cls := "jdk/internal/misc/Unsafe", name := "toUnsignedLong", desc := "(S)J" } : Jvm.MethodName)) ∈ lw_all := lw_g (lw_at lw_m2 95 rfl) rfl
theorem q460 : (Jvm.Cond.code ({ cls := "jdk/internal/misc/Unsafe", name := "toUnsignedLong", desc := "(S)J" } : Jvm.MethodName) prog_80_method_369_code (1 : Nat) (Option.some Jvm.ClassFile.FieldType.long)) ∈ lw_all := lw_g (lw_at lw_m2 96 rfl) rfl
theorem q461 : (Jvm.Cond.constantLong "jdk/internal/misc/Unsafe" (810 : Nat) (65535 : Int64)) ∈ lw_all := lw_g (lw_at lw_m2 97 rfl) rfl
theorem q462 : (Jvm.Cond.methodLink "jdk/internal/misc/Unsafe" (39 : Nat) ({ cls := "jdk/internal/misc/Unsafe", name := "getByte", desc := "(Ljava/lang/Object;J)B" } : Jvm.MethodName)) ∈ lw_all := lw_g (lw_at lw_m2 98 rfl) rfl
theorem q463 : (Jvm.Cond.instanceMethod ({ cls := "jdk/internal/misc/Unsafe", name := "getByte", desc := "(Ljava/lang/Object;J)B" } : Jvm.MethodName)) ∈ lw_all := lw_g (lw_at lw_m2 99 rfl) rfl
theorem q464 : (Jvm.Cond.selects "jdk/internal/misc/Unsafe" ({ cls := "jdk/internal/misc/Unsafe", name := "getByte", desc := "(Ljava/lang/Object;J)B" } : Jvm.MethodName) ({ cls := "jdk/internal/misc/Unsafe", name := "getByte", desc := "(Ljava/lang/Object;J)B" } : Jvm.MethodName)) ∈ lw_all := lw_g (lw_at lw_m2 100 rfl) rfl
theorem q465 : (Jvm.Cond.native ({ cls := "jdk/internal/misc/Unsafe", name := "getByte", desc := "(Ljava/lang/Object;J)B" } : Jvm.MethodName)) ∈ lw_all := lw_g (lw_at lw_m2 101 rfl) rfl
theorem q466 : (Jvm.Cond.constantLong "jdk/internal/misc/Unsafe" (707 : Nat) (5 : Int64)) ∈ lw_all := lw_g (lw_at lw_m2 102 rfl) rfl
theorem q467 : (Jvm.Cond.methodLink "jdk/internal/misc/Unsafe" (709 : Nat) ({ cls := "jdk/internal/misc/Unsafe", name := "makeLong", desc := "(BBBBBBBB)J" } : Jvm.MethodName)) ∈ lw_all := lw_g (lw_at lw_m2 103 rfl) rfl
theorem q468 : (Jvm.Cond.static ({ cls := "jdk/internal/misc/Unsafe", name := "makeLong", desc := "(BBBBBBBB)J" } : Jvm.MethodName)) ∈ lw_all := lw_g (lw_at lw_m2 104 rfl) rfl
theorem q469 : (Jvm.Cond.code ({ cls := "jdk/internal/misc/Unsafe", name := "makeLong", desc := "(BBBBBBBB)J" } : Jvm.MethodName) prog_80_method_351_code (8 : Nat) (Option.some Jvm.ClassFile.FieldType.long)) ∈ lw_all := lw_g (lw_at lw_m2 105 rfl) rfl
theorem q470 : (Jvm.Cond.methodLink "jdk/internal/misc/Unsafe" (781 : Nat) ({ cls := "jdk/internal/misc/Unsafe", name := "toUnsignedLong", desc := "(B)J" } : Jvm.MethodName)) ∈ lw_all := lw_g (lw_at lw_m2 106 rfl) rfl
theorem q471 : (Jvm.Cond.static ({ cls := "jdk/internal/misc/Unsafe", name := "toUnsignedLong", desc := "(B)J" } : Jvm.MethodName)) ∈ lw_all := lw_g (lw_at lw_m2 107 rfl) rfl
theorem q472 : (Jvm.Cond.code ({ cls := "jdk/internal/misc/Unsafe", name := "toUnsignedLong", desc := "(B)J" } : Jvm.MethodName) prog_80_method_368_code (1 : Nat) (Option.some Jvm.ClassFile.FieldType.long)) ∈ lw_all := lw_g (lw_at lw_m2 108 rfl) rfl
theorem q473 : (Jvm.Cond.constantLong "jdk/internal/misc/Unsafe" (808 : Nat) (255 : Int64)) ∈ lw_all := lw_g (lw_at lw_m2 109 rfl) rfl
theorem q494 : (Jvm.Cond.instanceMethod ({ cls := "jdk/internal/misc/Unsafe", name := "getIntUnaligned", desc := "(Ljava/lang/Object;J)I" } : Jvm.MethodName)) ∈ lw_all := lw_g (lw_at lw_m2 130 rfl) rfl
theorem q495 : (Jvm.Cond.selects "jdk/internal/misc/Unsafe" ({ cls := "jdk/internal/misc/Unsafe", name := "getIntUnaligned", desc := "(Ljava/lang/Object;J)I" } : Jvm.MethodName) ({ cls := "jdk/internal/misc/Unsafe", name := "getIntUnaligned", desc := "(Ljava/lang/Object;J)I" } : Jvm.MethodName)) ∈ lw_all := lw_g (lw_at lw_m2 131 rfl) rfl
theorem q496 : (Jvm.Cond.code ({ cls := "jdk/internal/misc/Unsafe", name := "getIntUnaligned", desc := "(Ljava/lang/Object;J)I" } : Jvm.MethodName) prog_80_method_336_code (4 : Nat) (Option.some Jvm.ClassFile.FieldType.int)) ∈ lw_all := lw_g (lw_at lw_m2 132 rfl) rfl
theorem q497 : (Jvm.Cond.methodLink "jdk/internal/misc/Unsafe" (719 : Nat) ({ cls := "jdk/internal/misc/Unsafe", name := "makeInt", desc := "(SS)I" } : Jvm.MethodName)) ∈ lw_all := lw_g (lw_at lw_m2 133 rfl) rfl
theorem q498 : (Jvm.Cond.static ({ cls := "jdk/internal/misc/Unsafe", name := "makeInt", desc := "(SS)I" } : Jvm.MethodName)) ∈ lw_all := lw_g (lw_at lw_m2 134 rfl) rfl
theorem q499 : (Jvm.Cond.code ({ cls := "jdk/internal/misc/Unsafe", name := "makeInt", desc := "(SS)I" } : Jvm.MethodName) prog_80_method_354_code (2 : Nat) (Option.some Jvm.ClassFile.FieldType.int)) ∈ lw_all := lw_g (lw_at lw_m2 135 rfl) rfl
theorem q500 : (Jvm.Cond.methodLink "jdk/internal/misc/Unsafe" (792 : Nat) ({ cls := "jdk/internal/misc/Unsafe", name := "toUnsignedInt", desc := "(S)I" } : Jvm.MethodName)) ∈ lw_all := lw_g (lw_at lw_m2 136 rfl) rfl
theorem q501 : (Jvm.Cond.static ({ cls := "jdk/internal/misc/Unsafe", name := "toUnsignedInt", desc := "(S)I" } : Jvm.MethodName)) ∈ lw_all := lw_g (lw_at lw_m2 137 rfl) rfl
theorem q502 : (Jvm.Cond.code ({ cls := "jdk/internal/misc/Unsafe", name := "toUnsignedInt", desc := "(S)I" } : Jvm.MethodName) prog_80_method_367_code (1 : Nat) (Option.some Jvm.ClassFile.FieldType.int)) ∈ lw_all := lw_g (lw_at lw_m2 138 rfl) rfl
theorem q503 : (Jvm.Cond.constant "jdk/internal/misc/Unsafe" (374 : Nat) (65535 : Int32)) ∈ lw_all := lw_g (lw_at lw_m2 139 rfl) rfl
theorem q504 : (Jvm.Cond.methodLink "jdk/internal/misc/Unsafe" (723 : Nat) ({ cls := "jdk/internal/misc/Unsafe", name := "makeInt", desc := "(BBBB)I" } : Jvm.MethodName)) ∈ lw_all := lw_g (lw_at lw_m2 140 rfl) rfl
theorem q505 : (Jvm.Cond.static ({ cls := "jdk/internal/misc/Unsafe", name := "makeInt", desc := "(BBBB)I" } : Jvm.MethodName)) ∈ lw_all := lw_g (lw_at lw_m2 141 rfl) rfl
theorem q506 : (Jvm.Cond.code ({ cls := "jdk/internal/misc/Unsafe", name := "makeInt", desc := "(BBBB)I" } : Jvm.MethodName) prog_80_method_355_code (4 : Nat) (Option.some Jvm.ClassFile.FieldType.int)) ∈ lw_all := lw_g (lw_at lw_m2 142 rfl) rfl
theorem q507 : (Jvm.Cond.methodLink "jdk/internal/misc/Unsafe" (796 : Nat) ({ cls := "jdk/internal/misc/Unsafe", name := "toUnsignedInt", desc := "(B)I" } : Jvm.MethodName)) ∈ lw_all := lw_g (lw_at lw_m2 143 rfl) rfl
theorem q508 : (Jvm.Cond.static ({ cls := "jdk/internal/misc/Unsafe", name := "toUnsignedInt", desc := "(B)I" } : Jvm.MethodName)) ∈ lw_all := lw_g (lw_at lw_m2 144 rfl) rfl
theorem q509 : (Jvm.Cond.code ({ cls := "jdk/internal/misc/Unsafe", name := "toUnsignedInt", desc := "(B)I" } : Jvm.MethodName) prog_80_method_366_code (1 : Nat) (Option.some Jvm.ClassFile.FieldType.int)) ∈ lw_all := lw_g (lw_at lw_m2 145 rfl) rfl
theorem q1121 : (Jvm.Cond.selects "jdk/internal/misc/Unsafe" ({ cls := "java/lang/Object", name := "getClass", desc := "()Ljava/lang/Class;" } : Jvm.MethodName) ({ cls := "java/lang/Object", name := "getClass", desc := "()Ljava/lang/Class;" } : Jvm.MethodName)) ∈ lw_all := lw_g (lw_at lw_m5 37 rfl) rfl
theorem q3208 : (Jvm.Cond.castable "jdk/internal/misc/Unsafe" "java/lang/Object") ∈ lw_tbl := lw_at lw_m13 204 rfl
/-! java/lang/Long -/
set_option maxRecDepth 100000
def RJ10 : String := "java/lang/Long"
abbrev cJ10_numberOfLeadingZeros : ByteArray := prog_39_method_48_code
def yJ10_numberOfLeadingZeros : MethodName := ⟨RJ10, "numberOfLeadingZeros", "(J)I"⟩
def dkwJ10_numberOfLeadingZeros_1 : List UInt8 := [184, 1, 52, 172]
abbrev dktJ10_numberOfLeadingZeros_1 : List UInt8 := dkwJ10_numberOfLeadingZeros_1 ++ []
def dkwJ10_numberOfLeadingZeros_0 : List UInt8 := [30, 16, 32, 125, 136, 61, 28, 154, 0, 14, 16, 32, 30, 136, 184, 1, 52, 96, 167, 0, 7, 28]
abbrev dktJ10_numberOfLeadingZeros_0 : List UInt8 := dkwJ10_numberOfLeadingZeros_0 ++ dktJ10_numberOfLeadingZeros_1
theorem dksJ10_numberOfLeadingZeros_0 : cJ10_numberOfLeadingZeros.data.toList.drop 0 = dktJ10_numberOfLeadingZeros_0 := by decide +kernel
theorem dksJ10_numberOfLeadingZeros_1 : cJ10_numberOfLeadingZeros.data.toList.drop 22 = dktJ10_numberOfLeadingZeros_1 := dk_seg dksJ10_numberOfLeadingZeros_0 22 rfl rfl
theorem dJ10_numberOfLeadingZeros_0 : decode cJ10_numberOfLeadingZeros 0 = .ok (.lload_n 0, 1) := dk_30 (dk_at dksJ10_numberOfLeadingZeros_0 0 rfl rfl)
theorem dJ10_numberOfLeadingZeros_1 : decode cJ10_numberOfLeadingZeros 1 = .ok (.bipush 32, 2) := dk_16 32 (dk_at dksJ10_numberOfLeadingZeros_0 1 rfl rfl)
theorem dJ10_numberOfLeadingZeros_3 : decode cJ10_numberOfLeadingZeros 3 = .ok (.lushr, 1) := dk_125 (dk_at dksJ10_numberOfLeadingZeros_0 3 rfl rfl)
theorem dJ10_numberOfLeadingZeros_4 : decode cJ10_numberOfLeadingZeros 4 = .ok (.l2i, 1) := dk_136 (dk_at dksJ10_numberOfLeadingZeros_0 4 rfl rfl)
theorem dJ10_numberOfLeadingZeros_5 : decode cJ10_numberOfLeadingZeros 5 = .ok (.istore_n 2, 1) := dk_61 (dk_at dksJ10_numberOfLeadingZeros_0 5 rfl rfl)
theorem dJ10_numberOfLeadingZeros_6 : decode cJ10_numberOfLeadingZeros 6 = .ok (.iload_n 2, 1) := dk_28 (dk_at dksJ10_numberOfLeadingZeros_0 6 rfl rfl)
theorem dJ10_numberOfLeadingZeros_7 : decode cJ10_numberOfLeadingZeros 7 = .ok (.ifCond .ne 14, 3) := dk_154 0 14 (dk_at dksJ10_numberOfLeadingZeros_0 7 rfl rfl)
theorem dJ10_numberOfLeadingZeros_10 : decode cJ10_numberOfLeadingZeros 10 = .ok (.bipush 32, 2) := dk_16 32 (dk_at dksJ10_numberOfLeadingZeros_0 10 rfl rfl)
theorem dJ10_numberOfLeadingZeros_12 : decode cJ10_numberOfLeadingZeros 12 = .ok (.lload_n 0, 1) := dk_30 (dk_at dksJ10_numberOfLeadingZeros_0 12 rfl rfl)
theorem dJ10_numberOfLeadingZeros_13 : decode cJ10_numberOfLeadingZeros 13 = .ok (.l2i, 1) := dk_136 (dk_at dksJ10_numberOfLeadingZeros_0 13 rfl rfl)
theorem dJ10_numberOfLeadingZeros_14 : decode cJ10_numberOfLeadingZeros 14 = .ok (.invokestatic 308, 3) := dk_184 1 52 (dk_at dksJ10_numberOfLeadingZeros_0 14 rfl rfl)
theorem dJ10_numberOfLeadingZeros_17 : decode cJ10_numberOfLeadingZeros 17 = .ok (.iadd, 1) := dk_96 (dk_at dksJ10_numberOfLeadingZeros_0 17 rfl rfl)
theorem dJ10_numberOfLeadingZeros_18 : decode cJ10_numberOfLeadingZeros 18 = .ok (.goto 7, 3) := dk_167 0 7 (dk_at dksJ10_numberOfLeadingZeros_0 18 rfl rfl)
theorem dJ10_numberOfLeadingZeros_21 : decode cJ10_numberOfLeadingZeros 21 = .ok (.iload_n 2, 1) := dk_28 (dk_at dksJ10_numberOfLeadingZeros_0 21 rfl rfl)
theorem dJ10_numberOfLeadingZeros_22 : decode cJ10_numberOfLeadingZeros 22 = .ok (.invokestatic 308, 3) := dk_184 1 52 (dk_at dksJ10_numberOfLeadingZeros_1 0 rfl rfl)
theorem dJ10_numberOfLeadingZeros_25 : decode cJ10_numberOfLeadingZeros 25 = .ok (.ireturn, 1) := dk_172 (dk_at dksJ10_numberOfLeadingZeros_1 3 rfl rfl)
abbrev cJ10_numberOfTrailingZeros : ByteArray := prog_39_method_49_code
def yJ10_numberOfTrailingZeros : MethodName := ⟨RJ10, "numberOfTrailingZeros", "(J)I"⟩
def dkwJ10_numberOfTrailingZeros_1 : List UInt8 := [184, 1, 55, 172]
abbrev dktJ10_numberOfTrailingZeros_1 : List UInt8 := dkwJ10_numberOfTrailingZeros_1 ++ []
def dkwJ10_numberOfTrailingZeros_0 : List UInt8 := [30, 136, 61, 28, 154, 0, 17, 16, 32, 30, 16, 32, 125, 136, 184, 1, 55, 96, 167, 0, 7, 28]
abbrev dktJ10_numberOfTrailingZeros_0 : List UInt8 := dkwJ10_numberOfTrailingZeros_0 ++ dktJ10_numberOfTrailingZeros_1
theorem dksJ10_numberOfTrailingZeros_0 : cJ10_numberOfTrailingZeros.data.toList.drop 0 = dktJ10_numberOfTrailingZeros_0 := by decide +kernel
theorem dksJ10_numberOfTrailingZeros_1 : cJ10_numberOfTrailingZeros.data.toList.drop 22 = dktJ10_numberOfTrailingZeros_1 := dk_seg dksJ10_numberOfTrailingZeros_0 22 rfl rfl
theorem dJ10_numberOfTrailingZeros_0 : decode cJ10_numberOfTrailingZeros 0 = .ok (.lload_n 0, 1) := dk_30 (dk_at dksJ10_numberOfTrailingZeros_0 0 rfl rfl)
theorem dJ10_numberOfTrailingZeros_1 : decode cJ10_numberOfTrailingZeros 1 = .ok (.l2i, 1) := dk_136 (dk_at dksJ10_numberOfTrailingZeros_0 1 rfl rfl)
theorem dJ10_numberOfTrailingZeros_2 : decode cJ10_numberOfTrailingZeros 2 = .ok (.istore_n 2, 1) := dk_61 (dk_at dksJ10_numberOfTrailingZeros_0 2 rfl rfl)
theorem dJ10_numberOfTrailingZeros_3 : decode cJ10_numberOfTrailingZeros 3 = .ok (.iload_n 2, 1) := dk_28 (dk_at dksJ10_numberOfTrailingZeros_0 3 rfl rfl)
theorem dJ10_numberOfTrailingZeros_4 : decode cJ10_numberOfTrailingZeros 4 = .ok (.ifCond .ne 17, 3) := dk_154 0 17 (dk_at dksJ10_numberOfTrailingZeros_0 4 rfl rfl)
theorem dJ10_numberOfTrailingZeros_7 : decode cJ10_numberOfTrailingZeros 7 = .ok (.bipush 32, 2) := dk_16 32 (dk_at dksJ10_numberOfTrailingZeros_0 7 rfl rfl)
theorem dJ10_numberOfTrailingZeros_9 : decode cJ10_numberOfTrailingZeros 9 = .ok (.lload_n 0, 1) := dk_30 (dk_at dksJ10_numberOfTrailingZeros_0 9 rfl rfl)
theorem dJ10_numberOfTrailingZeros_10 : decode cJ10_numberOfTrailingZeros 10 = .ok (.bipush 32, 2) := dk_16 32 (dk_at dksJ10_numberOfTrailingZeros_0 10 rfl rfl)
theorem dJ10_numberOfTrailingZeros_12 : decode cJ10_numberOfTrailingZeros 12 = .ok (.lushr, 1) := dk_125 (dk_at dksJ10_numberOfTrailingZeros_0 12 rfl rfl)
theorem dJ10_numberOfTrailingZeros_13 : decode cJ10_numberOfTrailingZeros 13 = .ok (.l2i, 1) := dk_136 (dk_at dksJ10_numberOfTrailingZeros_0 13 rfl rfl)
theorem dJ10_numberOfTrailingZeros_14 : decode cJ10_numberOfTrailingZeros 14 = .ok (.invokestatic 311, 3) := dk_184 1 55 (dk_at dksJ10_numberOfTrailingZeros_0 14 rfl rfl)
theorem dJ10_numberOfTrailingZeros_17 : decode cJ10_numberOfTrailingZeros 17 = .ok (.iadd, 1) := dk_96 (dk_at dksJ10_numberOfTrailingZeros_0 17 rfl rfl)
theorem dJ10_numberOfTrailingZeros_18 : decode cJ10_numberOfTrailingZeros 18 = .ok (.goto 7, 3) := dk_167 0 7 (dk_at dksJ10_numberOfTrailingZeros_0 18 rfl rfl)
theorem dJ10_numberOfTrailingZeros_21 : decode cJ10_numberOfTrailingZeros 21 = .ok (.iload_n 2, 1) := dk_28 (dk_at dksJ10_numberOfTrailingZeros_0 21 rfl rfl)
theorem dJ10_numberOfTrailingZeros_22 : decode cJ10_numberOfTrailingZeros 22 = .ok (.invokestatic 311, 3) := dk_184 1 55 (dk_at dksJ10_numberOfTrailingZeros_1 0 rfl rfl)
theorem dJ10_numberOfTrailingZeros_25 : decode cJ10_numberOfTrailingZeros 25 = .ok (.ireturn, 1) := dk_172 (dk_at dksJ10_numberOfTrailingZeros_1 3 rfl rfl)
theorem q141 : (Jvm.Cond.initialized "java/lang/Long") ∈ lw_all := lw_g (lw_at lw_m1 17 rfl) rfl
theorem q477 : (Jvm.Cond.static ({ cls := "java/lang/Long", name := "numberOfLeadingZeros", desc := "(J)I" } : Jvm.MethodName)) ∈ lw_all := lw_g (lw_at lw_m2 113 rfl) rfl
theorem q478 : (Jvm.Cond.code ({ cls := "java/lang/Long", name := "numberOfLeadingZeros", desc := "(J)I" } : Jvm.MethodName) prog_39_method_48_code (3 : Nat) (Option.some Jvm.ClassFile.FieldType.int)) ∈ lw_all := lw_g (lw_at lw_m2 114 rfl) rfl
theorem q479 : (Jvm.Cond.methodLink "java/lang/Long" (308 : Nat) ({ cls := "java/lang/Integer", name := "numberOfLeadingZeros", desc := "(I)I" } : Jvm.MethodName)) ∈ lw_all := lw_g (lw_at lw_m2 115 rfl) rfl
theorem q486 : (Jvm.Cond.static ({ cls := "java/lang/Long", name := "numberOfTrailingZeros", desc := "(J)I" } : Jvm.MethodName)) ∈ lw_all := lw_g (lw_at lw_m2 122 rfl) rfl
theorem q487 : (Jvm.Cond.code ({ cls := "java/lang/Long", name := "numberOfTrailingZeros", desc := "(J)I" } : Jvm.MethodName) prog_39_method_49_code (3 : Nat) (Option.some Jvm.ClassFile.FieldType.int)) ∈ lw_all := lw_g (lw_at lw_m2 123 rfl) rfl
theorem q488 : (Jvm.Cond.methodLink "java/lang/Long" (311 : Nat) ({ cls := "java/lang/Integer", name := "numberOfTrailingZeros", desc := "(I)I" } : Jvm.MethodName)) ∈ lw_all := lw_g (lw_at lw_m2 124 rfl) rfl
/-! java/lang/StringUTF16 -/
set_option maxRecDepth 100000
def RJ11 : String := "java/lang/StringUTF16"
abbrev cJ11_compareTo : ByteArray := prog_45_method_29_code
def yJ11_compareTo : MethodName := ⟨RJ11, "compareTo", "([B[B)I"⟩
def dkwJ11_compareTo_0 : List UInt8 := [42, 184, 0, 48, 61, 43, 184, 0, 48, 62, 42, 43, 28, 29, 184, 0, 176, 172]
abbrev dktJ11_compareTo_0 : List UInt8 := dkwJ11_compareTo_0 ++ []
theorem dksJ11_compareTo_0 : cJ11_compareTo.data.toList.drop 0 = dktJ11_compareTo_0 := by decide +kernel
theorem dJ11_compareTo_0 : decode cJ11_compareTo 0 = .ok (.aload_n 0, 1) := dk_42 (dk_at dksJ11_compareTo_0 0 rfl rfl)
theorem dJ11_compareTo_1 : decode cJ11_compareTo 1 = .ok (.invokestatic 48, 3) := dk_184 0 48 (dk_at dksJ11_compareTo_0 1 rfl rfl)
theorem dJ11_compareTo_4 : decode cJ11_compareTo 4 = .ok (.istore_n 2, 1) := dk_61 (dk_at dksJ11_compareTo_0 4 rfl rfl)
theorem dJ11_compareTo_5 : decode cJ11_compareTo 5 = .ok (.aload_n 1, 1) := dk_43 (dk_at dksJ11_compareTo_0 5 rfl rfl)
theorem dJ11_compareTo_6 : decode cJ11_compareTo 6 = .ok (.invokestatic 48, 3) := dk_184 0 48 (dk_at dksJ11_compareTo_0 6 rfl rfl)
theorem dJ11_compareTo_9 : decode cJ11_compareTo 9 = .ok (.istore_n 3, 1) := dk_62 (dk_at dksJ11_compareTo_0 9 rfl rfl)
theorem dJ11_compareTo_10 : decode cJ11_compareTo 10 = .ok (.aload_n 0, 1) := dk_42 (dk_at dksJ11_compareTo_0 10 rfl rfl)
theorem dJ11_compareTo_11 : decode cJ11_compareTo 11 = .ok (.aload_n 1, 1) := dk_43 (dk_at dksJ11_compareTo_0 11 rfl rfl)
theorem dJ11_compareTo_12 : decode cJ11_compareTo 12 = .ok (.iload_n 2, 1) := dk_28 (dk_at dksJ11_compareTo_0 12 rfl rfl)
theorem dJ11_compareTo_13 : decode cJ11_compareTo 13 = .ok (.iload_n 3, 1) := dk_29 (dk_at dksJ11_compareTo_0 13 rfl rfl)
theorem dJ11_compareTo_14 : decode cJ11_compareTo 14 = .ok (.invokestatic 176, 3) := dk_184 0 176 (dk_at dksJ11_compareTo_0 14 rfl rfl)
theorem dJ11_compareTo_17 : decode cJ11_compareTo 17 = .ok (.ireturn, 1) := dk_172 (dk_at dksJ11_compareTo_0 17 rfl rfl)
abbrev cJ11_length : ByteArray := prog_45_method_6_code
def yJ11_length : MethodName := ⟨RJ11, "length", "([B)I"⟩
def dkwJ11_length_0 : List UInt8 := [42, 190, 4, 122, 172]
abbrev dktJ11_length_0 : List UInt8 := dkwJ11_length_0 ++ []
theorem dksJ11_length_0 : cJ11_length.data.toList.drop 0 = dktJ11_length_0 := by decide +kernel
theorem dJ11_length_0 : decode cJ11_length 0 = .ok (.aload_n 0, 1) := dk_42 (dk_at dksJ11_length_0 0 rfl rfl)
theorem dJ11_length_1 : decode cJ11_length 1 = .ok (.arraylength, 1) := dk_190 (dk_at dksJ11_length_0 1 rfl rfl)
theorem dJ11_length_2 : decode cJ11_length 2 = .ok (.iconst 1, 1) := dk_4 (dk_at dksJ11_length_0 2 rfl rfl)
theorem dJ11_length_3 : decode cJ11_length 3 = .ok (.ishr, 1) := dk_122 (dk_at dksJ11_length_0 3 rfl rfl)
theorem dJ11_length_4 : decode cJ11_length 4 = .ok (.ireturn, 1) := dk_172 (dk_at dksJ11_length_0 4 rfl rfl)
abbrev cJ11_compareValues : ByteArray := prog_45_method_31_code
def yJ11_compareValues : MethodName := ⟨RJ11, "compareValues", "([B[BII)I"⟩
def dkwJ11_compareValues_2 : List UInt8 := [132, 5, 1, 167, 255, 217, 28, 29, 100, 172]
abbrev dktJ11_compareValues_2 : List UInt8 := dkwJ11_compareValues_2 ++ []
def dkwJ11_compareValues_1 : List UInt8 := [54, 6, 43, 21, 5, 184, 0, 71, 54, 7, 21, 6, 21, 7, 159, 0, 9, 21, 6, 21, 7, 100, 172]
abbrev dktJ11_compareValues_1 : List UInt8 := dkwJ11_compareValues_1 ++ dktJ11_compareValues_2
def dkwJ11_compareValues_0 : List UInt8 := [28, 29, 184, 0, 183, 54, 4, 3, 54, 5, 21, 5, 21, 4, 162, 0, 38, 42, 21, 5, 184, 0, 71]
abbrev dktJ11_compareValues_0 : List UInt8 := dkwJ11_compareValues_0 ++ dktJ11_compareValues_1
theorem dksJ11_compareValues_0 : cJ11_compareValues.data.toList.drop 0 = dktJ11_compareValues_0 := by decide +kernel
theorem dksJ11_compareValues_1 : cJ11_compareValues.data.toList.drop 23 = dktJ11_compareValues_1 := dk_seg dksJ11_compareValues_0 23 rfl rfl
theorem dksJ11_compareValues_2 : cJ11_compareValues.data.toList.drop 46 = dktJ11_compareValues_2 := dk_seg dksJ11_compareValues_1 23 rfl rfl
theorem dJ11_compareValues_0 : decode cJ11_compareValues 0 = .ok (.iload_n 2, 1) := dk_28 (dk_at dksJ11_compareValues_0 0 rfl rfl)
theorem dJ11_compareValues_1 : decode cJ11_compareValues 1 = .ok (.iload_n 3, 1) := dk_29 (dk_at dksJ11_compareValues_0 1 rfl rfl)
theorem dJ11_compareValues_2 : decode cJ11_compareValues 2 = .ok (.invokestatic 183, 3) := dk_184 0 183 (dk_at dksJ11_compareValues_0 2 rfl rfl)
theorem dJ11_compareValues_5 : decode cJ11_compareValues 5 = .ok (.istore 4, 2) := dk_54 4 (dk_at dksJ11_compareValues_0 5 rfl rfl)
theorem dJ11_compareValues_7 : decode cJ11_compareValues 7 = .ok (.iconst 0, 1) := dk_3 (dk_at dksJ11_compareValues_0 7 rfl rfl)
theorem dJ11_compareValues_8 : decode cJ11_compareValues 8 = .ok (.istore 5, 2) := dk_54 5 (dk_at dksJ11_compareValues_0 8 rfl rfl)
theorem dJ11_compareValues_10 : decode cJ11_compareValues 10 = .ok (.iload 5, 2) := dk_21 5 (dk_at dksJ11_compareValues_0 10 rfl rfl)
theorem dJ11_compareValues_12 : decode cJ11_compareValues 12 = .ok (.iload 4, 2) := dk_21 4 (dk_at dksJ11_compareValues_0 12 rfl rfl)
theorem dJ11_compareValues_14 : decode cJ11_compareValues 14 = .ok (.if_icmp .ge 38, 3) := dk_162 0 38 (dk_at dksJ11_compareValues_0 14 rfl rfl)
theorem dJ11_compareValues_17 : decode cJ11_compareValues 17 = .ok (.aload_n 0, 1) := dk_42 (dk_at dksJ11_compareValues_0 17 rfl rfl)
theorem dJ11_compareValues_18 : decode cJ11_compareValues 18 = .ok (.iload 5, 2) := dk_21 5 (dk_at dksJ11_compareValues_0 18 rfl rfl)
theorem dJ11_compareValues_20 : decode cJ11_compareValues 20 = .ok (.invokestatic 71, 3) := dk_184 0 71 (dk_at dksJ11_compareValues_0 20 rfl rfl)
theorem dJ11_compareValues_23 : decode cJ11_compareValues 23 = .ok (.istore 6, 2) := dk_54 6 (dk_at dksJ11_compareValues_1 0 rfl rfl)
theorem dJ11_compareValues_25 : decode cJ11_compareValues 25 = .ok (.aload_n 1, 1) := dk_43 (dk_at dksJ11_compareValues_1 2 rfl rfl)
theorem dJ11_compareValues_26 : decode cJ11_compareValues 26 = .ok (.iload 5, 2) := dk_21 5 (dk_at dksJ11_compareValues_1 3 rfl rfl)
theorem dJ11_compareValues_28 : decode cJ11_compareValues 28 = .ok (.invokestatic 71, 3) := dk_184 0 71 (dk_at dksJ11_compareValues_1 5 rfl rfl)
theorem dJ11_compareValues_31 : decode cJ11_compareValues 31 = .ok (.istore 7, 2) := dk_54 7 (dk_at dksJ11_compareValues_1 8 rfl rfl)
theorem dJ11_compareValues_33 : decode cJ11_compareValues 33 = .ok (.iload 6, 2) := dk_21 6 (dk_at dksJ11_compareValues_1 10 rfl rfl)
theorem dJ11_compareValues_35 : decode cJ11_compareValues 35 = .ok (.iload 7, 2) := dk_21 7 (dk_at dksJ11_compareValues_1 12 rfl rfl)
theorem dJ11_compareValues_37 : decode cJ11_compareValues 37 = .ok (.if_icmp .eq 9, 3) := dk_159 0 9 (dk_at dksJ11_compareValues_1 14 rfl rfl)
theorem dJ11_compareValues_40 : decode cJ11_compareValues 40 = .ok (.iload 6, 2) := dk_21 6 (dk_at dksJ11_compareValues_1 17 rfl rfl)
theorem dJ11_compareValues_42 : decode cJ11_compareValues 42 = .ok (.iload 7, 2) := dk_21 7 (dk_at dksJ11_compareValues_1 19 rfl rfl)
theorem dJ11_compareValues_44 : decode cJ11_compareValues 44 = .ok (.isub, 1) := dk_100 (dk_at dksJ11_compareValues_1 21 rfl rfl)
theorem dJ11_compareValues_45 : decode cJ11_compareValues 45 = .ok (.ireturn, 1) := dk_172 (dk_at dksJ11_compareValues_1 22 rfl rfl)
theorem dJ11_compareValues_46 : decode cJ11_compareValues 46 = .ok (.iinc 5 1, 3) := dk_132 5 1 (dk_at dksJ11_compareValues_2 0 rfl rfl)
theorem dJ11_compareValues_49 : decode cJ11_compareValues 49 = .ok (.goto (-39), 3) := dk_167 255 217 (dk_at dksJ11_compareValues_2 3 rfl rfl)
theorem dJ11_compareValues_52 : decode cJ11_compareValues 52 = .ok (.iload_n 2, 1) := dk_28 (dk_at dksJ11_compareValues_2 6 rfl rfl)
theorem dJ11_compareValues_53 : decode cJ11_compareValues 53 = .ok (.iload_n 3, 1) := dk_29 (dk_at dksJ11_compareValues_2 7 rfl rfl)
theorem dJ11_compareValues_54 : decode cJ11_compareValues 54 = .ok (.isub, 1) := dk_100 (dk_at dksJ11_compareValues_2 8 rfl rfl)
theorem dJ11_compareValues_55 : decode cJ11_compareValues 55 = .ok (.ireturn, 1) := dk_172 (dk_at dksJ11_compareValues_2 9 rfl rfl)
abbrev cJ11_getChar : ByteArray := prog_45_method_5_code
def yJ11_getChar : MethodName := ⟨RJ11, "getChar", "([BI)C"⟩
def dkwJ11_getChar_2 : List UInt8 := [51, 17, 0, 255, 126, 178, 0, 63, 120, 128, 146, 172]
abbrev dktJ11_getChar_2 : List UInt8 := dkwJ11_getChar_2 ++ []
def dkwJ11_getChar_1 : List UInt8 := [183, 0, 56, 191, 27, 4, 120, 60, 42, 27, 132, 1, 1, 51, 17, 0, 255, 126, 178, 0, 59, 120, 42, 27]
abbrev dktJ11_getChar_1 : List UInt8 := dkwJ11_getChar_1 ++ dktJ11_getChar_2
def dkwJ11_getChar_0 : List UInt8 := [178, 0, 44, 154, 0, 25, 27, 155, 0, 11, 27, 42, 184, 0, 48, 161, 0, 13, 187, 0, 52, 89, 18, 54]
abbrev dktJ11_getChar_0 : List UInt8 := dkwJ11_getChar_0 ++ dktJ11_getChar_1
theorem dksJ11_getChar_0 : cJ11_getChar.data.toList.drop 0 = dktJ11_getChar_0 := by decide +kernel
theorem dksJ11_getChar_1 : cJ11_getChar.data.toList.drop 24 = dktJ11_getChar_1 := dk_seg dksJ11_getChar_0 24 rfl rfl
theorem dksJ11_getChar_2 : cJ11_getChar.data.toList.drop 48 = dktJ11_getChar_2 := dk_seg dksJ11_getChar_1 24 rfl rfl
theorem dJ11_getChar_0 : decode cJ11_getChar 0 = .ok (.getstatic 44, 3) := dk_178 0 44 (dk_at dksJ11_getChar_0 0 rfl rfl)
theorem dJ11_getChar_3 : decode cJ11_getChar 3 = .ok (.ifCond .ne 25, 3) := dk_154 0 25 (dk_at dksJ11_getChar_0 3 rfl rfl)
theorem dJ11_getChar_6 : decode cJ11_getChar 6 = .ok (.iload_n 1, 1) := dk_27 (dk_at dksJ11_getChar_0 6 rfl rfl)
theorem dJ11_getChar_7 : decode cJ11_getChar 7 = .ok (.ifCond .lt 11, 3) := dk_155 0 11 (dk_at dksJ11_getChar_0 7 rfl rfl)
theorem dJ11_getChar_10 : decode cJ11_getChar 10 = .ok (.iload_n 1, 1) := dk_27 (dk_at dksJ11_getChar_0 10 rfl rfl)
theorem dJ11_getChar_11 : decode cJ11_getChar 11 = .ok (.aload_n 0, 1) := dk_42 (dk_at dksJ11_getChar_0 11 rfl rfl)
theorem dJ11_getChar_12 : decode cJ11_getChar 12 = .ok (.invokestatic 48, 3) := dk_184 0 48 (dk_at dksJ11_getChar_0 12 rfl rfl)
theorem dJ11_getChar_15 : decode cJ11_getChar 15 = .ok (.if_icmp .lt 13, 3) := dk_161 0 13 (dk_at dksJ11_getChar_0 15 rfl rfl)
theorem dJ11_getChar_18 : decode cJ11_getChar 18 = .ok (.new 52, 3) := dk_187 0 52 (dk_at dksJ11_getChar_0 18 rfl rfl)
theorem dJ11_getChar_21 : decode cJ11_getChar 21 = .ok (.dup, 1) := dk_89 (dk_at dksJ11_getChar_0 21 rfl rfl)
theorem dJ11_getChar_22 : decode cJ11_getChar 22 = .ok (.ldc 54, 2) := dk_18 54 (dk_at dksJ11_getChar_0 22 rfl rfl)
theorem dJ11_getChar_24 : decode cJ11_getChar 24 = .ok (.invokespecial 56, 3) := dk_183 0 56 (dk_at dksJ11_getChar_1 0 rfl rfl)
theorem dJ11_getChar_27 : decode cJ11_getChar 27 = .ok (.athrow, 1) := dk_191 (dk_at dksJ11_getChar_1 3 rfl rfl)
theorem dJ11_getChar_28 : decode cJ11_getChar 28 = .ok (.iload_n 1, 1) := dk_27 (dk_at dksJ11_getChar_1 4 rfl rfl)
theorem dJ11_getChar_29 : decode cJ11_getChar 29 = .ok (.iconst 1, 1) := dk_4 (dk_at dksJ11_getChar_1 5 rfl rfl)
theorem dJ11_getChar_30 : decode cJ11_getChar 30 = .ok (.ishl, 1) := dk_120 (dk_at dksJ11_getChar_1 6 rfl rfl)
theorem dJ11_getChar_31 : decode cJ11_getChar 31 = .ok (.istore_n 1, 1) := dk_60 (dk_at dksJ11_getChar_1 7 rfl rfl)
theorem dJ11_getChar_32 : decode cJ11_getChar 32 = .ok (.aload_n 0, 1) := dk_42 (dk_at dksJ11_getChar_1 8 rfl rfl)
theorem dJ11_getChar_33 : decode cJ11_getChar 33 = .ok (.iload_n 1, 1) := dk_27 (dk_at dksJ11_getChar_1 9 rfl rfl)
theorem dJ11_getChar_34 : decode cJ11_getChar 34 = .ok (.iinc 1 1, 3) := dk_132 1 1 (dk_at dksJ11_getChar_1 10 rfl rfl)
theorem dJ11_getChar_37 : decode cJ11_getChar 37 = .ok (.baload, 1) := dk_51 (dk_at dksJ11_getChar_1 13 rfl rfl)
theorem dJ11_getChar_38 : decode cJ11_getChar 38 = .ok (.sipush 255, 3) := dk_17 0 255 (dk_at dksJ11_getChar_1 14 rfl rfl)
theorem dJ11_getChar_41 : decode cJ11_getChar 41 = .ok (.iand, 1) := dk_126 (dk_at dksJ11_getChar_1 17 rfl rfl)
theorem dJ11_getChar_42 : decode cJ11_getChar 42 = .ok (.getstatic 59, 3) := dk_178 0 59 (dk_at dksJ11_getChar_1 18 rfl rfl)
theorem dJ11_getChar_45 : decode cJ11_getChar 45 = .ok (.ishl, 1) := dk_120 (dk_at dksJ11_getChar_1 21 rfl rfl)
theorem dJ11_getChar_46 : decode cJ11_getChar 46 = .ok (.aload_n 0, 1) := dk_42 (dk_at dksJ11_getChar_1 22 rfl rfl)
theorem dJ11_getChar_47 : decode cJ11_getChar 47 = .ok (.iload_n 1, 1) := dk_27 (dk_at dksJ11_getChar_1 23 rfl rfl)
theorem dJ11_getChar_48 : decode cJ11_getChar 48 = .ok (.baload, 1) := dk_51 (dk_at dksJ11_getChar_2 0 rfl rfl)
theorem dJ11_getChar_49 : decode cJ11_getChar 49 = .ok (.sipush 255, 3) := dk_17 0 255 (dk_at dksJ11_getChar_2 1 rfl rfl)
theorem dJ11_getChar_52 : decode cJ11_getChar 52 = .ok (.iand, 1) := dk_126 (dk_at dksJ11_getChar_2 4 rfl rfl)
theorem dJ11_getChar_53 : decode cJ11_getChar 53 = .ok (.getstatic 63, 3) := dk_178 0 63 (dk_at dksJ11_getChar_2 5 rfl rfl)
theorem dJ11_getChar_56 : decode cJ11_getChar 56 = .ok (.ishl, 1) := dk_120 (dk_at dksJ11_getChar_2 8 rfl rfl)
theorem dJ11_getChar_57 : decode cJ11_getChar 57 = .ok (.ior, 1) := dk_128 (dk_at dksJ11_getChar_2 9 rfl rfl)
theorem dJ11_getChar_58 : decode cJ11_getChar 58 = .ok (.i2c, 1) := dk_146 (dk_at dksJ11_getChar_2 10 rfl rfl)
theorem dJ11_getChar_59 : decode cJ11_getChar 59 = .ok (.ireturn, 1) := dk_172 (dk_at dksJ11_getChar_2 11 rfl rfl)
abbrev cJ11_compareToLatin1 : ByteArray := prog_45_method_32_code
def yJ11_compareToLatin1 : MethodName := ⟨RJ11, "compareToLatin1", "([B[B)I"⟩
def dkwJ11_compareToLatin1_0 : List UInt8 := [43, 42, 184, 0, 189, 116, 172]
abbrev dktJ11_compareToLatin1_0 : List UInt8 := dkwJ11_compareToLatin1_0 ++ []
theorem dksJ11_compareToLatin1_0 : cJ11_compareToLatin1.data.toList.drop 0 = dktJ11_compareToLatin1_0 := by decide +kernel
theorem dJ11_compareToLatin1_0 : decode cJ11_compareToLatin1 0 = .ok (.aload_n 1, 1) := dk_43 (dk_at dksJ11_compareToLatin1_0 0 rfl rfl)
theorem dJ11_compareToLatin1_1 : decode cJ11_compareToLatin1 1 = .ok (.aload_n 0, 1) := dk_42 (dk_at dksJ11_compareToLatin1_0 1 rfl rfl)
theorem dJ11_compareToLatin1_2 : decode cJ11_compareToLatin1 2 = .ok (.invokestatic 189, 3) := dk_184 0 189 (dk_at dksJ11_compareToLatin1_0 2 rfl rfl)
theorem dJ11_compareToLatin1_5 : decode cJ11_compareToLatin1 5 = .ok (.ineg, 1) := dk_116 (dk_at dksJ11_compareToLatin1_0 5 rfl rfl)
theorem dJ11_compareToLatin1_6 : decode cJ11_compareToLatin1 6 = .ok (.ireturn, 1) := dk_172 (dk_at dksJ11_compareToLatin1_0 6 rfl rfl)
abbrev cJ11_compareTo_2 : ByteArray := prog_45_method_30_code
def yJ11_compareTo_2 : MethodName := ⟨RJ11, "compareTo", "([B[BII)I"⟩
def dkwJ11_compareTo_2_0 : List UInt8 := [28, 42, 184, 0, 180, 29, 43, 184, 0, 180, 42, 43, 28, 29, 184, 0, 176, 172]
abbrev dktJ11_compareTo_2_0 : List UInt8 := dkwJ11_compareTo_2_0 ++ []
theorem dksJ11_compareTo_2_0 : cJ11_compareTo_2.data.toList.drop 0 = dktJ11_compareTo_2_0 := by decide +kernel
theorem dJ11_compareTo_2_0 : decode cJ11_compareTo_2 0 = .ok (.iload_n 2, 1) := dk_28 (dk_at dksJ11_compareTo_2_0 0 rfl rfl)
theorem dJ11_compareTo_2_1 : decode cJ11_compareTo_2 1 = .ok (.aload_n 0, 1) := dk_42 (dk_at dksJ11_compareTo_2_0 1 rfl rfl)
theorem dJ11_compareTo_2_2 : decode cJ11_compareTo_2 2 = .ok (.invokestatic 180, 3) := dk_184 0 180 (dk_at dksJ11_compareTo_2_0 2 rfl rfl)
theorem dJ11_compareTo_2_5 : decode cJ11_compareTo_2 5 = .ok (.iload_n 3, 1) := dk_29 (dk_at dksJ11_compareTo_2_0 5 rfl rfl)
theorem dJ11_compareTo_2_6 : decode cJ11_compareTo_2 6 = .ok (.aload_n 1, 1) := dk_43 (dk_at dksJ11_compareTo_2_0 6 rfl rfl)
theorem dJ11_compareTo_2_7 : decode cJ11_compareTo_2 7 = .ok (.invokestatic 180, 3) := dk_184 0 180 (dk_at dksJ11_compareTo_2_0 7 rfl rfl)
theorem dJ11_compareTo_2_10 : decode cJ11_compareTo_2 10 = .ok (.aload_n 0, 1) := dk_42 (dk_at dksJ11_compareTo_2_0 10 rfl rfl)
theorem dJ11_compareTo_2_11 : decode cJ11_compareTo_2 11 = .ok (.aload_n 1, 1) := dk_43 (dk_at dksJ11_compareTo_2_0 11 rfl rfl)
theorem dJ11_compareTo_2_12 : decode cJ11_compareTo_2 12 = .ok (.iload_n 2, 1) := dk_28 (dk_at dksJ11_compareTo_2_0 12 rfl rfl)
theorem dJ11_compareTo_2_13 : decode cJ11_compareTo_2 13 = .ok (.iload_n 3, 1) := dk_29 (dk_at dksJ11_compareTo_2_0 13 rfl rfl)
theorem dJ11_compareTo_2_14 : decode cJ11_compareTo_2 14 = .ok (.invokestatic 176, 3) := dk_184 0 176 (dk_at dksJ11_compareTo_2_0 14 rfl rfl)
theorem dJ11_compareTo_2_17 : decode cJ11_compareTo_2 17 = .ok (.ireturn, 1) := dk_172 (dk_at dksJ11_compareTo_2_0 17 rfl rfl)
abbrev cJ11_checkOffset : ByteArray := prog_45_method_92_code
def yJ11_checkOffset : MethodName := ⟨RJ11, "checkOffset", "(I[B)V"⟩
def dkwJ11_checkOffset_0 : List UInt8 := [26, 43, 184, 0, 48, 184, 1, 161, 177]
abbrev dktJ11_checkOffset_0 : List UInt8 := dkwJ11_checkOffset_0 ++ []
theorem dksJ11_checkOffset_0 : cJ11_checkOffset.data.toList.drop 0 = dktJ11_checkOffset_0 := by decide +kernel
theorem dJ11_checkOffset_0 : decode cJ11_checkOffset 0 = .ok (.iload_n 0, 1) := dk_26 (dk_at dksJ11_checkOffset_0 0 rfl rfl)
theorem dJ11_checkOffset_1 : decode cJ11_checkOffset 1 = .ok (.aload_n 1, 1) := dk_43 (dk_at dksJ11_checkOffset_0 1 rfl rfl)
theorem dJ11_checkOffset_2 : decode cJ11_checkOffset 2 = .ok (.invokestatic 48, 3) := dk_184 0 48 (dk_at dksJ11_checkOffset_0 2 rfl rfl)
theorem dJ11_checkOffset_5 : decode cJ11_checkOffset 5 = .ok (.invokestatic 417, 3) := dk_184 1 161 (dk_at dksJ11_checkOffset_0 5 rfl rfl)
theorem dJ11_checkOffset_8 : decode cJ11_checkOffset 8 = .ok (.return_, 1) := dk_177 (dk_at dksJ11_checkOffset_0 8 rfl rfl)
abbrev cJ11_compareToLatin1_2 : ByteArray := prog_45_method_33_code
def yJ11_compareToLatin1_2 : MethodName := ⟨RJ11, "compareToLatin1", "([B[BII)I"⟩
def dkwJ11_compareToLatin1_2_0 : List UInt8 := [43, 42, 29, 28, 184, 0, 193, 116, 172]
abbrev dktJ11_compareToLatin1_2_0 : List UInt8 := dkwJ11_compareToLatin1_2_0 ++ []
theorem dksJ11_compareToLatin1_2_0 : cJ11_compareToLatin1_2.data.toList.drop 0 = dktJ11_compareToLatin1_2_0 := by decide +kernel
theorem dJ11_compareToLatin1_2_0 : decode cJ11_compareToLatin1_2 0 = .ok (.aload_n 1, 1) := dk_43 (dk_at dksJ11_compareToLatin1_2_0 0 rfl rfl)
theorem dJ11_compareToLatin1_2_1 : decode cJ11_compareToLatin1_2 1 = .ok (.aload_n 0, 1) := dk_42 (dk_at dksJ11_compareToLatin1_2_0 1 rfl rfl)
theorem dJ11_compareToLatin1_2_2 : decode cJ11_compareToLatin1_2 2 = .ok (.iload_n 3, 1) := dk_29 (dk_at dksJ11_compareToLatin1_2_0 2 rfl rfl)
theorem dJ11_compareToLatin1_2_3 : decode cJ11_compareToLatin1_2 3 = .ok (.iload_n 2, 1) := dk_28 (dk_at dksJ11_compareToLatin1_2_0 3 rfl rfl)
theorem dJ11_compareToLatin1_2_4 : decode cJ11_compareToLatin1_2 4 = .ok (.invokestatic 193, 3) := dk_184 0 193 (dk_at dksJ11_compareToLatin1_2_0 4 rfl rfl)
theorem dJ11_compareToLatin1_2_7 : decode cJ11_compareToLatin1_2 7 = .ok (.ineg, 1) := dk_116 (dk_at dksJ11_compareToLatin1_2_0 7 rfl rfl)
theorem dJ11_compareToLatin1_2_8 : decode cJ11_compareToLatin1_2 8 = .ok (.ireturn, 1) := dk_172 (dk_at dksJ11_compareToLatin1_2_0 8 rfl rfl)
abbrev cJ11_newBytesFor : ByteArray := prog_45_method_2_code
def yJ11_newBytesFor : MethodName := ⟨RJ11, "newBytesFor", "(I)[B"⟩
def dkwJ11_newBytesFor_0 : List UInt8 := [26, 184, 0, 11, 188, 8, 176]
abbrev dktJ11_newBytesFor_0 : List UInt8 := dkwJ11_newBytesFor_0 ++ []
theorem dksJ11_newBytesFor_0 : cJ11_newBytesFor.data.toList.drop 0 = dktJ11_newBytesFor_0 := by decide +kernel
theorem dJ11_newBytesFor_0 : decode cJ11_newBytesFor 0 = .ok (.iload_n 0, 1) := dk_26 (dk_at dksJ11_newBytesFor_0 0 rfl rfl)
theorem dJ11_newBytesFor_1 : decode cJ11_newBytesFor 1 = .ok (.invokestatic 11, 3) := dk_184 0 11 (dk_at dksJ11_newBytesFor_0 1 rfl rfl)
theorem dJ11_newBytesFor_4 : decode cJ11_newBytesFor 4 = .ok (.newarray .byte, 2) := dk_188_8 (dk_at dksJ11_newBytesFor_0 4 rfl rfl)
theorem dJ11_newBytesFor_6 : decode cJ11_newBytesFor 6 = .ok (.areturn, 1) := dk_176 (dk_at dksJ11_newBytesFor_0 6 rfl rfl)
abbrev cJ11_newBytesLength : ByteArray := prog_45_method_3_code
def yJ11_newBytesLength : MethodName := ⟨RJ11, "newBytesLength", "(I)I"⟩
def dkwJ11_newBytesLength_2 : List UInt8 := [182, 0, 32, 182, 0, 37, 183, 0, 41, 191, 26, 4, 120, 172]
abbrev dktJ11_newBytesLength_2 : List UInt8 := dkwJ11_newBytesLength_2 ++ []
def dkwJ11_newBytesLength_1 : List UInt8 := [187, 0, 23, 89, 183, 0, 25, 18, 26, 182, 0, 28, 26, 182, 0, 32, 18, 35, 182, 0, 28, 18, 20]
abbrev dktJ11_newBytesLength_1 : List UInt8 := dkwJ11_newBytesLength_1 ++ dktJ11_newBytesLength_2
def dkwJ11_newBytesLength_0 : List UInt8 := [26, 156, 0, 11, 187, 0, 17, 89, 183, 0, 19, 191, 26, 18, 20, 161, 0, 40, 187, 0, 21, 89]
abbrev dktJ11_newBytesLength_0 : List UInt8 := dkwJ11_newBytesLength_0 ++ dktJ11_newBytesLength_1
theorem dksJ11_newBytesLength_0 : cJ11_newBytesLength.data.toList.drop 0 = dktJ11_newBytesLength_0 := by decide +kernel
theorem dksJ11_newBytesLength_1 : cJ11_newBytesLength.data.toList.drop 22 = dktJ11_newBytesLength_1 := dk_seg dksJ11_newBytesLength_0 22 rfl rfl
theorem dksJ11_newBytesLength_2 : cJ11_newBytesLength.data.toList.drop 45 = dktJ11_newBytesLength_2 := dk_seg dksJ11_newBytesLength_1 23 rfl rfl
theorem dJ11_newBytesLength_0 : decode cJ11_newBytesLength 0 = .ok (.iload_n 0, 1) := dk_26 (dk_at dksJ11_newBytesLength_0 0 rfl rfl)
theorem dJ11_newBytesLength_1 : decode cJ11_newBytesLength 1 = .ok (.ifCond .ge 11, 3) := dk_156 0 11 (dk_at dksJ11_newBytesLength_0 1 rfl rfl)
theorem dJ11_newBytesLength_4 : decode cJ11_newBytesLength 4 = .ok (.new 17, 3) := dk_187 0 17 (dk_at dksJ11_newBytesLength_0 4 rfl rfl)
theorem dJ11_newBytesLength_7 : decode cJ11_newBytesLength 7 = .ok (.dup, 1) := dk_89 (dk_at dksJ11_newBytesLength_0 7 rfl rfl)
theorem dJ11_newBytesLength_8 : decode cJ11_newBytesLength 8 = .ok (.invokespecial 19, 3) := dk_183 0 19 (dk_at dksJ11_newBytesLength_0 8 rfl rfl)
theorem dJ11_newBytesLength_11 : decode cJ11_newBytesLength 11 = .ok (.athrow, 1) := dk_191 (dk_at dksJ11_newBytesLength_0 11 rfl rfl)
theorem dJ11_newBytesLength_12 : decode cJ11_newBytesLength 12 = .ok (.iload_n 0, 1) := dk_26 (dk_at dksJ11_newBytesLength_0 12 rfl rfl)
theorem dJ11_newBytesLength_13 : decode cJ11_newBytesLength 13 = .ok (.ldc 20, 2) := dk_18 20 (dk_at dksJ11_newBytesLength_0 13 rfl rfl)
theorem dJ11_newBytesLength_15 : decode cJ11_newBytesLength 15 = .ok (.if_icmp .lt 40, 3) := dk_161 0 40 (dk_at dksJ11_newBytesLength_0 15 rfl rfl)
theorem dJ11_newBytesLength_18 : decode cJ11_newBytesLength 18 = .ok (.new 21, 3) := dk_187 0 21 (dk_at dksJ11_newBytesLength_0 18 rfl rfl)
theorem dJ11_newBytesLength_21 : decode cJ11_newBytesLength 21 = .ok (.dup, 1) := dk_89 (dk_at dksJ11_newBytesLength_0 21 rfl rfl)
theorem dJ11_newBytesLength_22 : decode cJ11_newBytesLength 22 = .ok (.new 23, 3) := dk_187 0 23 (dk_at dksJ11_newBytesLength_1 0 rfl rfl)
theorem dJ11_newBytesLength_25 : decode cJ11_newBytesLength 25 = .ok (.dup, 1) := dk_89 (dk_at dksJ11_newBytesLength_1 3 rfl rfl)
theorem dJ11_newBytesLength_26 : decode cJ11_newBytesLength 26 = .ok (.invokespecial 25, 3) := dk_183 0 25 (dk_at dksJ11_newBytesLength_1 4 rfl rfl)
theorem dJ11_newBytesLength_29 : decode cJ11_newBytesLength 29 = .ok (.ldc 26, 2) := dk_18 26 (dk_at dksJ11_newBytesLength_1 7 rfl rfl)
theorem dJ11_newBytesLength_31 : decode cJ11_newBytesLength 31 = .ok (.invokevirtual 28, 3) := dk_182 0 28 (dk_at dksJ11_newBytesLength_1 9 rfl rfl)
theorem dJ11_newBytesLength_34 : decode cJ11_newBytesLength 34 = .ok (.iload_n 0, 1) := dk_26 (dk_at dksJ11_newBytesLength_1 12 rfl rfl)
theorem dJ11_newBytesLength_35 : decode cJ11_newBytesLength 35 = .ok (.invokevirtual 32, 3) := dk_182 0 32 (dk_at dksJ11_newBytesLength_1 13 rfl rfl)
theorem dJ11_newBytesLength_38 : decode cJ11_newBytesLength 38 = .ok (.ldc 35, 2) := dk_18 35 (dk_at dksJ11_newBytesLength_1 16 rfl rfl)
theorem dJ11_newBytesLength_40 : decode cJ11_newBytesLength 40 = .ok (.invokevirtual 28, 3) := dk_182 0 28 (dk_at dksJ11_newBytesLength_1 18 rfl rfl)
theorem dJ11_newBytesLength_43 : decode cJ11_newBytesLength 43 = .ok (.ldc 20, 2) := dk_18 20 (dk_at dksJ11_newBytesLength_1 21 rfl rfl)
theorem dJ11_newBytesLength_45 : decode cJ11_newBytesLength 45 = .ok (.invokevirtual 32, 3) := dk_182 0 32 (dk_at dksJ11_newBytesLength_2 0 rfl rfl)
theorem dJ11_newBytesLength_48 : decode cJ11_newBytesLength 48 = .ok (.invokevirtual 37, 3) := dk_182 0 37 (dk_at dksJ11_newBytesLength_2 3 rfl rfl)
theorem dJ11_newBytesLength_51 : decode cJ11_newBytesLength 51 = .ok (.invokespecial 41, 3) := dk_183 0 41 (dk_at dksJ11_newBytesLength_2 6 rfl rfl)
theorem dJ11_newBytesLength_54 : decode cJ11_newBytesLength 54 = .ok (.athrow, 1) := dk_191 (dk_at dksJ11_newBytesLength_2 9 rfl rfl)
theorem dJ11_newBytesLength_55 : decode cJ11_newBytesLength 55 = .ok (.iload_n 0, 1) := dk_26 (dk_at dksJ11_newBytesLength_2 10 rfl rfl)
theorem dJ11_newBytesLength_56 : decode cJ11_newBytesLength 56 = .ok (.iconst 1, 1) := dk_4 (dk_at dksJ11_newBytesLength_2 11 rfl rfl)
theorem dJ11_newBytesLength_57 : decode cJ11_newBytesLength 57 = .ok (.ishl, 1) := dk_120 (dk_at dksJ11_newBytesLength_2 12 rfl rfl)
theorem dJ11_newBytesLength_58 : decode cJ11_newBytesLength 58 = .ok (.ireturn, 1) := dk_172 (dk_at dksJ11_newBytesLength_2 13 rfl rfl)
abbrev cJ11_hashCode : ByteArray := prog_45_method_39_code
def yJ11_hashCode : MethodName := ⟨RJ11, "hashCode", "([B)I"⟩
def dkwJ11_hashCode_2 : List UInt8 := [3, 167, 0, 22, 42, 3, 184, 0, 71, 167, 0, 14, 42, 3, 42, 190, 4, 122, 3, 8, 184, 0, 220, 172]
abbrev dktJ11_hashCode_2 : List UInt8 := dkwJ11_hashCode_2 ++ []
def dkwJ11_hashCode_1 : List UInt8 := [171, 0, 0, 0, 0, 38, 0, 0, 0, 2, 0, 0, 0, 0, 0, 0, 0, 26, 0, 0, 0, 2, 0, 0, 0, 30]
abbrev dktJ11_hashCode_1 : List UInt8 := dkwJ11_hashCode_1 ++ dktJ11_hashCode_2
def dkwJ11_hashCode_0 : List UInt8 := [42, 190]
abbrev dktJ11_hashCode_0 : List UInt8 := dkwJ11_hashCode_0 ++ dktJ11_hashCode_1
theorem dksJ11_hashCode_0 : cJ11_hashCode.data.toList.drop 0 = dktJ11_hashCode_0 := by decide +kernel
theorem dksJ11_hashCode_1 : cJ11_hashCode.data.toList.drop 2 = dktJ11_hashCode_1 := dk_seg dksJ11_hashCode_0 2 rfl rfl
theorem dksJ11_hashCode_2 : cJ11_hashCode.data.toList.drop 28 = dktJ11_hashCode_2 := dk_seg dksJ11_hashCode_1 26 rfl rfl
theorem dJ11_hashCode_0 : decode cJ11_hashCode 0 = .ok (.aload_n 0, 1) := dk_42 (dk_at dksJ11_hashCode_0 0 rfl rfl)
theorem dJ11_hashCode_1 : decode cJ11_hashCode 1 = .ok (.arraylength, 1) := dk_190 (dk_at dksJ11_hashCode_0 1 rfl rfl)
theorem dJ11_hashCode_2 : decode cJ11_hashCode 2 = .ok (.lookupswitch 38 #[(0, 26), (2, 30)], 26) := by decide +kernel
theorem dJ11_hashCode_28 : decode cJ11_hashCode 28 = .ok (.iconst 0, 1) := dk_3 (dk_at dksJ11_hashCode_2 0 rfl rfl)
theorem dJ11_hashCode_29 : decode cJ11_hashCode 29 = .ok (.goto 22, 3) := dk_167 0 22 (dk_at dksJ11_hashCode_2 1 rfl rfl)
theorem dJ11_hashCode_32 : decode cJ11_hashCode 32 = .ok (.aload_n 0, 1) := dk_42 (dk_at dksJ11_hashCode_2 4 rfl rfl)
theorem dJ11_hashCode_33 : decode cJ11_hashCode 33 = .ok (.iconst 0, 1) := dk_3 (dk_at dksJ11_hashCode_2 5 rfl rfl)
theorem dJ11_hashCode_34 : decode cJ11_hashCode 34 = .ok (.invokestatic 71, 3) := dk_184 0 71 (dk_at dksJ11_hashCode_2 6 rfl rfl)
theorem dJ11_hashCode_37 : decode cJ11_hashCode 37 = .ok (.goto 14, 3) := dk_167 0 14 (dk_at dksJ11_hashCode_2 9 rfl rfl)
theorem dJ11_hashCode_40 : decode cJ11_hashCode 40 = .ok (.aload_n 0, 1) := dk_42 (dk_at dksJ11_hashCode_2 12 rfl rfl)
theorem dJ11_hashCode_41 : decode cJ11_hashCode 41 = .ok (.iconst 0, 1) := dk_3 (dk_at dksJ11_hashCode_2 13 rfl rfl)
theorem dJ11_hashCode_42 : decode cJ11_hashCode 42 = .ok (.aload_n 0, 1) := dk_42 (dk_at dksJ11_hashCode_2 14 rfl rfl)
theorem dJ11_hashCode_43 : decode cJ11_hashCode 43 = .ok (.arraylength, 1) := dk_190 (dk_at dksJ11_hashCode_2 15 rfl rfl)
theorem dJ11_hashCode_44 : decode cJ11_hashCode 44 = .ok (.iconst 1, 1) := dk_4 (dk_at dksJ11_hashCode_2 16 rfl rfl)
theorem dJ11_hashCode_45 : decode cJ11_hashCode 45 = .ok (.ishr, 1) := dk_122 (dk_at dksJ11_hashCode_2 17 rfl rfl)
theorem dJ11_hashCode_46 : decode cJ11_hashCode 46 = .ok (.iconst 0, 1) := dk_3 (dk_at dksJ11_hashCode_2 18 rfl rfl)
theorem dJ11_hashCode_47 : decode cJ11_hashCode 47 = .ok (.iconst 5, 1) := dk_8 (dk_at dksJ11_hashCode_2 19 rfl rfl)
theorem dJ11_hashCode_48 : decode cJ11_hashCode 48 = .ok (.invokestatic 220, 3) := dk_184 0 220 (dk_at dksJ11_hashCode_2 20 rfl rfl)
theorem dJ11_hashCode_51 : decode cJ11_hashCode 51 = .ok (.ireturn, 1) := dk_172 (dk_at dksJ11_hashCode_2 23 rfl rfl)
abbrev cJ11_inflate : ByteArray := prog_45_method_86_code
def yJ11_inflate : MethodName := ⟨RJ11, "inflate", "([BI[BII)V"⟩
def dkwJ11_inflate_1 : List UInt8 := [132, 1, 1, 51, 17, 0, 255, 126, 184, 0, 111, 132, 5, 1, 167, 255, 228, 177]
abbrev dktJ11_inflate_1 : List UInt8 := dkwJ11_inflate_1 ++ []
def dkwJ11_inflate_0 : List UInt8 := [29, 21, 4, 44, 184, 0, 173, 3, 54, 5, 21, 5, 21, 4, 162, 0, 27, 44, 29, 132, 3, 1, 42, 27]
abbrev dktJ11_inflate_0 : List UInt8 := dkwJ11_inflate_0 ++ dktJ11_inflate_1
theorem dksJ11_inflate_0 : cJ11_inflate.data.toList.drop 0 = dktJ11_inflate_0 := by decide +kernel
theorem dksJ11_inflate_1 : cJ11_inflate.data.toList.drop 24 = dktJ11_inflate_1 := dk_seg dksJ11_inflate_0 24 rfl rfl
theorem dJ11_inflate_0 : decode cJ11_inflate 0 = .ok (.iload_n 3, 1) := dk_29 (dk_at dksJ11_inflate_0 0 rfl rfl)
theorem dJ11_inflate_1 : decode cJ11_inflate 1 = .ok (.iload 4, 2) := dk_21 4 (dk_at dksJ11_inflate_0 1 rfl rfl)
theorem dJ11_inflate_3 : decode cJ11_inflate 3 = .ok (.aload_n 2, 1) := dk_44 (dk_at dksJ11_inflate_0 3 rfl rfl)
theorem dJ11_inflate_4 : decode cJ11_inflate 4 = .ok (.invokestatic 173, 3) := dk_184 0 173 (dk_at dksJ11_inflate_0 4 rfl rfl)
theorem dJ11_inflate_7 : decode cJ11_inflate 7 = .ok (.iconst 0, 1) := dk_3 (dk_at dksJ11_inflate_0 7 rfl rfl)
theorem dJ11_inflate_8 : decode cJ11_inflate 8 = .ok (.istore 5, 2) := dk_54 5 (dk_at dksJ11_inflate_0 8 rfl rfl)
theorem dJ11_inflate_10 : decode cJ11_inflate 10 = .ok (.iload 5, 2) := dk_21 5 (dk_at dksJ11_inflate_0 10 rfl rfl)
theorem dJ11_inflate_12 : decode cJ11_inflate 12 = .ok (.iload 4, 2) := dk_21 4 (dk_at dksJ11_inflate_0 12 rfl rfl)
theorem dJ11_inflate_14 : decode cJ11_inflate 14 = .ok (.if_icmp .ge 27, 3) := dk_162 0 27 (dk_at dksJ11_inflate_0 14 rfl rfl)
theorem dJ11_inflate_17 : decode cJ11_inflate 17 = .ok (.aload_n 2, 1) := dk_44 (dk_at dksJ11_inflate_0 17 rfl rfl)
theorem dJ11_inflate_18 : decode cJ11_inflate 18 = .ok (.iload_n 3, 1) := dk_29 (dk_at dksJ11_inflate_0 18 rfl rfl)
theorem dJ11_inflate_19 : decode cJ11_inflate 19 = .ok (.iinc 3 1, 3) := dk_132 3 1 (dk_at dksJ11_inflate_0 19 rfl rfl)
theorem dJ11_inflate_22 : decode cJ11_inflate 22 = .ok (.aload_n 0, 1) := dk_42 (dk_at dksJ11_inflate_0 22 rfl rfl)
theorem dJ11_inflate_23 : decode cJ11_inflate 23 = .ok (.iload_n 1, 1) := dk_27 (dk_at dksJ11_inflate_0 23 rfl rfl)
theorem dJ11_inflate_24 : decode cJ11_inflate 24 = .ok (.iinc 1 1, 3) := dk_132 1 1 (dk_at dksJ11_inflate_1 0 rfl rfl)
theorem dJ11_inflate_27 : decode cJ11_inflate 27 = .ok (.baload, 1) := dk_51 (dk_at dksJ11_inflate_1 3 rfl rfl)
theorem dJ11_inflate_28 : decode cJ11_inflate 28 = .ok (.sipush 255, 3) := dk_17 0 255 (dk_at dksJ11_inflate_1 4 rfl rfl)
theorem dJ11_inflate_31 : decode cJ11_inflate 31 = .ok (.iand, 1) := dk_126 (dk_at dksJ11_inflate_1 7 rfl rfl)
theorem dJ11_inflate_32 : decode cJ11_inflate 32 = .ok (.invokestatic 111, 3) := dk_184 0 111 (dk_at dksJ11_inflate_1 8 rfl rfl)
theorem dJ11_inflate_35 : decode cJ11_inflate 35 = .ok (.iinc 5 1, 3) := dk_132 5 1 (dk_at dksJ11_inflate_1 11 rfl rfl)
theorem dJ11_inflate_38 : decode cJ11_inflate 38 = .ok (.goto (-28), 3) := dk_167 255 228 (dk_at dksJ11_inflate_1 14 rfl rfl)
theorem dJ11_inflate_41 : decode cJ11_inflate 41 = .ok (.return_, 1) := dk_177 (dk_at dksJ11_inflate_1 17 rfl rfl)
abbrev cJ11_checkBoundsOffCount : ByteArray := prog_45_method_94_code
def yJ11_checkBoundsOffCount : MethodName := ⟨RJ11, "checkBoundsOffCount", "(II[B)V"⟩
def dkwJ11_checkBoundsOffCount_0 : List UInt8 := [26, 27, 44, 184, 0, 48, 184, 1, 163, 87, 177]
abbrev dktJ11_checkBoundsOffCount_0 : List UInt8 := dkwJ11_checkBoundsOffCount_0 ++ []
theorem dksJ11_checkBoundsOffCount_0 : cJ11_checkBoundsOffCount.data.toList.drop 0 = dktJ11_checkBoundsOffCount_0 := by decide +kernel
theorem dJ11_checkBoundsOffCount_0 : decode cJ11_checkBoundsOffCount 0 = .ok (.iload_n 0, 1) := dk_26 (dk_at dksJ11_checkBoundsOffCount_0 0 rfl rfl)
theorem dJ11_checkBoundsOffCount_1 : decode cJ11_checkBoundsOffCount 1 = .ok (.iload_n 1, 1) := dk_27 (dk_at dksJ11_checkBoundsOffCount_0 1 rfl rfl)
theorem dJ11_checkBoundsOffCount_2 : decode cJ11_checkBoundsOffCount 2 = .ok (.aload_n 2, 1) := dk_44 (dk_at dksJ11_checkBoundsOffCount_0 2 rfl rfl)
theorem dJ11_checkBoundsOffCount_3 : decode cJ11_checkBoundsOffCount 3 = .ok (.invokestatic 48, 3) := dk_184 0 48 (dk_at dksJ11_checkBoundsOffCount_0 3 rfl rfl)
theorem dJ11_checkBoundsOffCount_6 : decode cJ11_checkBoundsOffCount 6 = .ok (.invokestatic 419, 3) := dk_184 1 163 (dk_at dksJ11_checkBoundsOffCount_0 6 rfl rfl)
theorem dJ11_checkBoundsOffCount_9 : decode cJ11_checkBoundsOffCount 9 = .ok (.pop, 1) := dk_87 (dk_at dksJ11_checkBoundsOffCount_0 9 rfl rfl)
theorem dJ11_checkBoundsOffCount_10 : decode cJ11_checkBoundsOffCount 10 = .ok (.return_, 1) := dk_177 (dk_at dksJ11_checkBoundsOffCount_0 10 rfl rfl)
abbrev cJ11_putChar : ByteArray := prog_45_method_4_code
def yJ11_putChar : MethodName := ⟨RJ11, "putChar", "([BII)V"⟩
def dkwJ11_putChar_2 : List UInt8 := [178, 0, 63, 122, 145, 84, 177]
abbrev dktJ11_putChar_2 : List UInt8 := dkwJ11_putChar_2 ++ []
def dkwJ11_putChar_1 : List UInt8 := [183, 0, 56, 191, 27, 4, 120, 60, 42, 27, 132, 1, 1, 28, 178, 0, 59, 122, 145, 84, 42, 27, 28]
abbrev dktJ11_putChar_1 : List UInt8 := dkwJ11_putChar_1 ++ dktJ11_putChar_2
def dkwJ11_putChar_0 : List UInt8 := [178, 0, 44, 154, 0, 25, 27, 155, 0, 11, 27, 42, 184, 0, 48, 161, 0, 13, 187, 0, 52, 89, 18, 54]
abbrev dktJ11_putChar_0 : List UInt8 := dkwJ11_putChar_0 ++ dktJ11_putChar_1
theorem dksJ11_putChar_0 : cJ11_putChar.data.toList.drop 0 = dktJ11_putChar_0 := by decide +kernel
theorem dksJ11_putChar_1 : cJ11_putChar.data.toList.drop 24 = dktJ11_putChar_1 := dk_seg dksJ11_putChar_0 24 rfl rfl
theorem dksJ11_putChar_2 : cJ11_putChar.data.toList.drop 47 = dktJ11_putChar_2 := dk_seg dksJ11_putChar_1 23 rfl rfl
theorem dJ11_putChar_0 : decode cJ11_putChar 0 = .ok (.getstatic 44, 3) := dk_178 0 44 (dk_at dksJ11_putChar_0 0 rfl rfl)
theorem dJ11_putChar_3 : decode cJ11_putChar 3 = .ok (.ifCond .ne 25, 3) := dk_154 0 25 (dk_at dksJ11_putChar_0 3 rfl rfl)
theorem dJ11_putChar_6 : decode cJ11_putChar 6 = .ok (.iload_n 1, 1) := dk_27 (dk_at dksJ11_putChar_0 6 rfl rfl)
theorem dJ11_putChar_7 : decode cJ11_putChar 7 = .ok (.ifCond .lt 11, 3) := dk_155 0 11 (dk_at dksJ11_putChar_0 7 rfl rfl)
theorem dJ11_putChar_10 : decode cJ11_putChar 10 = .ok (.iload_n 1, 1) := dk_27 (dk_at dksJ11_putChar_0 10 rfl rfl)
theorem dJ11_putChar_11 : decode cJ11_putChar 11 = .ok (.aload_n 0, 1) := dk_42 (dk_at dksJ11_putChar_0 11 rfl rfl)
theorem dJ11_putChar_12 : decode cJ11_putChar 12 = .ok (.invokestatic 48, 3) := dk_184 0 48 (dk_at dksJ11_putChar_0 12 rfl rfl)
theorem dJ11_putChar_15 : decode cJ11_putChar 15 = .ok (.if_icmp .lt 13, 3) := dk_161 0 13 (dk_at dksJ11_putChar_0 15 rfl rfl)
theorem dJ11_putChar_18 : decode cJ11_putChar 18 = .ok (.new 52, 3) := dk_187 0 52 (dk_at dksJ11_putChar_0 18 rfl rfl)
theorem dJ11_putChar_21 : decode cJ11_putChar 21 = .ok (.dup, 1) := dk_89 (dk_at dksJ11_putChar_0 21 rfl rfl)
theorem dJ11_putChar_22 : decode cJ11_putChar 22 = .ok (.ldc 54, 2) := dk_18 54 (dk_at dksJ11_putChar_0 22 rfl rfl)
theorem dJ11_putChar_24 : decode cJ11_putChar 24 = .ok (.invokespecial 56, 3) := dk_183 0 56 (dk_at dksJ11_putChar_1 0 rfl rfl)
theorem dJ11_putChar_27 : decode cJ11_putChar 27 = .ok (.athrow, 1) := dk_191 (dk_at dksJ11_putChar_1 3 rfl rfl)
theorem dJ11_putChar_28 : decode cJ11_putChar 28 = .ok (.iload_n 1, 1) := dk_27 (dk_at dksJ11_putChar_1 4 rfl rfl)
theorem dJ11_putChar_29 : decode cJ11_putChar 29 = .ok (.iconst 1, 1) := dk_4 (dk_at dksJ11_putChar_1 5 rfl rfl)
theorem dJ11_putChar_30 : decode cJ11_putChar 30 = .ok (.ishl, 1) := dk_120 (dk_at dksJ11_putChar_1 6 rfl rfl)
theorem dJ11_putChar_31 : decode cJ11_putChar 31 = .ok (.istore_n 1, 1) := dk_60 (dk_at dksJ11_putChar_1 7 rfl rfl)
theorem dJ11_putChar_32 : decode cJ11_putChar 32 = .ok (.aload_n 0, 1) := dk_42 (dk_at dksJ11_putChar_1 8 rfl rfl)
theorem dJ11_putChar_33 : decode cJ11_putChar 33 = .ok (.iload_n 1, 1) := dk_27 (dk_at dksJ11_putChar_1 9 rfl rfl)
theorem dJ11_putChar_34 : decode cJ11_putChar 34 = .ok (.iinc 1 1, 3) := dk_132 1 1 (dk_at dksJ11_putChar_1 10 rfl rfl)
theorem dJ11_putChar_37 : decode cJ11_putChar 37 = .ok (.iload_n 2, 1) := dk_28 (dk_at dksJ11_putChar_1 13 rfl rfl)
theorem dJ11_putChar_38 : decode cJ11_putChar 38 = .ok (.getstatic 59, 3) := dk_178 0 59 (dk_at dksJ11_putChar_1 14 rfl rfl)
theorem dJ11_putChar_41 : decode cJ11_putChar 41 = .ok (.ishr, 1) := dk_122 (dk_at dksJ11_putChar_1 17 rfl rfl)
theorem dJ11_putChar_42 : decode cJ11_putChar 42 = .ok (.i2b, 1) := dk_145 (dk_at dksJ11_putChar_1 18 rfl rfl)
theorem dJ11_putChar_43 : decode cJ11_putChar 43 = .ok (.bastore, 1) := dk_84 (dk_at dksJ11_putChar_1 19 rfl rfl)
theorem dJ11_putChar_44 : decode cJ11_putChar 44 = .ok (.aload_n 0, 1) := dk_42 (dk_at dksJ11_putChar_1 20 rfl rfl)
theorem dJ11_putChar_45 : decode cJ11_putChar 45 = .ok (.iload_n 1, 1) := dk_27 (dk_at dksJ11_putChar_1 21 rfl rfl)
theorem dJ11_putChar_46 : decode cJ11_putChar 46 = .ok (.iload_n 2, 1) := dk_28 (dk_at dksJ11_putChar_1 22 rfl rfl)
theorem dJ11_putChar_47 : decode cJ11_putChar 47 = .ok (.getstatic 63, 3) := dk_178 0 63 (dk_at dksJ11_putChar_2 0 rfl rfl)
theorem dJ11_putChar_50 : decode cJ11_putChar 50 = .ok (.ishr, 1) := dk_122 (dk_at dksJ11_putChar_2 3 rfl rfl)
theorem dJ11_putChar_51 : decode cJ11_putChar 51 = .ok (.i2b, 1) := dk_145 (dk_at dksJ11_putChar_2 4 rfl rfl)
theorem dJ11_putChar_52 : decode cJ11_putChar 52 = .ok (.bastore, 1) := dk_84 (dk_at dksJ11_putChar_2 5 rfl rfl)
theorem dJ11_putChar_53 : decode cJ11_putChar 53 = .ok (.return_, 1) := dk_177 (dk_at dksJ11_putChar_2 6 rfl rfl)
abbrev cJ11_putCharSB : ByteArray := prog_45_method_71_code
def yJ11_putCharSB : MethodName := ⟨RJ11, "putCharSB", "([BII)V"⟩
def dkwJ11_putCharSB_0 : List UInt8 := [27, 42, 184, 0, 67, 42, 27, 28, 184, 0, 111, 177]
abbrev dktJ11_putCharSB_0 : List UInt8 := dkwJ11_putCharSB_0 ++ []
theorem dksJ11_putCharSB_0 : cJ11_putCharSB.data.toList.drop 0 = dktJ11_putCharSB_0 := by decide +kernel
theorem dJ11_putCharSB_0 : decode cJ11_putCharSB 0 = .ok (.iload_n 1, 1) := dk_27 (dk_at dksJ11_putCharSB_0 0 rfl rfl)
theorem dJ11_putCharSB_1 : decode cJ11_putCharSB 1 = .ok (.aload_n 0, 1) := dk_42 (dk_at dksJ11_putCharSB_0 1 rfl rfl)
theorem dJ11_putCharSB_2 : decode cJ11_putCharSB 2 = .ok (.invokestatic 67, 3) := dk_184 0 67 (dk_at dksJ11_putCharSB_0 2 rfl rfl)
theorem dJ11_putCharSB_5 : decode cJ11_putCharSB 5 = .ok (.aload_n 0, 1) := dk_42 (dk_at dksJ11_putCharSB_0 5 rfl rfl)
theorem dJ11_putCharSB_6 : decode cJ11_putCharSB 6 = .ok (.iload_n 1, 1) := dk_27 (dk_at dksJ11_putCharSB_0 6 rfl rfl)
theorem dJ11_putCharSB_7 : decode cJ11_putCharSB 7 = .ok (.iload_n 2, 1) := dk_28 (dk_at dksJ11_putCharSB_0 7 rfl rfl)
theorem dJ11_putCharSB_8 : decode cJ11_putCharSB 8 = .ok (.invokestatic 111, 3) := dk_184 0 111 (dk_at dksJ11_putCharSB_0 8 rfl rfl)
theorem dJ11_putCharSB_11 : decode cJ11_putCharSB 11 = .ok (.return_, 1) := dk_177 (dk_at dksJ11_putCharSB_0 11 rfl rfl)
abbrev cJ11_checkIndex : ByteArray := prog_45_method_91_code
def yJ11_checkIndex : MethodName := ⟨RJ11, "checkIndex", "(I[B)V"⟩
def dkwJ11_checkIndex_0 : List UInt8 := [26, 43, 184, 0, 48, 184, 1, 158, 177]
abbrev dktJ11_checkIndex_0 : List UInt8 := dkwJ11_checkIndex_0 ++ []
theorem dksJ11_checkIndex_0 : cJ11_checkIndex.data.toList.drop 0 = dktJ11_checkIndex_0 := by decide +kernel
theorem dJ11_checkIndex_0 : decode cJ11_checkIndex 0 = .ok (.iload_n 0, 1) := dk_26 (dk_at dksJ11_checkIndex_0 0 rfl rfl)
theorem dJ11_checkIndex_1 : decode cJ11_checkIndex 1 = .ok (.aload_n 1, 1) := dk_43 (dk_at dksJ11_checkIndex_0 1 rfl rfl)
theorem dJ11_checkIndex_2 : decode cJ11_checkIndex 2 = .ok (.invokestatic 48, 3) := dk_184 0 48 (dk_at dksJ11_checkIndex_0 2 rfl rfl)
theorem dJ11_checkIndex_5 : decode cJ11_checkIndex 5 = .ok (.invokestatic 414, 3) := dk_184 1 158 (dk_at dksJ11_checkIndex_0 5 rfl rfl)
theorem dJ11_checkIndex_8 : decode cJ11_checkIndex 8 = .ok (.return_, 1) := dk_177 (dk_at dksJ11_checkIndex_0 8 rfl rfl)
abbrev cJ11_fillNull : ByteArray := prog_45_method_70_code
def yJ11_fillNull : MethodName := ⟨RJ11, "fillNull", "([BII)V"⟩
def dkwJ11_fillNull_0 : List UInt8 := [42, 27, 4, 120, 28, 4, 120, 3, 184, 1, 124, 177]
abbrev dktJ11_fillNull_0 : List UInt8 := dkwJ11_fillNull_0 ++ []
theorem dksJ11_fillNull_0 : cJ11_fillNull.data.toList.drop 0 = dktJ11_fillNull_0 := by decide +kernel
theorem dJ11_fillNull_0 : decode cJ11_fillNull 0 = .ok (.aload_n 0, 1) := dk_42 (dk_at dksJ11_fillNull_0 0 rfl rfl)
theorem dJ11_fillNull_1 : decode cJ11_fillNull 1 = .ok (.iload_n 1, 1) := dk_27 (dk_at dksJ11_fillNull_0 1 rfl rfl)
theorem dJ11_fillNull_2 : decode cJ11_fillNull 2 = .ok (.iconst 1, 1) := dk_4 (dk_at dksJ11_fillNull_0 2 rfl rfl)
theorem dJ11_fillNull_3 : decode cJ11_fillNull 3 = .ok (.ishl, 1) := dk_120 (dk_at dksJ11_fillNull_0 3 rfl rfl)
theorem dJ11_fillNull_4 : decode cJ11_fillNull 4 = .ok (.iload_n 2, 1) := dk_28 (dk_at dksJ11_fillNull_0 4 rfl rfl)
theorem dJ11_fillNull_5 : decode cJ11_fillNull 5 = .ok (.iconst 1, 1) := dk_4 (dk_at dksJ11_fillNull_0 5 rfl rfl)
theorem dJ11_fillNull_6 : decode cJ11_fillNull 6 = .ok (.ishl, 1) := dk_120 (dk_at dksJ11_fillNull_0 6 rfl rfl)
theorem dJ11_fillNull_7 : decode cJ11_fillNull 7 = .ok (.iconst 0, 1) := dk_3 (dk_at dksJ11_fillNull_0 7 rfl rfl)
theorem dJ11_fillNull_8 : decode cJ11_fillNull 8 = .ok (.invokestatic 380, 3) := dk_184 1 124 (dk_at dksJ11_fillNull_0 8 rfl rfl)
theorem dJ11_fillNull_11 : decode cJ11_fillNull 11 = .ok (.return_, 1) := dk_177 (dk_at dksJ11_fillNull_0 11 rfl rfl)
abbrev cJ11_charAt : ByteArray := prog_45_method_83_code
def yJ11_charAt : MethodName := ⟨RJ11, "charAt", "([BI)C"⟩
def dkwJ11_charAt_0 : List UInt8 := [27, 42, 184, 0, 67, 42, 27, 184, 0, 71, 172]
abbrev dktJ11_charAt_0 : List UInt8 := dkwJ11_charAt_0 ++ []
theorem dksJ11_charAt_0 : cJ11_charAt.data.toList.drop 0 = dktJ11_charAt_0 := by decide +kernel
theorem dJ11_charAt_0 : decode cJ11_charAt 0 = .ok (.iload_n 1, 1) := dk_27 (dk_at dksJ11_charAt_0 0 rfl rfl)
theorem dJ11_charAt_1 : decode cJ11_charAt 1 = .ok (.aload_n 0, 1) := dk_42 (dk_at dksJ11_charAt_0 1 rfl rfl)
theorem dJ11_charAt_2 : decode cJ11_charAt 2 = .ok (.invokestatic 67, 3) := dk_184 0 67 (dk_at dksJ11_charAt_0 2 rfl rfl)
theorem dJ11_charAt_5 : decode cJ11_charAt 5 = .ok (.aload_n 0, 1) := dk_42 (dk_at dksJ11_charAt_0 5 rfl rfl)
theorem dJ11_charAt_6 : decode cJ11_charAt 6 = .ok (.iload_n 1, 1) := dk_27 (dk_at dksJ11_charAt_0 6 rfl rfl)
theorem dJ11_charAt_7 : decode cJ11_charAt 7 = .ok (.invokestatic 71, 3) := dk_184 0 71 (dk_at dksJ11_charAt_0 7 rfl rfl)
theorem dJ11_charAt_10 : decode cJ11_charAt 10 = .ok (.ireturn, 1) := dk_172 (dk_at dksJ11_charAt_0 10 rfl rfl)
abbrev cJ11_compress : ByteArray := prog_45_method_17_code
def yJ11_compress : MethodName := ⟨RJ11, "compress", "([BII)[B"⟩
def dkwJ11_compress_2 : List UInt8 := [25, 5, 3, 45, 3, 28, 184, 0, 123, 28, 159, 0, 6, 25, 5, 176, 45, 176]
abbrev dktJ11_compress_2 : List UInt8 := dkwJ11_compress_2 ++ []
def dkwJ11_compress_1 : List UInt8 := [27, 28, 96, 184, 0, 11, 184, 0, 126, 58, 5, 25, 5, 21, 4, 184, 0, 71, 17, 0, 255, 163, 0, 16]
abbrev dktJ11_compress_1 : List UInt8 := dkwJ11_compress_1 ++ dktJ11_compress_2
def dkwJ11_compress_0 : List UInt8 := [28, 188, 8, 78, 42, 27, 45, 3, 28, 184, 0, 123, 54, 4, 21, 4, 28, 159, 0, 47, 42, 27, 4, 120]
abbrev dktJ11_compress_0 : List UInt8 := dkwJ11_compress_0 ++ dktJ11_compress_1
theorem dksJ11_compress_0 : cJ11_compress.data.toList.drop 0 = dktJ11_compress_0 := by decide +kernel
theorem dksJ11_compress_1 : cJ11_compress.data.toList.drop 24 = dktJ11_compress_1 := dk_seg dksJ11_compress_0 24 rfl rfl
theorem dksJ11_compress_2 : cJ11_compress.data.toList.drop 48 = dktJ11_compress_2 := dk_seg dksJ11_compress_1 24 rfl rfl
theorem dJ11_compress_0 : decode cJ11_compress 0 = .ok (.iload_n 2, 1) := dk_28 (dk_at dksJ11_compress_0 0 rfl rfl)
theorem dJ11_compress_1 : decode cJ11_compress 1 = .ok (.newarray .byte, 2) := dk_188_8 (dk_at dksJ11_compress_0 1 rfl rfl)
theorem dJ11_compress_3 : decode cJ11_compress 3 = .ok (.astore_n 3, 1) := dk_78 (dk_at dksJ11_compress_0 3 rfl rfl)
theorem dJ11_compress_4 : decode cJ11_compress 4 = .ok (.aload_n 0, 1) := dk_42 (dk_at dksJ11_compress_0 4 rfl rfl)
theorem dJ11_compress_5 : decode cJ11_compress 5 = .ok (.iload_n 1, 1) := dk_27 (dk_at dksJ11_compress_0 5 rfl rfl)
theorem dJ11_compress_6 : decode cJ11_compress 6 = .ok (.aload_n 3, 1) := dk_45 (dk_at dksJ11_compress_0 6 rfl rfl)
theorem dJ11_compress_7 : decode cJ11_compress 7 = .ok (.iconst 0, 1) := dk_3 (dk_at dksJ11_compress_0 7 rfl rfl)
theorem dJ11_compress_8 : decode cJ11_compress 8 = .ok (.iload_n 2, 1) := dk_28 (dk_at dksJ11_compress_0 8 rfl rfl)
theorem dJ11_compress_9 : decode cJ11_compress 9 = .ok (.invokestatic 123, 3) := dk_184 0 123 (dk_at dksJ11_compress_0 9 rfl rfl)
theorem dJ11_compress_12 : decode cJ11_compress 12 = .ok (.istore 4, 2) := dk_54 4 (dk_at dksJ11_compress_0 12 rfl rfl)
theorem dJ11_compress_14 : decode cJ11_compress 14 = .ok (.iload 4, 2) := dk_21 4 (dk_at dksJ11_compress_0 14 rfl rfl)
theorem dJ11_compress_16 : decode cJ11_compress 16 = .ok (.iload_n 2, 1) := dk_28 (dk_at dksJ11_compress_0 16 rfl rfl)
theorem dJ11_compress_17 : decode cJ11_compress 17 = .ok (.if_icmp .eq 47, 3) := dk_159 0 47 (dk_at dksJ11_compress_0 17 rfl rfl)
theorem dJ11_compress_20 : decode cJ11_compress 20 = .ok (.aload_n 0, 1) := dk_42 (dk_at dksJ11_compress_0 20 rfl rfl)
theorem dJ11_compress_21 : decode cJ11_compress 21 = .ok (.iload_n 1, 1) := dk_27 (dk_at dksJ11_compress_0 21 rfl rfl)
theorem dJ11_compress_22 : decode cJ11_compress 22 = .ok (.iconst 1, 1) := dk_4 (dk_at dksJ11_compress_0 22 rfl rfl)
theorem dJ11_compress_23 : decode cJ11_compress 23 = .ok (.ishl, 1) := dk_120 (dk_at dksJ11_compress_0 23 rfl rfl)
theorem dJ11_compress_24 : decode cJ11_compress 24 = .ok (.iload_n 1, 1) := dk_27 (dk_at dksJ11_compress_1 0 rfl rfl)
theorem dJ11_compress_25 : decode cJ11_compress 25 = .ok (.iload_n 2, 1) := dk_28 (dk_at dksJ11_compress_1 1 rfl rfl)
theorem dJ11_compress_26 : decode cJ11_compress 26 = .ok (.iadd, 1) := dk_96 (dk_at dksJ11_compress_1 2 rfl rfl)
theorem dJ11_compress_27 : decode cJ11_compress 27 = .ok (.invokestatic 11, 3) := dk_184 0 11 (dk_at dksJ11_compress_1 3 rfl rfl)
theorem dJ11_compress_30 : decode cJ11_compress 30 = .ok (.invokestatic 126, 3) := dk_184 0 126 (dk_at dksJ11_compress_1 6 rfl rfl)
theorem dJ11_compress_33 : decode cJ11_compress 33 = .ok (.astore 5, 2) := dk_58 5 (dk_at dksJ11_compress_1 9 rfl rfl)
theorem dJ11_compress_35 : decode cJ11_compress 35 = .ok (.aload 5, 2) := dk_25 5 (dk_at dksJ11_compress_1 11 rfl rfl)
theorem dJ11_compress_37 : decode cJ11_compress 37 = .ok (.iload 4, 2) := dk_21 4 (dk_at dksJ11_compress_1 13 rfl rfl)
theorem dJ11_compress_39 : decode cJ11_compress 39 = .ok (.invokestatic 71, 3) := dk_184 0 71 (dk_at dksJ11_compress_1 15 rfl rfl)
theorem dJ11_compress_42 : decode cJ11_compress 42 = .ok (.sipush 255, 3) := dk_17 0 255 (dk_at dksJ11_compress_1 18 rfl rfl)
theorem dJ11_compress_45 : decode cJ11_compress 45 = .ok (.if_icmp .gt 16, 3) := dk_163 0 16 (dk_at dksJ11_compress_1 21 rfl rfl)
theorem dJ11_compress_48 : decode cJ11_compress 48 = .ok (.aload 5, 2) := dk_25 5 (dk_at dksJ11_compress_2 0 rfl rfl)
theorem dJ11_compress_50 : decode cJ11_compress 50 = .ok (.iconst 0, 1) := dk_3 (dk_at dksJ11_compress_2 2 rfl rfl)
theorem dJ11_compress_51 : decode cJ11_compress 51 = .ok (.aload_n 3, 1) := dk_45 (dk_at dksJ11_compress_2 3 rfl rfl)
theorem dJ11_compress_52 : decode cJ11_compress 52 = .ok (.iconst 0, 1) := dk_3 (dk_at dksJ11_compress_2 4 rfl rfl)
theorem dJ11_compress_53 : decode cJ11_compress 53 = .ok (.iload_n 2, 1) := dk_28 (dk_at dksJ11_compress_2 5 rfl rfl)
theorem dJ11_compress_54 : decode cJ11_compress 54 = .ok (.invokestatic 123, 3) := dk_184 0 123 (dk_at dksJ11_compress_2 6 rfl rfl)
theorem dJ11_compress_57 : decode cJ11_compress 57 = .ok (.iload_n 2, 1) := dk_28 (dk_at dksJ11_compress_2 9 rfl rfl)
theorem dJ11_compress_58 : decode cJ11_compress 58 = .ok (.if_icmp .eq 6, 3) := dk_159 0 6 (dk_at dksJ11_compress_2 10 rfl rfl)
theorem dJ11_compress_61 : decode cJ11_compress 61 = .ok (.aload 5, 2) := dk_25 5 (dk_at dksJ11_compress_2 13 rfl rfl)
theorem dJ11_compress_63 : decode cJ11_compress 63 = .ok (.areturn, 1) := dk_176 (dk_at dksJ11_compress_2 15 rfl rfl)
theorem dJ11_compress_64 : decode cJ11_compress 64 = .ok (.aload_n 3, 1) := dk_45 (dk_at dksJ11_compress_2 16 rfl rfl)
theorem dJ11_compress_65 : decode cJ11_compress 65 = .ok (.areturn, 1) := dk_176 (dk_at dksJ11_compress_2 17 rfl rfl)
abbrev cJ11_compress_2 : ByteArray := prog_45_method_22_code
def yJ11_compress_2 : MethodName := ⟨RJ11, "compress", "([BI[BII)I"⟩
def dkwJ11_compress_2_2 : List UInt8 := [132, 5, 1, 167, 255, 216, 21, 4, 172]
abbrev dktJ11_compress_2_2 : List UInt8 := dkwJ11_compress_2_2 ++ []
def dkwJ11_compress_2_1 : List UInt8 := [21, 6, 17, 0, 255, 164, 0, 6, 21, 5, 172, 44, 29, 21, 6, 145, 84, 132, 1, 1, 132, 3, 1]
abbrev dktJ11_compress_2_1 : List UInt8 := dkwJ11_compress_2_1 ++ dktJ11_compress_2_2
def dkwJ11_compress_2_0 : List UInt8 := [27, 21, 4, 42, 184, 0, 173, 3, 54, 5, 21, 5, 21, 4, 162, 0, 39, 42, 27, 184, 0, 71, 54, 6]
abbrev dktJ11_compress_2_0 : List UInt8 := dkwJ11_compress_2_0 ++ dktJ11_compress_2_1
theorem dksJ11_compress_2_0 : cJ11_compress_2.data.toList.drop 0 = dktJ11_compress_2_0 := by decide +kernel
theorem dksJ11_compress_2_1 : cJ11_compress_2.data.toList.drop 24 = dktJ11_compress_2_1 := dk_seg dksJ11_compress_2_0 24 rfl rfl
theorem dksJ11_compress_2_2 : cJ11_compress_2.data.toList.drop 47 = dktJ11_compress_2_2 := dk_seg dksJ11_compress_2_1 23 rfl rfl
theorem dJ11_compress_2_0 : decode cJ11_compress_2 0 = .ok (.iload_n 1, 1) := dk_27 (dk_at dksJ11_compress_2_0 0 rfl rfl)
theorem dJ11_compress_2_1 : decode cJ11_compress_2 1 = .ok (.iload 4, 2) := dk_21 4 (dk_at dksJ11_compress_2_0 1 rfl rfl)
theorem dJ11_compress_2_3 : decode cJ11_compress_2 3 = .ok (.aload_n 0, 1) := dk_42 (dk_at dksJ11_compress_2_0 3 rfl rfl)
theorem dJ11_compress_2_4 : decode cJ11_compress_2 4 = .ok (.invokestatic 173, 3) := dk_184 0 173 (dk_at dksJ11_compress_2_0 4 rfl rfl)
theorem dJ11_compress_2_7 : decode cJ11_compress_2 7 = .ok (.iconst 0, 1) := dk_3 (dk_at dksJ11_compress_2_0 7 rfl rfl)
theorem dJ11_compress_2_8 : decode cJ11_compress_2 8 = .ok (.istore 5, 2) := dk_54 5 (dk_at dksJ11_compress_2_0 8 rfl rfl)
theorem dJ11_compress_2_10 : decode cJ11_compress_2 10 = .ok (.iload 5, 2) := dk_21 5 (dk_at dksJ11_compress_2_0 10 rfl rfl)
theorem dJ11_compress_2_12 : decode cJ11_compress_2 12 = .ok (.iload 4, 2) := dk_21 4 (dk_at dksJ11_compress_2_0 12 rfl rfl)
theorem dJ11_compress_2_14 : decode cJ11_compress_2 14 = .ok (.if_icmp .ge 39, 3) := dk_162 0 39 (dk_at dksJ11_compress_2_0 14 rfl rfl)
theorem dJ11_compress_2_17 : decode cJ11_compress_2 17 = .ok (.aload_n 0, 1) := dk_42 (dk_at dksJ11_compress_2_0 17 rfl rfl)
theorem dJ11_compress_2_18 : decode cJ11_compress_2 18 = .ok (.iload_n 1, 1) := dk_27 (dk_at dksJ11_compress_2_0 18 rfl rfl)
theorem dJ11_compress_2_19 : decode cJ11_compress_2 19 = .ok (.invokestatic 71, 3) := dk_184 0 71 (dk_at dksJ11_compress_2_0 19 rfl rfl)
theorem dJ11_compress_2_22 : decode cJ11_compress_2 22 = .ok (.istore 6, 2) := dk_54 6 (dk_at dksJ11_compress_2_0 22 rfl rfl)
theorem dJ11_compress_2_24 : decode cJ11_compress_2 24 = .ok (.iload 6, 2) := dk_21 6 (dk_at dksJ11_compress_2_1 0 rfl rfl)
theorem dJ11_compress_2_26 : decode cJ11_compress_2 26 = .ok (.sipush 255, 3) := dk_17 0 255 (dk_at dksJ11_compress_2_1 2 rfl rfl)
theorem dJ11_compress_2_29 : decode cJ11_compress_2 29 = .ok (.if_icmp .le 6, 3) := dk_164 0 6 (dk_at dksJ11_compress_2_1 5 rfl rfl)
theorem dJ11_compress_2_32 : decode cJ11_compress_2 32 = .ok (.iload 5, 2) := dk_21 5 (dk_at dksJ11_compress_2_1 8 rfl rfl)
theorem dJ11_compress_2_34 : decode cJ11_compress_2 34 = .ok (.ireturn, 1) := dk_172 (dk_at dksJ11_compress_2_1 10 rfl rfl)
theorem dJ11_compress_2_35 : decode cJ11_compress_2 35 = .ok (.aload_n 2, 1) := dk_44 (dk_at dksJ11_compress_2_1 11 rfl rfl)
theorem dJ11_compress_2_36 : decode cJ11_compress_2 36 = .ok (.iload_n 3, 1) := dk_29 (dk_at dksJ11_compress_2_1 12 rfl rfl)
theorem dJ11_compress_2_37 : decode cJ11_compress_2 37 = .ok (.iload 6, 2) := dk_21 6 (dk_at dksJ11_compress_2_1 13 rfl rfl)
theorem dJ11_compress_2_39 : decode cJ11_compress_2 39 = .ok (.i2b, 1) := dk_145 (dk_at dksJ11_compress_2_1 15 rfl rfl)
theorem dJ11_compress_2_40 : decode cJ11_compress_2 40 = .ok (.bastore, 1) := dk_84 (dk_at dksJ11_compress_2_1 16 rfl rfl)
theorem dJ11_compress_2_41 : decode cJ11_compress_2 41 = .ok (.iinc 1 1, 3) := dk_132 1 1 (dk_at dksJ11_compress_2_1 17 rfl rfl)
theorem dJ11_compress_2_44 : decode cJ11_compress_2 44 = .ok (.iinc 3 1, 3) := dk_132 3 1 (dk_at dksJ11_compress_2_1 20 rfl rfl)
theorem dJ11_compress_2_47 : decode cJ11_compress_2 47 = .ok (.iinc 5 1, 3) := dk_132 5 1 (dk_at dksJ11_compress_2_2 0 rfl rfl)
theorem dJ11_compress_2_50 : decode cJ11_compress_2 50 = .ok (.goto (-40), 3) := dk_167 255 216 (dk_at dksJ11_compress_2_2 3 rfl rfl)
theorem dJ11_compress_2_53 : decode cJ11_compress_2 53 = .ok (.iload 4, 2) := dk_21 4 (dk_at dksJ11_compress_2_2 6 rfl rfl)
theorem dJ11_compress_2_55 : decode cJ11_compress_2 55 = .ok (.ireturn, 1) := dk_172 (dk_at dksJ11_compress_2_2 8 rfl rfl)
abbrev cJ11_coderFromArrayLen : ByteArray := prog_45_method_15_code
def yJ11_coderFromArrayLen : MethodName := ⟨RJ11, "coderFromArrayLen", "([BI)B"⟩
def dkwJ11_coderFromArrayLen_0 : List UInt8 := [27, 42, 190, 100, 16, 31, 124, 145, 172]
abbrev dktJ11_coderFromArrayLen_0 : List UInt8 := dkwJ11_coderFromArrayLen_0 ++ []
theorem dksJ11_coderFromArrayLen_0 : cJ11_coderFromArrayLen.data.toList.drop 0 = dktJ11_coderFromArrayLen_0 := by decide +kernel
theorem dJ11_coderFromArrayLen_0 : decode cJ11_coderFromArrayLen 0 = .ok (.iload_n 1, 1) := dk_27 (dk_at dksJ11_coderFromArrayLen_0 0 rfl rfl)
theorem dJ11_coderFromArrayLen_1 : decode cJ11_coderFromArrayLen 1 = .ok (.aload_n 0, 1) := dk_42 (dk_at dksJ11_coderFromArrayLen_0 1 rfl rfl)
theorem dJ11_coderFromArrayLen_2 : decode cJ11_coderFromArrayLen 2 = .ok (.arraylength, 1) := dk_190 (dk_at dksJ11_coderFromArrayLen_0 2 rfl rfl)
theorem dJ11_coderFromArrayLen_3 : decode cJ11_coderFromArrayLen 3 = .ok (.isub, 1) := dk_100 (dk_at dksJ11_coderFromArrayLen_0 3 rfl rfl)
theorem dJ11_coderFromArrayLen_4 : decode cJ11_coderFromArrayLen 4 = .ok (.bipush 31, 2) := dk_16 31 (dk_at dksJ11_coderFromArrayLen_0 4 rfl rfl)
theorem dJ11_coderFromArrayLen_6 : decode cJ11_coderFromArrayLen 6 = .ok (.iushr, 1) := dk_124 (dk_at dksJ11_coderFromArrayLen_0 6 rfl rfl)
theorem dJ11_coderFromArrayLen_7 : decode cJ11_coderFromArrayLen 7 = .ok (.i2b, 1) := dk_145 (dk_at dksJ11_coderFromArrayLen_0 7 rfl rfl)
theorem dJ11_coderFromArrayLen_8 : decode cJ11_coderFromArrayLen 8 = .ok (.ireturn, 1) := dk_172 (dk_at dksJ11_coderFromArrayLen_0 8 rfl rfl)
abbrev cJ11_putCharsAt : ByteArray := prog_45_method_81_code
def yJ11_putCharsAt : MethodName := ⟨RJ11, "putCharsAt", "([BICCCC)I"⟩
def dkwJ11_putCharsAt_3 : List UInt8 := [21, 6, 172]
abbrev dktJ11_putCharsAt_3 : List UInt8 := dkwJ11_putCharsAt_3 ++ []
def dkwJ11_putCharsAt_2 : List UInt8 := [184, 0, 111, 178, 0, 44, 154, 0, 17, 27, 21, 6, 159, 0, 11, 187, 0, 52, 89, 183, 0, 66, 191]
abbrev dktJ11_putCharsAt_2 : List UInt8 := dkwJ11_putCharsAt_2 ++ dktJ11_putCharsAt_3
def dkwJ11_putCharsAt_1 : List UInt8 := [132, 1, 1, 29, 184, 0, 111, 42, 27, 132, 1, 1, 21, 4, 184, 0, 111, 42, 27, 132, 1, 1, 21, 5]
abbrev dktJ11_putCharsAt_1 : List UInt8 := dkwJ11_putCharsAt_1 ++ dktJ11_putCharsAt_2
def dkwJ11_putCharsAt_0 : List UInt8 := [27, 7, 96, 54, 6, 27, 21, 6, 42, 184, 0, 96, 42, 27, 132, 1, 1, 28, 184, 0, 111, 42, 27]
abbrev dktJ11_putCharsAt_0 : List UInt8 := dkwJ11_putCharsAt_0 ++ dktJ11_putCharsAt_1
theorem dksJ11_putCharsAt_0 : cJ11_putCharsAt.data.toList.drop 0 = dktJ11_putCharsAt_0 := by decide +kernel
theorem dksJ11_putCharsAt_1 : cJ11_putCharsAt.data.toList.drop 23 = dktJ11_putCharsAt_1 := dk_seg dksJ11_putCharsAt_0 23 rfl rfl
theorem dksJ11_putCharsAt_2 : cJ11_putCharsAt.data.toList.drop 47 = dktJ11_putCharsAt_2 := dk_seg dksJ11_putCharsAt_1 24 rfl rfl
theorem dksJ11_putCharsAt_3 : cJ11_putCharsAt.data.toList.drop 70 = dktJ11_putCharsAt_3 := dk_seg dksJ11_putCharsAt_2 23 rfl rfl
theorem dJ11_putCharsAt_0 : decode cJ11_putCharsAt 0 = .ok (.iload_n 1, 1) := dk_27 (dk_at dksJ11_putCharsAt_0 0 rfl rfl)
theorem dJ11_putCharsAt_1 : decode cJ11_putCharsAt 1 = .ok (.iconst 4, 1) := dk_7 (dk_at dksJ11_putCharsAt_0 1 rfl rfl)
theorem dJ11_putCharsAt_2 : decode cJ11_putCharsAt 2 = .ok (.iadd, 1) := dk_96 (dk_at dksJ11_putCharsAt_0 2 rfl rfl)
theorem dJ11_putCharsAt_3 : decode cJ11_putCharsAt 3 = .ok (.istore 6, 2) := dk_54 6 (dk_at dksJ11_putCharsAt_0 3 rfl rfl)
theorem dJ11_putCharsAt_5 : decode cJ11_putCharsAt 5 = .ok (.iload_n 1, 1) := dk_27 (dk_at dksJ11_putCharsAt_0 5 rfl rfl)
theorem dJ11_putCharsAt_6 : decode cJ11_putCharsAt 6 = .ok (.iload 6, 2) := dk_21 6 (dk_at dksJ11_putCharsAt_0 6 rfl rfl)
theorem dJ11_putCharsAt_8 : decode cJ11_putCharsAt 8 = .ok (.aload_n 0, 1) := dk_42 (dk_at dksJ11_putCharsAt_0 8 rfl rfl)
theorem dJ11_putCharsAt_9 : decode cJ11_putCharsAt 9 = .ok (.invokestatic 96, 3) := dk_184 0 96 (dk_at dksJ11_putCharsAt_0 9 rfl rfl)
theorem dJ11_putCharsAt_12 : decode cJ11_putCharsAt 12 = .ok (.aload_n 0, 1) := dk_42 (dk_at dksJ11_putCharsAt_0 12 rfl rfl)
theorem dJ11_putCharsAt_13 : decode cJ11_putCharsAt 13 = .ok (.iload_n 1, 1) := dk_27 (dk_at dksJ11_putCharsAt_0 13 rfl rfl)
theorem dJ11_putCharsAt_14 : decode cJ11_putCharsAt 14 = .ok (.iinc 1 1, 3) := dk_132 1 1 (dk_at dksJ11_putCharsAt_0 14 rfl rfl)
theorem dJ11_putCharsAt_17 : decode cJ11_putCharsAt 17 = .ok (.iload_n 2, 1) := dk_28 (dk_at dksJ11_putCharsAt_0 17 rfl rfl)
theorem dJ11_putCharsAt_18 : decode cJ11_putCharsAt 18 = .ok (.invokestatic 111, 3) := dk_184 0 111 (dk_at dksJ11_putCharsAt_0 18 rfl rfl)
theorem dJ11_putCharsAt_21 : decode cJ11_putCharsAt 21 = .ok (.aload_n 0, 1) := dk_42 (dk_at dksJ11_putCharsAt_0 21 rfl rfl)
theorem dJ11_putCharsAt_22 : decode cJ11_putCharsAt 22 = .ok (.iload_n 1, 1) := dk_27 (dk_at dksJ11_putCharsAt_0 22 rfl rfl)
theorem dJ11_putCharsAt_23 : decode cJ11_putCharsAt 23 = .ok (.iinc 1 1, 3) := dk_132 1 1 (dk_at dksJ11_putCharsAt_1 0 rfl rfl)
theorem dJ11_putCharsAt_26 : decode cJ11_putCharsAt 26 = .ok (.iload_n 3, 1) := dk_29 (dk_at dksJ11_putCharsAt_1 3 rfl rfl)
theorem dJ11_putCharsAt_27 : decode cJ11_putCharsAt 27 = .ok (.invokestatic 111, 3) := dk_184 0 111 (dk_at dksJ11_putCharsAt_1 4 rfl rfl)
theorem dJ11_putCharsAt_30 : decode cJ11_putCharsAt 30 = .ok (.aload_n 0, 1) := dk_42 (dk_at dksJ11_putCharsAt_1 7 rfl rfl)
theorem dJ11_putCharsAt_31 : decode cJ11_putCharsAt 31 = .ok (.iload_n 1, 1) := dk_27 (dk_at dksJ11_putCharsAt_1 8 rfl rfl)
theorem dJ11_putCharsAt_32 : decode cJ11_putCharsAt 32 = .ok (.iinc 1 1, 3) := dk_132 1 1 (dk_at dksJ11_putCharsAt_1 9 rfl rfl)
theorem dJ11_putCharsAt_35 : decode cJ11_putCharsAt 35 = .ok (.iload 4, 2) := dk_21 4 (dk_at dksJ11_putCharsAt_1 12 rfl rfl)
theorem dJ11_putCharsAt_37 : decode cJ11_putCharsAt 37 = .ok (.invokestatic 111, 3) := dk_184 0 111 (dk_at dksJ11_putCharsAt_1 14 rfl rfl)
theorem dJ11_putCharsAt_40 : decode cJ11_putCharsAt 40 = .ok (.aload_n 0, 1) := dk_42 (dk_at dksJ11_putCharsAt_1 17 rfl rfl)
theorem dJ11_putCharsAt_41 : decode cJ11_putCharsAt 41 = .ok (.iload_n 1, 1) := dk_27 (dk_at dksJ11_putCharsAt_1 18 rfl rfl)
theorem dJ11_putCharsAt_42 : decode cJ11_putCharsAt 42 = .ok (.iinc 1 1, 3) := dk_132 1 1 (dk_at dksJ11_putCharsAt_1 19 rfl rfl)
theorem dJ11_putCharsAt_45 : decode cJ11_putCharsAt 45 = .ok (.iload 5, 2) := dk_21 5 (dk_at dksJ11_putCharsAt_1 22 rfl rfl)
theorem dJ11_putCharsAt_47 : decode cJ11_putCharsAt 47 = .ok (.invokestatic 111, 3) := dk_184 0 111 (dk_at dksJ11_putCharsAt_2 0 rfl rfl)
theorem dJ11_putCharsAt_50 : decode cJ11_putCharsAt 50 = .ok (.getstatic 44, 3) := dk_178 0 44 (dk_at dksJ11_putCharsAt_2 3 rfl rfl)
theorem dJ11_putCharsAt_53 : decode cJ11_putCharsAt 53 = .ok (.ifCond .ne 17, 3) := dk_154 0 17 (dk_at dksJ11_putCharsAt_2 6 rfl rfl)
theorem dJ11_putCharsAt_56 : decode cJ11_putCharsAt 56 = .ok (.iload_n 1, 1) := dk_27 (dk_at dksJ11_putCharsAt_2 9 rfl rfl)
theorem dJ11_putCharsAt_57 : decode cJ11_putCharsAt 57 = .ok (.iload 6, 2) := dk_21 6 (dk_at dksJ11_putCharsAt_2 10 rfl rfl)
theorem dJ11_putCharsAt_59 : decode cJ11_putCharsAt 59 = .ok (.if_icmp .eq 11, 3) := dk_159 0 11 (dk_at dksJ11_putCharsAt_2 12 rfl rfl)
theorem dJ11_putCharsAt_62 : decode cJ11_putCharsAt 62 = .ok (.new 52, 3) := dk_187 0 52 (dk_at dksJ11_putCharsAt_2 15 rfl rfl)
theorem dJ11_putCharsAt_65 : decode cJ11_putCharsAt 65 = .ok (.dup, 1) := dk_89 (dk_at dksJ11_putCharsAt_2 18 rfl rfl)
theorem dJ11_putCharsAt_66 : decode cJ11_putCharsAt 66 = .ok (.invokespecial 66, 3) := dk_183 0 66 (dk_at dksJ11_putCharsAt_2 19 rfl rfl)
theorem dJ11_putCharsAt_69 : decode cJ11_putCharsAt 69 = .ok (.athrow, 1) := dk_191 (dk_at dksJ11_putCharsAt_2 22 rfl rfl)
theorem dJ11_putCharsAt_70 : decode cJ11_putCharsAt 70 = .ok (.iload 6, 2) := dk_21 6 (dk_at dksJ11_putCharsAt_3 0 rfl rfl)
theorem dJ11_putCharsAt_72 : decode cJ11_putCharsAt 72 = .ok (.ireturn, 1) := dk_172 (dk_at dksJ11_putCharsAt_3 2 rfl rfl)
abbrev cJ11_checkBoundsBeginEnd : ByteArray := prog_45_method_93_code
def yJ11_checkBoundsBeginEnd : MethodName := ⟨RJ11, "checkBoundsBeginEnd", "(II[B)V"⟩
def dkwJ11_checkBoundsBeginEnd_0 : List UInt8 := [26, 27, 44, 184, 0, 48, 184, 0, 241, 177]
abbrev dktJ11_checkBoundsBeginEnd_0 : List UInt8 := dkwJ11_checkBoundsBeginEnd_0 ++ []
theorem dksJ11_checkBoundsBeginEnd_0 : cJ11_checkBoundsBeginEnd.data.toList.drop 0 = dktJ11_checkBoundsBeginEnd_0 := by decide +kernel
theorem dJ11_checkBoundsBeginEnd_0 : decode cJ11_checkBoundsBeginEnd 0 = .ok (.iload_n 0, 1) := dk_26 (dk_at dksJ11_checkBoundsBeginEnd_0 0 rfl rfl)
theorem dJ11_checkBoundsBeginEnd_1 : decode cJ11_checkBoundsBeginEnd 1 = .ok (.iload_n 1, 1) := dk_27 (dk_at dksJ11_checkBoundsBeginEnd_0 1 rfl rfl)
theorem dJ11_checkBoundsBeginEnd_2 : decode cJ11_checkBoundsBeginEnd 2 = .ok (.aload_n 2, 1) := dk_44 (dk_at dksJ11_checkBoundsBeginEnd_0 2 rfl rfl)
theorem dJ11_checkBoundsBeginEnd_3 : decode cJ11_checkBoundsBeginEnd 3 = .ok (.invokestatic 48, 3) := dk_184 0 48 (dk_at dksJ11_checkBoundsBeginEnd_0 3 rfl rfl)
theorem dJ11_checkBoundsBeginEnd_6 : decode cJ11_checkBoundsBeginEnd 6 = .ok (.invokestatic 241, 3) := dk_184 0 241 (dk_at dksJ11_checkBoundsBeginEnd_0 6 rfl rfl)
theorem dJ11_checkBoundsBeginEnd_9 : decode cJ11_checkBoundsBeginEnd 9 = .ok (.return_, 1) := dk_177 (dk_at dksJ11_checkBoundsBeginEnd_0 9 rfl rfl)
abbrev cJ11_getChars : ByteArray := prog_45_method_89_code
def yJ11_getChars : MethodName := ⟨RJ11, "getChars", "(II[B)I"⟩
def dkwJ11_getChars_5 : List UInt8 := [132, 5, 255, 21, 5, 16, 45, 184, 0, 111, 21, 5, 172]
abbrev dktJ11_getChars_5 : List UInt8 := dkwJ11_getChars_5 ++ []
def dkwJ11_getChars_4 : List UInt8 := [162, 0, 18, 44, 132, 5, 255, 21, 5, 178, 1, 151, 26, 116, 51, 184, 0, 111, 21, 6, 153, 0, 14, 44]
abbrev dktJ11_getChars_4 : List UInt8 := dkwJ11_getChars_4 ++ dktJ11_getChars_5
def dkwJ11_getChars_3 : List UInt8 := [184, 0, 111, 167, 255, 205, 44, 132, 5, 255, 21, 5, 178, 1, 147, 26, 116, 51, 184, 0, 111, 26, 16, 247]
abbrev dktJ11_getChars_3 : List UInt8 := dkwJ11_getChars_3 ++ dktJ11_getChars_4
def dkwJ11_getChars_2 : List UInt8 := [21, 5, 178, 1, 147, 21, 4, 51, 184, 0, 111, 44, 132, 5, 255, 21, 5, 178, 1, 151, 21, 4, 51]
abbrev dktJ11_getChars_2 : List UInt8 := dkwJ11_getChars_2 ++ dktJ11_getChars_3
def dkwJ11_getChars_1 : List UInt8 := [16, 156, 163, 0, 51, 26, 16, 100, 108, 62, 29, 16, 100, 104, 26, 100, 54, 4, 29, 59, 44, 132, 5, 255]
abbrev dktJ11_getChars_1 : List UInt8 := dkwJ11_getChars_1 ++ dktJ11_getChars_2
def dkwJ11_getChars_0 : List UInt8 := [27, 54, 5, 26, 156, 0, 7, 4, 167, 0, 4, 3, 54, 6, 21, 6, 154, 0, 6, 26, 116, 59, 26]
abbrev dktJ11_getChars_0 : List UInt8 := dkwJ11_getChars_0 ++ dktJ11_getChars_1
theorem dksJ11_getChars_0 : cJ11_getChars.data.toList.drop 0 = dktJ11_getChars_0 := by decide +kernel
theorem dksJ11_getChars_1 : cJ11_getChars.data.toList.drop 23 = dktJ11_getChars_1 := dk_seg dksJ11_getChars_0 23 rfl rfl
theorem dksJ11_getChars_2 : cJ11_getChars.data.toList.drop 47 = dktJ11_getChars_2 := dk_seg dksJ11_getChars_1 24 rfl rfl
theorem dksJ11_getChars_3 : cJ11_getChars.data.toList.drop 70 = dktJ11_getChars_3 := dk_seg dksJ11_getChars_2 23 rfl rfl
theorem dksJ11_getChars_4 : cJ11_getChars.data.toList.drop 94 = dktJ11_getChars_4 := dk_seg dksJ11_getChars_3 24 rfl rfl
theorem dksJ11_getChars_5 : cJ11_getChars.data.toList.drop 118 = dktJ11_getChars_5 := dk_seg dksJ11_getChars_4 24 rfl rfl
theorem dJ11_getChars_0 : decode cJ11_getChars 0 = .ok (.iload_n 1, 1) := dk_27 (dk_at dksJ11_getChars_0 0 rfl rfl)
theorem dJ11_getChars_1 : decode cJ11_getChars 1 = .ok (.istore 5, 2) := dk_54 5 (dk_at dksJ11_getChars_0 1 rfl rfl)
theorem dJ11_getChars_3 : decode cJ11_getChars 3 = .ok (.iload_n 0, 1) := dk_26 (dk_at dksJ11_getChars_0 3 rfl rfl)
theorem dJ11_getChars_4 : decode cJ11_getChars 4 = .ok (.ifCond .ge 7, 3) := dk_156 0 7 (dk_at dksJ11_getChars_0 4 rfl rfl)
theorem dJ11_getChars_7 : decode cJ11_getChars 7 = .ok (.iconst 1, 1) := dk_4 (dk_at dksJ11_getChars_0 7 rfl rfl)
theorem dJ11_getChars_8 : decode cJ11_getChars 8 = .ok (.goto 4, 3) := dk_167 0 4 (dk_at dksJ11_getChars_0 8 rfl rfl)
theorem dJ11_getChars_11 : decode cJ11_getChars 11 = .ok (.iconst 0, 1) := dk_3 (dk_at dksJ11_getChars_0 11 rfl rfl)
theorem dJ11_getChars_12 : decode cJ11_getChars 12 = .ok (.istore 6, 2) := dk_54 6 (dk_at dksJ11_getChars_0 12 rfl rfl)
theorem dJ11_getChars_14 : decode cJ11_getChars 14 = .ok (.iload 6, 2) := dk_21 6 (dk_at dksJ11_getChars_0 14 rfl rfl)
theorem dJ11_getChars_16 : decode cJ11_getChars 16 = .ok (.ifCond .ne 6, 3) := dk_154 0 6 (dk_at dksJ11_getChars_0 16 rfl rfl)
theorem dJ11_getChars_19 : decode cJ11_getChars 19 = .ok (.iload_n 0, 1) := dk_26 (dk_at dksJ11_getChars_0 19 rfl rfl)
theorem dJ11_getChars_20 : decode cJ11_getChars 20 = .ok (.ineg, 1) := dk_116 (dk_at dksJ11_getChars_0 20 rfl rfl)
theorem dJ11_getChars_21 : decode cJ11_getChars 21 = .ok (.istore_n 0, 1) := dk_59 (dk_at dksJ11_getChars_0 21 rfl rfl)
theorem dJ11_getChars_22 : decode cJ11_getChars 22 = .ok (.iload_n 0, 1) := dk_26 (dk_at dksJ11_getChars_0 22 rfl rfl)
theorem dJ11_getChars_23 : decode cJ11_getChars 23 = .ok (.bipush (-100), 2) := dk_16 156 (dk_at dksJ11_getChars_1 0 rfl rfl)
theorem dJ11_getChars_25 : decode cJ11_getChars 25 = .ok (.if_icmp .gt 51, 3) := dk_163 0 51 (dk_at dksJ11_getChars_1 2 rfl rfl)
theorem dJ11_getChars_28 : decode cJ11_getChars 28 = .ok (.iload_n 0, 1) := dk_26 (dk_at dksJ11_getChars_1 5 rfl rfl)
theorem dJ11_getChars_29 : decode cJ11_getChars 29 = .ok (.bipush 100, 2) := dk_16 100 (dk_at dksJ11_getChars_1 6 rfl rfl)
theorem dJ11_getChars_31 : decode cJ11_getChars 31 = .ok (.idiv, 1) := dk_108 (dk_at dksJ11_getChars_1 8 rfl rfl)
theorem dJ11_getChars_32 : decode cJ11_getChars 32 = .ok (.istore_n 3, 1) := dk_62 (dk_at dksJ11_getChars_1 9 rfl rfl)
theorem dJ11_getChars_33 : decode cJ11_getChars 33 = .ok (.iload_n 3, 1) := dk_29 (dk_at dksJ11_getChars_1 10 rfl rfl)
theorem dJ11_getChars_34 : decode cJ11_getChars 34 = .ok (.bipush 100, 2) := dk_16 100 (dk_at dksJ11_getChars_1 11 rfl rfl)
theorem dJ11_getChars_36 : decode cJ11_getChars 36 = .ok (.imul, 1) := dk_104 (dk_at dksJ11_getChars_1 13 rfl rfl)
theorem dJ11_getChars_37 : decode cJ11_getChars 37 = .ok (.iload_n 0, 1) := dk_26 (dk_at dksJ11_getChars_1 14 rfl rfl)
theorem dJ11_getChars_38 : decode cJ11_getChars 38 = .ok (.isub, 1) := dk_100 (dk_at dksJ11_getChars_1 15 rfl rfl)
theorem dJ11_getChars_39 : decode cJ11_getChars 39 = .ok (.istore 4, 2) := dk_54 4 (dk_at dksJ11_getChars_1 16 rfl rfl)
theorem dJ11_getChars_41 : decode cJ11_getChars 41 = .ok (.iload_n 3, 1) := dk_29 (dk_at dksJ11_getChars_1 18 rfl rfl)
theorem dJ11_getChars_42 : decode cJ11_getChars 42 = .ok (.istore_n 0, 1) := dk_59 (dk_at dksJ11_getChars_1 19 rfl rfl)
theorem dJ11_getChars_43 : decode cJ11_getChars 43 = .ok (.aload_n 2, 1) := dk_44 (dk_at dksJ11_getChars_1 20 rfl rfl)
theorem dJ11_getChars_44 : decode cJ11_getChars 44 = .ok (.iinc 5 (-1), 3) := dk_132 5 255 (dk_at dksJ11_getChars_1 21 rfl rfl)
theorem dJ11_getChars_47 : decode cJ11_getChars 47 = .ok (.iload 5, 2) := dk_21 5 (dk_at dksJ11_getChars_2 0 rfl rfl)
theorem dJ11_getChars_49 : decode cJ11_getChars 49 = .ok (.getstatic 403, 3) := dk_178 1 147 (dk_at dksJ11_getChars_2 2 rfl rfl)
theorem dJ11_getChars_52 : decode cJ11_getChars 52 = .ok (.iload 4, 2) := dk_21 4 (dk_at dksJ11_getChars_2 5 rfl rfl)
theorem dJ11_getChars_54 : decode cJ11_getChars 54 = .ok (.baload, 1) := dk_51 (dk_at dksJ11_getChars_2 7 rfl rfl)
theorem dJ11_getChars_55 : decode cJ11_getChars 55 = .ok (.invokestatic 111, 3) := dk_184 0 111 (dk_at dksJ11_getChars_2 8 rfl rfl)
theorem dJ11_getChars_58 : decode cJ11_getChars 58 = .ok (.aload_n 2, 1) := dk_44 (dk_at dksJ11_getChars_2 11 rfl rfl)
theorem dJ11_getChars_59 : decode cJ11_getChars 59 = .ok (.iinc 5 (-1), 3) := dk_132 5 255 (dk_at dksJ11_getChars_2 12 rfl rfl)
theorem dJ11_getChars_62 : decode cJ11_getChars 62 = .ok (.iload 5, 2) := dk_21 5 (dk_at dksJ11_getChars_2 15 rfl rfl)
theorem dJ11_getChars_64 : decode cJ11_getChars 64 = .ok (.getstatic 407, 3) := dk_178 1 151 (dk_at dksJ11_getChars_2 17 rfl rfl)
theorem dJ11_getChars_67 : decode cJ11_getChars 67 = .ok (.iload 4, 2) := dk_21 4 (dk_at dksJ11_getChars_2 20 rfl rfl)
theorem dJ11_getChars_69 : decode cJ11_getChars 69 = .ok (.baload, 1) := dk_51 (dk_at dksJ11_getChars_2 22 rfl rfl)
theorem dJ11_getChars_70 : decode cJ11_getChars 70 = .ok (.invokestatic 111, 3) := dk_184 0 111 (dk_at dksJ11_getChars_3 0 rfl rfl)
theorem dJ11_getChars_73 : decode cJ11_getChars 73 = .ok (.goto (-51), 3) := dk_167 255 205 (dk_at dksJ11_getChars_3 3 rfl rfl)
theorem dJ11_getChars_76 : decode cJ11_getChars 76 = .ok (.aload_n 2, 1) := dk_44 (dk_at dksJ11_getChars_3 6 rfl rfl)
theorem dJ11_getChars_77 : decode cJ11_getChars 77 = .ok (.iinc 5 (-1), 3) := dk_132 5 255 (dk_at dksJ11_getChars_3 7 rfl rfl)
theorem dJ11_getChars_80 : decode cJ11_getChars 80 = .ok (.iload 5, 2) := dk_21 5 (dk_at dksJ11_getChars_3 10 rfl rfl)
theorem dJ11_getChars_82 : decode cJ11_getChars 82 = .ok (.getstatic 403, 3) := dk_178 1 147 (dk_at dksJ11_getChars_3 12 rfl rfl)
theorem dJ11_getChars_85 : decode cJ11_getChars 85 = .ok (.iload_n 0, 1) := dk_26 (dk_at dksJ11_getChars_3 15 rfl rfl)
theorem dJ11_getChars_86 : decode cJ11_getChars 86 = .ok (.ineg, 1) := dk_116 (dk_at dksJ11_getChars_3 16 rfl rfl)
theorem dJ11_getChars_87 : decode cJ11_getChars 87 = .ok (.baload, 1) := dk_51 (dk_at dksJ11_getChars_3 17 rfl rfl)
theorem dJ11_getChars_88 : decode cJ11_getChars 88 = .ok (.invokestatic 111, 3) := dk_184 0 111 (dk_at dksJ11_getChars_3 18 rfl rfl)
theorem dJ11_getChars_91 : decode cJ11_getChars 91 = .ok (.iload_n 0, 1) := dk_26 (dk_at dksJ11_getChars_3 21 rfl rfl)
theorem dJ11_getChars_92 : decode cJ11_getChars 92 = .ok (.bipush (-9), 2) := dk_16 247 (dk_at dksJ11_getChars_3 22 rfl rfl)
theorem dJ11_getChars_94 : decode cJ11_getChars 94 = .ok (.if_icmp .ge 18, 3) := dk_162 0 18 (dk_at dksJ11_getChars_4 0 rfl rfl)
theorem dJ11_getChars_97 : decode cJ11_getChars 97 = .ok (.aload_n 2, 1) := dk_44 (dk_at dksJ11_getChars_4 3 rfl rfl)
theorem dJ11_getChars_98 : decode cJ11_getChars 98 = .ok (.iinc 5 (-1), 3) := dk_132 5 255 (dk_at dksJ11_getChars_4 4 rfl rfl)
theorem dJ11_getChars_101 : decode cJ11_getChars 101 = .ok (.iload 5, 2) := dk_21 5 (dk_at dksJ11_getChars_4 7 rfl rfl)
theorem dJ11_getChars_103 : decode cJ11_getChars 103 = .ok (.getstatic 407, 3) := dk_178 1 151 (dk_at dksJ11_getChars_4 9 rfl rfl)
theorem dJ11_getChars_106 : decode cJ11_getChars 106 = .ok (.iload_n 0, 1) := dk_26 (dk_at dksJ11_getChars_4 12 rfl rfl)
theorem dJ11_getChars_107 : decode cJ11_getChars 107 = .ok (.ineg, 1) := dk_116 (dk_at dksJ11_getChars_4 13 rfl rfl)
theorem dJ11_getChars_108 : decode cJ11_getChars 108 = .ok (.baload, 1) := dk_51 (dk_at dksJ11_getChars_4 14 rfl rfl)
theorem dJ11_getChars_109 : decode cJ11_getChars 109 = .ok (.invokestatic 111, 3) := dk_184 0 111 (dk_at dksJ11_getChars_4 15 rfl rfl)
theorem dJ11_getChars_112 : decode cJ11_getChars 112 = .ok (.iload 6, 2) := dk_21 6 (dk_at dksJ11_getChars_4 18 rfl rfl)
theorem dJ11_getChars_114 : decode cJ11_getChars 114 = .ok (.ifCond .eq 14, 3) := dk_153 0 14 (dk_at dksJ11_getChars_4 20 rfl rfl)
theorem dJ11_getChars_117 : decode cJ11_getChars 117 = .ok (.aload_n 2, 1) := dk_44 (dk_at dksJ11_getChars_4 23 rfl rfl)
theorem dJ11_getChars_118 : decode cJ11_getChars 118 = .ok (.iinc 5 (-1), 3) := dk_132 5 255 (dk_at dksJ11_getChars_5 0 rfl rfl)
theorem dJ11_getChars_121 : decode cJ11_getChars 121 = .ok (.iload 5, 2) := dk_21 5 (dk_at dksJ11_getChars_5 3 rfl rfl)
theorem dJ11_getChars_123 : decode cJ11_getChars 123 = .ok (.bipush 45, 2) := dk_16 45 (dk_at dksJ11_getChars_5 5 rfl rfl)
theorem dJ11_getChars_125 : decode cJ11_getChars 125 = .ok (.invokestatic 111, 3) := dk_184 0 111 (dk_at dksJ11_getChars_5 7 rfl rfl)
theorem dJ11_getChars_128 : decode cJ11_getChars 128 = .ok (.iload 5, 2) := dk_21 5 (dk_at dksJ11_getChars_5 10 rfl rfl)
theorem dJ11_getChars_130 : decode cJ11_getChars 130 = .ok (.ireturn, 1) := dk_172 (dk_at dksJ11_getChars_5 12 rfl rfl)
abbrev cJ11_getChars_2 : ByteArray := prog_45_method_77_code
def yJ11_getChars_2 : MethodName := ⟨RJ11, "getChars", "(III[B)I"⟩
def dkwJ11_getChars_2_1 : List UInt8 := [159, 0, 11, 187, 0, 52, 89, 183, 0, 66, 191, 21, 4, 172]
abbrev dktJ11_getChars_2_1 : List UInt8 := dkwJ11_getChars_2_1 ++ []
def dkwJ11_getChars_2_0 : List UInt8 := [27, 28, 45, 184, 0, 96, 26, 28, 45, 184, 1, 137, 54, 4, 178, 0, 44, 154, 0, 17, 27, 21, 4]
abbrev dktJ11_getChars_2_0 : List UInt8 := dkwJ11_getChars_2_0 ++ dktJ11_getChars_2_1
theorem dksJ11_getChars_2_0 : cJ11_getChars_2.data.toList.drop 0 = dktJ11_getChars_2_0 := by decide +kernel
theorem dksJ11_getChars_2_1 : cJ11_getChars_2.data.toList.drop 23 = dktJ11_getChars_2_1 := dk_seg dksJ11_getChars_2_0 23 rfl rfl
theorem dJ11_getChars_2_0 : decode cJ11_getChars_2 0 = .ok (.iload_n 1, 1) := dk_27 (dk_at dksJ11_getChars_2_0 0 rfl rfl)
theorem dJ11_getChars_2_1 : decode cJ11_getChars_2 1 = .ok (.iload_n 2, 1) := dk_28 (dk_at dksJ11_getChars_2_0 1 rfl rfl)
theorem dJ11_getChars_2_2 : decode cJ11_getChars_2 2 = .ok (.aload_n 3, 1) := dk_45 (dk_at dksJ11_getChars_2_0 2 rfl rfl)
theorem dJ11_getChars_2_3 : decode cJ11_getChars_2 3 = .ok (.invokestatic 96, 3) := dk_184 0 96 (dk_at dksJ11_getChars_2_0 3 rfl rfl)
theorem dJ11_getChars_2_6 : decode cJ11_getChars_2 6 = .ok (.iload_n 0, 1) := dk_26 (dk_at dksJ11_getChars_2_0 6 rfl rfl)
theorem dJ11_getChars_2_7 : decode cJ11_getChars_2 7 = .ok (.iload_n 2, 1) := dk_28 (dk_at dksJ11_getChars_2_0 7 rfl rfl)
theorem dJ11_getChars_2_8 : decode cJ11_getChars_2 8 = .ok (.aload_n 3, 1) := dk_45 (dk_at dksJ11_getChars_2_0 8 rfl rfl)
theorem dJ11_getChars_2_9 : decode cJ11_getChars_2 9 = .ok (.invokestatic 393, 3) := dk_184 1 137 (dk_at dksJ11_getChars_2_0 9 rfl rfl)
theorem dJ11_getChars_2_12 : decode cJ11_getChars_2 12 = .ok (.istore 4, 2) := dk_54 4 (dk_at dksJ11_getChars_2_0 12 rfl rfl)
theorem dJ11_getChars_2_14 : decode cJ11_getChars_2 14 = .ok (.getstatic 44, 3) := dk_178 0 44 (dk_at dksJ11_getChars_2_0 14 rfl rfl)
theorem dJ11_getChars_2_17 : decode cJ11_getChars_2 17 = .ok (.ifCond .ne 17, 3) := dk_154 0 17 (dk_at dksJ11_getChars_2_0 17 rfl rfl)
theorem dJ11_getChars_2_20 : decode cJ11_getChars_2 20 = .ok (.iload_n 1, 1) := dk_27 (dk_at dksJ11_getChars_2_0 20 rfl rfl)
theorem dJ11_getChars_2_21 : decode cJ11_getChars_2 21 = .ok (.iload 4, 2) := dk_21 4 (dk_at dksJ11_getChars_2_0 21 rfl rfl)
theorem dJ11_getChars_2_23 : decode cJ11_getChars_2 23 = .ok (.if_icmp .eq 11, 3) := dk_159 0 11 (dk_at dksJ11_getChars_2_1 0 rfl rfl)
theorem dJ11_getChars_2_26 : decode cJ11_getChars_2 26 = .ok (.new 52, 3) := dk_187 0 52 (dk_at dksJ11_getChars_2_1 3 rfl rfl)
theorem dJ11_getChars_2_29 : decode cJ11_getChars_2 29 = .ok (.dup, 1) := dk_89 (dk_at dksJ11_getChars_2_1 6 rfl rfl)
theorem dJ11_getChars_2_30 : decode cJ11_getChars_2 30 = .ok (.invokespecial 66, 3) := dk_183 0 66 (dk_at dksJ11_getChars_2_1 7 rfl rfl)
theorem dJ11_getChars_2_33 : decode cJ11_getChars_2 33 = .ok (.athrow, 1) := dk_191 (dk_at dksJ11_getChars_2_1 10 rfl rfl)
theorem dJ11_getChars_2_34 : decode cJ11_getChars_2 34 = .ok (.iload 4, 2) := dk_21 4 (dk_at dksJ11_getChars_2_1 11 rfl rfl)
theorem dJ11_getChars_2_36 : decode cJ11_getChars_2 36 = .ok (.ireturn, 1) := dk_172 (dk_at dksJ11_getChars_2_1 13 rfl rfl)
theorem q142 : (Jvm.Cond.initialized "java/lang/StringUTF16") ∈ lw_all := lw_g (lw_at lw_m1 18 rfl) rfl
theorem q516 : (Jvm.Cond.static ({ cls := "java/lang/StringUTF16", name := "compareTo", desc := "([B[B)I" } : Jvm.MethodName)) ∈ lw_all := lw_g (lw_at lw_m2 152 rfl) rfl
theorem q517 : (Jvm.Cond.code ({ cls := "java/lang/StringUTF16", name := "compareTo", desc := "([B[B)I" } : Jvm.MethodName) prog_45_method_29_code (4 : Nat) (Option.some Jvm.ClassFile.FieldType.int)) ∈ lw_all := lw_g (lw_at lw_m2 153 rfl) rfl
theorem q518 : (Jvm.Cond.methodLink "java/lang/StringUTF16" (48 : Nat) ({ cls := "java/lang/StringUTF16", name := "length", desc := "([B)I" } : Jvm.MethodName)) ∈ lw_all := lw_g (lw_at lw_m2 154 rfl) rfl
theorem q519 : (Jvm.Cond.static ({ cls := "java/lang/StringUTF16", name := "length", desc := "([B)I" } : Jvm.MethodName)) ∈ lw_all := lw_g (lw_at lw_m2 155 rfl) rfl
theorem q520 : (Jvm.Cond.code ({ cls := "java/lang/StringUTF16", name := "length", desc := "([B)I" } : Jvm.MethodName) prog_45_method_6_code (1 : Nat) (Option.some Jvm.ClassFile.FieldType.int)) ∈ lw_all := lw_g (lw_at lw_m2 156 rfl) rfl
theorem q521 : (Jvm.Cond.methodLink "java/lang/StringUTF16" (176 : Nat) ({ cls := "java/lang/StringUTF16", name := "compareValues", desc := "([B[BII)I" } : Jvm.MethodName)) ∈ lw_all := lw_g (lw_at lw_m2 157 rfl) rfl
theorem q522 : (Jvm.Cond.static ({ cls := "java/lang/StringUTF16", name := "compareValues", desc := "([B[BII)I" } : Jvm.MethodName)) ∈ lw_all := lw_g (lw_at lw_m2 158 rfl) rfl
theorem q523 : (Jvm.Cond.code ({ cls := "java/lang/StringUTF16", name := "compareValues", desc := "([B[BII)I" } : Jvm.MethodName) prog_45_method_31_code (8 : Nat) (Option.some Jvm.ClassFile.FieldType.int)) ∈ lw_all := lw_g (lw_at lw_m2 159 rfl) rfl
theorem q524 : (Jvm.Cond.methodLink "java/lang/StringUTF16" (183 : Nat) ({ cls := "java/lang/Math", name := "min", desc := "(II)I" } : Jvm.MethodName)) ∈ lw_all := lw_g (lw_at lw_m2 160 rfl) rfl
theorem q525 : (Jvm.Cond.methodLink "java/lang/StringUTF16" (71 : Nat) ({ cls := "java/lang/StringUTF16", name := "getChar", desc := "([BI)C" } : Jvm.MethodName)) ∈ lw_all := lw_g (lw_at lw_m2 161 rfl) rfl
theorem q526 : (Jvm.Cond.static ({ cls := "java/lang/StringUTF16", name := "getChar", desc := "([BI)C" } : Jvm.MethodName)) ∈ lw_all := lw_g (lw_at lw_m2 162 rfl) rfl
theorem q527 : (Jvm.Cond.code ({ cls := "java/lang/StringUTF16", name := "getChar", desc := "([BI)C" } : Jvm.MethodName) prog_45_method_5_code (2 : Nat) (Option.some Jvm.ClassFile.FieldType.char)) ∈ lw_all := lw_g (lw_at lw_m2 163 rfl) rfl
theorem q528 : (Jvm.Cond.fieldLink "java/lang/StringUTF16" (44 : Nat) "java/lang/StringUTF16" "$assertionsDisabled" "Z") ∈ lw_all := lw_g (lw_at lw_m2 164 rfl) rfl
theorem q529 : (Jvm.Cond.laysStatic "java/lang/StringUTF16" "$assertionsDisabled" "Z") ∈ lw_tbl := lw_at lw_m2 165 rfl
theorem q530 : (Jvm.Cond.fieldLink "java/lang/StringUTF16" (59 : Nat) "java/lang/StringUTF16" "HI_BYTE_SHIFT" "I") ∈ lw_all := lw_g (lw_at lw_m2 166 rfl) rfl
theorem q531 : (Jvm.Cond.laysStatic "java/lang/StringUTF16" "HI_BYTE_SHIFT" "I") ∈ lw_tbl := lw_at lw_m2 167 rfl
theorem q532 : (Jvm.Cond.fieldLink "java/lang/StringUTF16" (63 : Nat) "java/lang/StringUTF16" "LO_BYTE_SHIFT" "I") ∈ lw_all := lw_g (lw_at lw_m2 168 rfl) rfl
theorem q533 : (Jvm.Cond.laysStatic "java/lang/StringUTF16" "LO_BYTE_SHIFT" "I") ∈ lw_tbl := lw_at lw_m2 169 rfl
theorem q546 : (Jvm.Cond.static ({ cls := "java/lang/StringUTF16", name := "compareToLatin1", desc := "([B[B)I" } : Jvm.MethodName)) ∈ lw_all := lw_g (lw_at lw_m2 182 rfl) rfl
theorem q547 : (Jvm.Cond.code ({ cls := "java/lang/StringUTF16", name := "compareToLatin1", desc := "([B[B)I" } : Jvm.MethodName) prog_45_method_32_code (2 : Nat) (Option.some Jvm.ClassFile.FieldType.int)) ∈ lw_all := lw_g (lw_at lw_m2 183 rfl) rfl
theorem q548 : (Jvm.Cond.methodLink "java/lang/StringUTF16" (189 : Nat) ({ cls := "java/lang/StringLatin1", name := "compareToUTF16", desc := "([B[B)I" } : Jvm.MethodName)) ∈ lw_all := lw_g (lw_at lw_m2 184 rfl) rfl
theorem q572 : (Jvm.Cond.static ({ cls := "java/lang/StringUTF16", name := "compareTo", desc := "([B[BII)I" } : Jvm.MethodName)) ∈ lw_all := lw_g (lw_at lw_m2 208 rfl) rfl
theorem q573 : (Jvm.Cond.code ({ cls := "java/lang/StringUTF16", name := "compareTo", desc := "([B[BII)I" } : Jvm.MethodName) prog_45_method_30_code (4 : Nat) (Option.some Jvm.ClassFile.FieldType.int)) ∈ lw_all := lw_g (lw_at lw_m2 209 rfl) rfl
theorem q574 : (Jvm.Cond.methodLink "java/lang/StringUTF16" (180 : Nat) ({ cls := "java/lang/StringUTF16", name := "checkOffset", desc := "(I[B)V" } : Jvm.MethodName)) ∈ lw_all := lw_g (lw_at lw_m2 210 rfl) rfl
theorem q575 : (Jvm.Cond.static ({ cls := "java/lang/StringUTF16", name := "checkOffset", desc := "(I[B)V" } : Jvm.MethodName)) ∈ lw_all := lw_g (lw_at lw_m2 211 rfl) rfl
theorem q576 : (Jvm.Cond.code ({ cls := "java/lang/StringUTF16", name := "checkOffset", desc := "(I[B)V" } : Jvm.MethodName) prog_45_method_92_code (2 : Nat) (Option.none : Option Jvm.ClassFile.FieldType)) ∈ lw_all := lw_g (lw_at lw_m2 212 rfl) rfl
theorem q577 : (Jvm.Cond.methodLink "java/lang/StringUTF16" (417 : Nat) ({ cls := "java/lang/String", name := "checkOffset", desc := "(II)V" } : Jvm.MethodName)) ∈ lw_all := lw_g (lw_at lw_m2 213 rfl) rfl
theorem q590 : (Jvm.Cond.static ({ cls := "java/lang/StringUTF16", name := "compareToLatin1", desc := "([B[BII)I" } : Jvm.MethodName)) ∈ lw_all := lw_g (lw_at lw_m2 226 rfl) rfl
theorem q591 : (Jvm.Cond.code ({ cls := "java/lang/StringUTF16", name := "compareToLatin1", desc := "([B[BII)I" } : Jvm.MethodName) prog_45_method_33_code (4 : Nat) (Option.some Jvm.ClassFile.FieldType.int)) ∈ lw_all := lw_g (lw_at lw_m2 227 rfl) rfl
theorem q592 : (Jvm.Cond.methodLink "java/lang/StringUTF16" (193 : Nat) ({ cls := "java/lang/StringLatin1", name := "compareToUTF16", desc := "([B[BII)I" } : Jvm.MethodName)) ∈ lw_all := lw_g (lw_at lw_m2 228 rfl) rfl
theorem q827 : (Jvm.Cond.static ({ cls := "java/lang/StringUTF16", name := "newBytesFor", desc := "(I)[B" } : Jvm.MethodName)) ∈ lw_all := lw_g (lw_at lw_m3 223 rfl) rfl
theorem q828 : (Jvm.Cond.code ({ cls := "java/lang/StringUTF16", name := "newBytesFor", desc := "(I)[B" } : Jvm.MethodName) prog_45_method_2_code (1 : Nat) (Option.some (Jvm.ClassFile.FieldType.array Jvm.ClassFile.FieldType.byte))) ∈ lw_all := lw_g (lw_at lw_m3 224 rfl) rfl
theorem q829 : (Jvm.Cond.methodLink "java/lang/StringUTF16" (11 : Nat) ({ cls := "java/lang/StringUTF16", name := "newBytesLength", desc := "(I)I" } : Jvm.MethodName)) ∈ lw_all := lw_g (lw_at lw_m3 225 rfl) rfl
theorem q830 : (Jvm.Cond.static ({ cls := "java/lang/StringUTF16", name := "newBytesLength", desc := "(I)I" } : Jvm.MethodName)) ∈ lw_all := lw_g (lw_at lw_m3 226 rfl) rfl
theorem q831 : (Jvm.Cond.code ({ cls := "java/lang/StringUTF16", name := "newBytesLength", desc := "(I)I" } : Jvm.MethodName) prog_45_method_3_code (1 : Nat) (Option.some Jvm.ClassFile.FieldType.int)) ∈ lw_all := lw_g (lw_at lw_m3 227 rfl) rfl
theorem q832 : (Jvm.Cond.constant "java/lang/StringUTF16" (20 : Nat) (1073741823 : Int32)) ∈ lw_all := lw_g (lw_at lw_m3 228 rfl) rfl
theorem q909 : (Jvm.Cond.static ({ cls := "java/lang/StringUTF16", name := "hashCode", desc := "([B)I" } : Jvm.MethodName)) ∈ lw_all := lw_g (lw_at lw_m4 65 rfl) rfl
theorem q910 : (Jvm.Cond.code ({ cls := "java/lang/StringUTF16", name := "hashCode", desc := "([B)I" } : Jvm.MethodName) prog_45_method_39_code (1 : Nat) (Option.some Jvm.ClassFile.FieldType.int)) ∈ lw_all := lw_g (lw_at lw_m4 66 rfl) rfl
theorem q911 : (Jvm.Cond.methodLink "java/lang/StringUTF16" (220 : Nat) ({ cls := "jdk/internal/util/ArraysSupport", name := "vectorizedHashCode", desc := "(Ljava/lang/Object;IIII)I" } : Jvm.MethodName)) ∈ lw_all := lw_g (lw_at lw_m4 67 rfl) rfl
theorem q1711 : (Jvm.Cond.static ({ cls := "java/lang/StringUTF16", name := "inflate", desc := "([BI[BII)V" } : Jvm.MethodName)) ∈ lw_all := lw_g (lw_at lw_m7 147 rfl) rfl
theorem q1712 : (Jvm.Cond.code ({ cls := "java/lang/StringUTF16", name := "inflate", desc := "([BI[BII)V" } : Jvm.MethodName) prog_45_method_86_code (6 : Nat) (Option.none : Option Jvm.ClassFile.FieldType)) ∈ lw_all := lw_g (lw_at lw_m7 148 rfl) rfl
theorem q1713 : (Jvm.Cond.methodLink "java/lang/StringUTF16" (173 : Nat) ({ cls := "java/lang/StringUTF16", name := "checkBoundsOffCount", desc := "(II[B)V" } : Jvm.MethodName)) ∈ lw_all := lw_g (lw_at lw_m7 149 rfl) rfl
theorem q1714 : (Jvm.Cond.static ({ cls := "java/lang/StringUTF16", name := "checkBoundsOffCount", desc := "(II[B)V" } : Jvm.MethodName)) ∈ lw_all := lw_g (lw_at lw_m7 150 rfl) rfl
theorem q1715 : (Jvm.Cond.code ({ cls := "java/lang/StringUTF16", name := "checkBoundsOffCount", desc := "(II[B)V" } : Jvm.MethodName) prog_45_method_94_code (3 : Nat) (Option.none : Option Jvm.ClassFile.FieldType)) ∈ lw_all := lw_g (lw_at lw_m7 151 rfl) rfl
theorem q1716 : (Jvm.Cond.methodLink "java/lang/StringUTF16" (419 : Nat) ({ cls := "java/lang/String", name := "checkBoundsOffCount", desc := "(III)I" } : Jvm.MethodName)) ∈ lw_all := lw_g (lw_at lw_m7 152 rfl) rfl
theorem q1722 : (Jvm.Cond.methodLink "java/lang/StringUTF16" (111 : Nat) ({ cls := "java/lang/StringUTF16", name := "putChar", desc := "([BII)V" } : Jvm.MethodName)) ∈ lw_all := lw_g (lw_at lw_m7 158 rfl) rfl
theorem q1723 : (Jvm.Cond.static ({ cls := "java/lang/StringUTF16", name := "putChar", desc := "([BII)V" } : Jvm.MethodName)) ∈ lw_all := lw_g (lw_at lw_m7 159 rfl) rfl
theorem q1724 : (Jvm.Cond.code ({ cls := "java/lang/StringUTF16", name := "putChar", desc := "([BII)V" } : Jvm.MethodName) prog_45_method_4_code (3 : Nat) (Option.none : Option Jvm.ClassFile.FieldType)) ∈ lw_all := lw_g (lw_at lw_m7 160 rfl) rfl
theorem q1726 : (Jvm.Cond.static ({ cls := "java/lang/StringUTF16", name := "putCharSB", desc := "([BII)V" } : Jvm.MethodName)) ∈ lw_all := lw_g (lw_at lw_m7 162 rfl) rfl
theorem q1727 : (Jvm.Cond.code ({ cls := "java/lang/StringUTF16", name := "putCharSB", desc := "([BII)V" } : Jvm.MethodName) prog_45_method_71_code (3 : Nat) (Option.none : Option Jvm.ClassFile.FieldType)) ∈ lw_all := lw_g (lw_at lw_m7 163 rfl) rfl
theorem q1728 : (Jvm.Cond.methodLink "java/lang/StringUTF16" (67 : Nat) ({ cls := "java/lang/StringUTF16", name := "checkIndex", desc := "(I[B)V" } : Jvm.MethodName)) ∈ lw_all := lw_g (lw_at lw_m7 164 rfl) rfl
theorem q1729 : (Jvm.Cond.static ({ cls := "java/lang/StringUTF16", name := "checkIndex", desc := "(I[B)V" } : Jvm.MethodName)) ∈ lw_all := lw_g (lw_at lw_m7 165 rfl) rfl
theorem q1730 : (Jvm.Cond.code ({ cls := "java/lang/StringUTF16", name := "checkIndex", desc := "(I[B)V" } : Jvm.MethodName) prog_45_method_91_code (2 : Nat) (Option.none : Option Jvm.ClassFile.FieldType)) ∈ lw_all := lw_g (lw_at lw_m7 166 rfl) rfl
theorem q1731 : (Jvm.Cond.methodLink "java/lang/StringUTF16" (414 : Nat) ({ cls := "java/lang/String", name := "checkIndex", desc := "(II)V" } : Jvm.MethodName)) ∈ lw_all := lw_g (lw_at lw_m7 167 rfl) rfl
theorem q1758 : (Jvm.Cond.static ({ cls := "java/lang/StringUTF16", name := "fillNull", desc := "([BII)V" } : Jvm.MethodName)) ∈ lw_all := lw_g (lw_at lw_m7 194 rfl) rfl
theorem q1759 : (Jvm.Cond.code ({ cls := "java/lang/StringUTF16", name := "fillNull", desc := "([BII)V" } : Jvm.MethodName) prog_45_method_70_code (3 : Nat) (Option.none : Option Jvm.ClassFile.FieldType)) ∈ lw_all := lw_g (lw_at lw_m7 195 rfl) rfl
theorem q1760 : (Jvm.Cond.methodLink "java/lang/StringUTF16" (380 : Nat) ({ cls := "java/util/Arrays", name := "fill", desc := "([BIIB)V" } : Jvm.MethodName)) ∈ lw_all := lw_g (lw_at lw_m7 196 rfl) rfl
theorem q1874 : (Jvm.Cond.static ({ cls := "java/lang/StringUTF16", name := "charAt", desc := "([BI)C" } : Jvm.MethodName)) ∈ lw_all := lw_g (lw_at lw_m8 70 rfl) rfl
theorem q1875 : (Jvm.Cond.code ({ cls := "java/lang/StringUTF16", name := "charAt", desc := "([BI)C" } : Jvm.MethodName) prog_45_method_83_code (2 : Nat) (Option.some Jvm.ClassFile.FieldType.char)) ∈ lw_all := lw_g (lw_at lw_m8 71 rfl) rfl
theorem q1911 : (Jvm.Cond.static ({ cls := "java/lang/StringUTF16", name := "compress", desc := "([BII)[B" } : Jvm.MethodName)) ∈ lw_all := lw_g (lw_at lw_m8 107 rfl) rfl
theorem q1912 : (Jvm.Cond.code ({ cls := "java/lang/StringUTF16", name := "compress", desc := "([BII)[B" } : Jvm.MethodName) prog_45_method_17_code (6 : Nat) (Option.some (Jvm.ClassFile.FieldType.array Jvm.ClassFile.FieldType.byte))) ∈ lw_all := lw_g (lw_at lw_m8 108 rfl) rfl
theorem q1913 : (Jvm.Cond.methodLink "java/lang/StringUTF16" (123 : Nat) ({ cls := "java/lang/StringUTF16", name := "compress", desc := "([BI[BII)I" } : Jvm.MethodName)) ∈ lw_all := lw_g (lw_at lw_m8 109 rfl) rfl
theorem q1914 : (Jvm.Cond.static ({ cls := "java/lang/StringUTF16", name := "compress", desc := "([BI[BII)I" } : Jvm.MethodName)) ∈ lw_all := lw_g (lw_at lw_m8 110 rfl) rfl
theorem q1915 : (Jvm.Cond.code ({ cls := "java/lang/StringUTF16", name := "compress", desc := "([BI[BII)I" } : Jvm.MethodName) prog_45_method_22_code (7 : Nat) (Option.some Jvm.ClassFile.FieldType.int)) ∈ lw_all := lw_g (lw_at lw_m8 111 rfl) rfl
theorem q1916 : (Jvm.Cond.methodLink "java/lang/StringUTF16" (126 : Nat) ({ cls := "java/util/Arrays", name := "copyOfRange", desc := "([BII)[B" } : Jvm.MethodName)) ∈ lw_all := lw_g (lw_at lw_m8 112 rfl) rfl
theorem q1918 : (Jvm.Cond.static ({ cls := "java/lang/StringUTF16", name := "coderFromArrayLen", desc := "([BI)B" } : Jvm.MethodName)) ∈ lw_all := lw_g (lw_at lw_m8 114 rfl) rfl
theorem q1919 : (Jvm.Cond.code ({ cls := "java/lang/StringUTF16", name := "coderFromArrayLen", desc := "([BI)B" } : Jvm.MethodName) prog_45_method_15_code (2 : Nat) (Option.some Jvm.ClassFile.FieldType.byte)) ∈ lw_all := lw_g (lw_at lw_m8 115 rfl) rfl
theorem q2523 : (Jvm.Cond.static ({ cls := "java/lang/StringUTF16", name := "putCharsAt", desc := "([BICCCC)I" } : Jvm.MethodName)) ∈ lw_all := lw_g (lw_at lw_m10 239 rfl) rfl
theorem q2524 : (Jvm.Cond.code ({ cls := "java/lang/StringUTF16", name := "putCharsAt", desc := "([BICCCC)I" } : Jvm.MethodName) prog_45_method_81_code (7 : Nat) (Option.some Jvm.ClassFile.FieldType.int)) ∈ lw_all := lw_g (lw_at lw_m11 0 rfl) rfl
theorem q2525 : (Jvm.Cond.methodLink "java/lang/StringUTF16" (96 : Nat) ({ cls := "java/lang/StringUTF16", name := "checkBoundsBeginEnd", desc := "(II[B)V" } : Jvm.MethodName)) ∈ lw_all := lw_g (lw_at lw_m11 1 rfl) rfl
theorem q2526 : (Jvm.Cond.static ({ cls := "java/lang/StringUTF16", name := "checkBoundsBeginEnd", desc := "(II[B)V" } : Jvm.MethodName)) ∈ lw_all := lw_g (lw_at lw_m11 2 rfl) rfl
theorem q2527 : (Jvm.Cond.code ({ cls := "java/lang/StringUTF16", name := "checkBoundsBeginEnd", desc := "(II[B)V" } : Jvm.MethodName) prog_45_method_93_code (3 : Nat) (Option.none : Option Jvm.ClassFile.FieldType)) ∈ lw_all := lw_g (lw_at lw_m11 3 rfl) rfl
theorem q2528 : (Jvm.Cond.methodLink "java/lang/StringUTF16" (241 : Nat) ({ cls := "java/lang/String", name := "checkBoundsBeginEnd", desc := "(III)V" } : Jvm.MethodName)) ∈ lw_all := lw_g (lw_at lw_m11 4 rfl) rfl
theorem q2576 : (Jvm.Cond.static ({ cls := "java/lang/StringUTF16", name := "getChars", desc := "(II[B)I" } : Jvm.MethodName)) ∈ lw_all := lw_g (lw_at lw_m11 52 rfl) rfl
theorem q2577 : (Jvm.Cond.code ({ cls := "java/lang/StringUTF16", name := "getChars", desc := "(II[B)I" } : Jvm.MethodName) prog_45_method_89_code (7 : Nat) (Option.some Jvm.ClassFile.FieldType.int)) ∈ lw_all := lw_g (lw_at lw_m11 53 rfl) rfl
theorem q2578 : (Jvm.Cond.fieldLink "java/lang/StringUTF16" (403 : Nat) "java/lang/Integer" "DigitOnes" "[B") ∈ lw_all := lw_g (lw_at lw_m11 54 rfl) rfl
theorem q2579 : (Jvm.Cond.fieldLink "java/lang/StringUTF16" (407 : Nat) "java/lang/Integer" "DigitTens" "[B") ∈ lw_all := lw_g (lw_at lw_m11 55 rfl) rfl
theorem q2591 : (Jvm.Cond.static ({ cls := "java/lang/StringUTF16", name := "getChars", desc := "(III[B)I" } : Jvm.MethodName)) ∈ lw_all := lw_g (lw_at lw_m11 67 rfl) rfl
theorem q2592 : (Jvm.Cond.code ({ cls := "java/lang/StringUTF16", name := "getChars", desc := "(III[B)I" } : Jvm.MethodName) prog_45_method_77_code (5 : Nat) (Option.some Jvm.ClassFile.FieldType.int)) ∈ lw_all := lw_g (lw_at lw_m11 68 rfl) rfl
theorem q2593 : (Jvm.Cond.methodLink "java/lang/StringUTF16" (393 : Nat) ({ cls := "java/lang/StringUTF16", name := "getChars", desc := "(II[B)I" } : Jvm.MethodName)) ∈ lw_all := lw_g (lw_at lw_m11 69 rfl) rfl
/-! jdk/internal/util/Preconditions -/
set_option maxRecDepth 100000
def RJ12 : String := "jdk/internal/util/Preconditions"
abbrev cJ12_checkFromToIndex : ByteArray := prog_83_method_12_code
def yJ12_checkFromToIndex : MethodName := ⟨RJ12, "checkFromToIndex", "(IIILjava/util/function/BiFunction;)I"⟩
def dkwJ12_checkFromToIndex_0 : List UInt8 := [26, 155, 0, 13, 26, 27, 163, 0, 8, 27, 28, 164, 0, 11, 45, 26, 27, 28, 184, 0, 99, 191, 26, 172]
abbrev dktJ12_checkFromToIndex_0 : List UInt8 := dkwJ12_checkFromToIndex_0 ++ []
theorem dksJ12_checkFromToIndex_0 : cJ12_checkFromToIndex.data.toList.drop 0 = dktJ12_checkFromToIndex_0 := by decide +kernel
theorem dJ12_checkFromToIndex_0 : decode cJ12_checkFromToIndex 0 = .ok (.iload_n 0, 1) := dk_26 (dk_at dksJ12_checkFromToIndex_0 0 rfl rfl)
theorem dJ12_checkFromToIndex_1 : decode cJ12_checkFromToIndex 1 = .ok (.ifCond .lt 13, 3) := dk_155 0 13 (dk_at dksJ12_checkFromToIndex_0 1 rfl rfl)
theorem dJ12_checkFromToIndex_4 : decode cJ12_checkFromToIndex 4 = .ok (.iload_n 0, 1) := dk_26 (dk_at dksJ12_checkFromToIndex_0 4 rfl rfl)
theorem dJ12_checkFromToIndex_5 : decode cJ12_checkFromToIndex 5 = .ok (.iload_n 1, 1) := dk_27 (dk_at dksJ12_checkFromToIndex_0 5 rfl rfl)
theorem dJ12_checkFromToIndex_6 : decode cJ12_checkFromToIndex 6 = .ok (.if_icmp .gt 8, 3) := dk_163 0 8 (dk_at dksJ12_checkFromToIndex_0 6 rfl rfl)
theorem dJ12_checkFromToIndex_9 : decode cJ12_checkFromToIndex 9 = .ok (.iload_n 1, 1) := dk_27 (dk_at dksJ12_checkFromToIndex_0 9 rfl rfl)
theorem dJ12_checkFromToIndex_10 : decode cJ12_checkFromToIndex 10 = .ok (.iload_n 2, 1) := dk_28 (dk_at dksJ12_checkFromToIndex_0 10 rfl rfl)
theorem dJ12_checkFromToIndex_11 : decode cJ12_checkFromToIndex 11 = .ok (.if_icmp .le 11, 3) := dk_164 0 11 (dk_at dksJ12_checkFromToIndex_0 11 rfl rfl)
theorem dJ12_checkFromToIndex_14 : decode cJ12_checkFromToIndex 14 = .ok (.aload_n 3, 1) := dk_45 (dk_at dksJ12_checkFromToIndex_0 14 rfl rfl)
theorem dJ12_checkFromToIndex_15 : decode cJ12_checkFromToIndex 15 = .ok (.iload_n 0, 1) := dk_26 (dk_at dksJ12_checkFromToIndex_0 15 rfl rfl)
theorem dJ12_checkFromToIndex_16 : decode cJ12_checkFromToIndex 16 = .ok (.iload_n 1, 1) := dk_27 (dk_at dksJ12_checkFromToIndex_0 16 rfl rfl)
theorem dJ12_checkFromToIndex_17 : decode cJ12_checkFromToIndex 17 = .ok (.iload_n 2, 1) := dk_28 (dk_at dksJ12_checkFromToIndex_0 17 rfl rfl)
theorem dJ12_checkFromToIndex_18 : decode cJ12_checkFromToIndex 18 = .ok (.invokestatic 99, 3) := dk_184 0 99 (dk_at dksJ12_checkFromToIndex_0 18 rfl rfl)
theorem dJ12_checkFromToIndex_21 : decode cJ12_checkFromToIndex 21 = .ok (.athrow, 1) := dk_191 (dk_at dksJ12_checkFromToIndex_0 21 rfl rfl)
theorem dJ12_checkFromToIndex_22 : decode cJ12_checkFromToIndex 22 = .ok (.iload_n 0, 1) := dk_26 (dk_at dksJ12_checkFromToIndex_0 22 rfl rfl)
theorem dJ12_checkFromToIndex_23 : decode cJ12_checkFromToIndex 23 = .ok (.ireturn, 1) := dk_172 (dk_at dksJ12_checkFromToIndex_0 23 rfl rfl)
abbrev cJ12_checkFromIndexSize : ByteArray := prog_83_method_13_code
def yJ12_checkFromIndexSize : MethodName := ⟨RJ12, "checkFromIndexSize", "(IIILjava/util/function/BiFunction;)I"⟩
def dkwJ12_checkFromIndexSize_1 : List UInt8 := [172]
abbrev dktJ12_checkFromIndexSize_1 : List UInt8 := dkwJ12_checkFromIndexSize_1 ++ []
def dkwJ12_checkFromIndexSize_0 : List UInt8 := [28, 26, 128, 27, 128, 155, 0, 10, 27, 28, 26, 100, 164, 0, 11, 45, 26, 27, 28, 184, 0, 103, 191, 26]
abbrev dktJ12_checkFromIndexSize_0 : List UInt8 := dkwJ12_checkFromIndexSize_0 ++ dktJ12_checkFromIndexSize_1
theorem dksJ12_checkFromIndexSize_0 : cJ12_checkFromIndexSize.data.toList.drop 0 = dktJ12_checkFromIndexSize_0 := by decide +kernel
theorem dksJ12_checkFromIndexSize_1 : cJ12_checkFromIndexSize.data.toList.drop 24 = dktJ12_checkFromIndexSize_1 := dk_seg dksJ12_checkFromIndexSize_0 24 rfl rfl
theorem dJ12_checkFromIndexSize_0 : decode cJ12_checkFromIndexSize 0 = .ok (.iload_n 2, 1) := dk_28 (dk_at dksJ12_checkFromIndexSize_0 0 rfl rfl)
theorem dJ12_checkFromIndexSize_1 : decode cJ12_checkFromIndexSize 1 = .ok (.iload_n 0, 1) := dk_26 (dk_at dksJ12_checkFromIndexSize_0 1 rfl rfl)
theorem dJ12_checkFromIndexSize_2 : decode cJ12_checkFromIndexSize 2 = .ok (.ior, 1) := dk_128 (dk_at dksJ12_checkFromIndexSize_0 2 rfl rfl)
theorem dJ12_checkFromIndexSize_3 : decode cJ12_checkFromIndexSize 3 = .ok (.iload_n 1, 1) := dk_27 (dk_at dksJ12_checkFromIndexSize_0 3 rfl rfl)
theorem dJ12_checkFromIndexSize_4 : decode cJ12_checkFromIndexSize 4 = .ok (.ior, 1) := dk_128 (dk_at dksJ12_checkFromIndexSize_0 4 rfl rfl)
theorem dJ12_checkFromIndexSize_5 : decode cJ12_checkFromIndexSize 5 = .ok (.ifCond .lt 10, 3) := dk_155 0 10 (dk_at dksJ12_checkFromIndexSize_0 5 rfl rfl)
theorem dJ12_checkFromIndexSize_8 : decode cJ12_checkFromIndexSize 8 = .ok (.iload_n 1, 1) := dk_27 (dk_at dksJ12_checkFromIndexSize_0 8 rfl rfl)
theorem dJ12_checkFromIndexSize_9 : decode cJ12_checkFromIndexSize 9 = .ok (.iload_n 2, 1) := dk_28 (dk_at dksJ12_checkFromIndexSize_0 9 rfl rfl)
theorem dJ12_checkFromIndexSize_10 : decode cJ12_checkFromIndexSize 10 = .ok (.iload_n 0, 1) := dk_26 (dk_at dksJ12_checkFromIndexSize_0 10 rfl rfl)
theorem dJ12_checkFromIndexSize_11 : decode cJ12_checkFromIndexSize 11 = .ok (.isub, 1) := dk_100 (dk_at dksJ12_checkFromIndexSize_0 11 rfl rfl)
theorem dJ12_checkFromIndexSize_12 : decode cJ12_checkFromIndexSize 12 = .ok (.if_icmp .le 11, 3) := dk_164 0 11 (dk_at dksJ12_checkFromIndexSize_0 12 rfl rfl)
theorem dJ12_checkFromIndexSize_15 : decode cJ12_checkFromIndexSize 15 = .ok (.aload_n 3, 1) := dk_45 (dk_at dksJ12_checkFromIndexSize_0 15 rfl rfl)
theorem dJ12_checkFromIndexSize_16 : decode cJ12_checkFromIndexSize 16 = .ok (.iload_n 0, 1) := dk_26 (dk_at dksJ12_checkFromIndexSize_0 16 rfl rfl)
theorem dJ12_checkFromIndexSize_17 : decode cJ12_checkFromIndexSize 17 = .ok (.iload_n 1, 1) := dk_27 (dk_at dksJ12_checkFromIndexSize_0 17 rfl rfl)
theorem dJ12_checkFromIndexSize_18 : decode cJ12_checkFromIndexSize 18 = .ok (.iload_n 2, 1) := dk_28 (dk_at dksJ12_checkFromIndexSize_0 18 rfl rfl)
theorem dJ12_checkFromIndexSize_19 : decode cJ12_checkFromIndexSize 19 = .ok (.invokestatic 103, 3) := dk_184 0 103 (dk_at dksJ12_checkFromIndexSize_0 19 rfl rfl)
theorem dJ12_checkFromIndexSize_22 : decode cJ12_checkFromIndexSize 22 = .ok (.athrow, 1) := dk_191 (dk_at dksJ12_checkFromIndexSize_0 22 rfl rfl)
theorem dJ12_checkFromIndexSize_23 : decode cJ12_checkFromIndexSize 23 = .ok (.iload_n 0, 1) := dk_26 (dk_at dksJ12_checkFromIndexSize_0 23 rfl rfl)
theorem dJ12_checkFromIndexSize_24 : decode cJ12_checkFromIndexSize 24 = .ok (.ireturn, 1) := dk_172 (dk_at dksJ12_checkFromIndexSize_1 0 rfl rfl)
abbrev cJ12_checkIndex : ByteArray := prog_83_method_11_code
def yJ12_checkIndex : MethodName := ⟨RJ12, "checkIndex", "(IILjava/util/function/BiFunction;)I"⟩
def dkwJ12_checkIndex_0 : List UInt8 := [26, 155, 0, 8, 26, 27, 161, 0, 10, 44, 26, 27, 184, 0, 95, 191, 26, 172]
abbrev dktJ12_checkIndex_0 : List UInt8 := dkwJ12_checkIndex_0 ++ []
theorem dksJ12_checkIndex_0 : cJ12_checkIndex.data.toList.drop 0 = dktJ12_checkIndex_0 := by decide +kernel
theorem dJ12_checkIndex_0 : decode cJ12_checkIndex 0 = .ok (.iload_n 0, 1) := dk_26 (dk_at dksJ12_checkIndex_0 0 rfl rfl)
theorem dJ12_checkIndex_1 : decode cJ12_checkIndex 1 = .ok (.ifCond .lt 8, 3) := dk_155 0 8 (dk_at dksJ12_checkIndex_0 1 rfl rfl)
theorem dJ12_checkIndex_4 : decode cJ12_checkIndex 4 = .ok (.iload_n 0, 1) := dk_26 (dk_at dksJ12_checkIndex_0 4 rfl rfl)
theorem dJ12_checkIndex_5 : decode cJ12_checkIndex 5 = .ok (.iload_n 1, 1) := dk_27 (dk_at dksJ12_checkIndex_0 5 rfl rfl)
theorem dJ12_checkIndex_6 : decode cJ12_checkIndex 6 = .ok (.if_icmp .lt 10, 3) := dk_161 0 10 (dk_at dksJ12_checkIndex_0 6 rfl rfl)
theorem dJ12_checkIndex_9 : decode cJ12_checkIndex 9 = .ok (.aload_n 2, 1) := dk_44 (dk_at dksJ12_checkIndex_0 9 rfl rfl)
theorem dJ12_checkIndex_10 : decode cJ12_checkIndex 10 = .ok (.iload_n 0, 1) := dk_26 (dk_at dksJ12_checkIndex_0 10 rfl rfl)
theorem dJ12_checkIndex_11 : decode cJ12_checkIndex 11 = .ok (.iload_n 1, 1) := dk_27 (dk_at dksJ12_checkIndex_0 11 rfl rfl)
theorem dJ12_checkIndex_12 : decode cJ12_checkIndex 12 = .ok (.invokestatic 95, 3) := dk_184 0 95 (dk_at dksJ12_checkIndex_0 12 rfl rfl)
theorem dJ12_checkIndex_15 : decode cJ12_checkIndex 15 = .ok (.athrow, 1) := dk_191 (dk_at dksJ12_checkIndex_0 15 rfl rfl)
theorem dJ12_checkIndex_16 : decode cJ12_checkIndex 16 = .ok (.iload_n 0, 1) := dk_26 (dk_at dksJ12_checkIndex_0 16 rfl rfl)
theorem dJ12_checkIndex_17 : decode cJ12_checkIndex 17 = .ok (.ireturn, 1) := dk_172 (dk_at dksJ12_checkIndex_0 17 rfl rfl)
theorem q143 : (Jvm.Cond.initialized "jdk/internal/util/Preconditions") ∈ lw_all := lw_g (lw_at lw_m1 19 rfl) rfl
theorem q581 : (Jvm.Cond.laysStatic "jdk/internal/util/Preconditions" "SIOOBE_FORMATTER" "Ljava/util/function/BiFunction;") ∈ lw_tbl := lw_at lw_m2 217 rfl
theorem q583 : (Jvm.Cond.static ({ cls := "jdk/internal/util/Preconditions", name := "checkFromToIndex", desc := "(IIILjava/util/function/BiFunction;)I" } : Jvm.MethodName)) ∈ lw_all := lw_g (lw_at lw_m2 219 rfl) rfl
theorem q584 : (Jvm.Cond.code ({ cls := "jdk/internal/util/Preconditions", name := "checkFromToIndex", desc := "(IIILjava/util/function/BiFunction;)I" } : Jvm.MethodName) prog_83_method_12_code (4 : Nat) (Option.some Jvm.ClassFile.FieldType.int)) ∈ lw_all := lw_g (lw_at lw_m2 220 rfl) rfl
theorem q1720 : (Jvm.Cond.static ({ cls := "jdk/internal/util/Preconditions", name := "checkFromIndexSize", desc := "(IIILjava/util/function/BiFunction;)I" } : Jvm.MethodName)) ∈ lw_all := lw_g (lw_at lw_m7 156 rfl) rfl
theorem q1721 : (Jvm.Cond.code ({ cls := "jdk/internal/util/Preconditions", name := "checkFromIndexSize", desc := "(IIILjava/util/function/BiFunction;)I" } : Jvm.MethodName) prog_83_method_13_code (4 : Nat) (Option.some Jvm.ClassFile.FieldType.int)) ∈ lw_all := lw_g (lw_at lw_m7 157 rfl) rfl
theorem q1735 : (Jvm.Cond.static ({ cls := "jdk/internal/util/Preconditions", name := "checkIndex", desc := "(IILjava/util/function/BiFunction;)I" } : Jvm.MethodName)) ∈ lw_all := lw_g (lw_at lw_m7 171 rfl) rfl
theorem q1736 : (Jvm.Cond.code ({ cls := "jdk/internal/util/Preconditions", name := "checkIndex", desc := "(IILjava/util/function/BiFunction;)I" } : Jvm.MethodName) prog_83_method_11_code (3 : Nat) (Option.some Jvm.ClassFile.FieldType.int)) ∈ lw_all := lw_g (lw_at lw_m7 172 rfl) rfl
/-! java/util/TreeMap$Entry -/
set_option maxRecDepth 100000
def RJ13 : String := "java/util/TreeMap$Entry"
def TJ13 : u_T := fun k => match k with
  | 0 => ("java/util/TreeMap$Entry", "key", "Ljava/lang/Object;", false)
  | 1 => ("java/util/TreeMap$Entry", "value", "Ljava/lang/Object;", false)
  | 2 => ("java/util/TreeMap$Entry", "left", "Ljava/util/TreeMap$Entry;", false)
  | 3 => ("java/util/TreeMap$Entry", "right", "Ljava/util/TreeMap$Entry;", false)
  | 4 => ("java/util/TreeMap$Entry", "parent", "Ljava/util/TreeMap$Entry;", false)
  | _ => ("java/util/TreeMap$Entry", "color", "Z", false)
def tyJ13 : Nat → FieldType := fun k => match k with
  | 0 => .object "java/lang/Object"
  | 1 => .object "java/lang/Object"
  | 2 => .object "java/util/TreeMap$Entry"
  | 3 => .object "java/util/TreeMap$Entry"
  | 4 => .object "java/util/TreeMap$Entry"
  | _ => .boolean
abbrev wsJ130 : List Cond := u_ws RJ13 TJ13 6
theorem nmJ13 : ∀ a, a < 6 → ∀ b, b < 6 → a ≠ b → (TJ13 a).2.1 ≠ (TJ13 b).2.1 := by decide +kernel
theorem tyJ13_ok : ∀ k, k < 6 → parseFieldDescriptor (TJ13 k).2.2.1 = some (tyJ13 k) := by decide +kernel
abbrev cJ13_init : ByteArray := prog_77_method_1_code
def yJ13_init : MethodName := ⟨RJ13, "<init>", "(Ljava/lang/Object;Ljava/lang/Object;Ljava/util/TreeMap$Entry;)V"⟩
def dkwJ13_init_1 : List UInt8 := [177]
abbrev dktJ13_init_1 : List UInt8 := dkwJ13_init_1 ++ []
def dkwJ13_init_0 : List UInt8 := [42, 183, 0, 3, 42, 4, 181, 0, 9, 42, 43, 181, 0, 15, 42, 44, 181, 0, 19, 42, 45, 181, 0, 22]
abbrev dktJ13_init_0 : List UInt8 := dkwJ13_init_0 ++ dktJ13_init_1
theorem dksJ13_init_0 : cJ13_init.data.toList.drop 0 = dktJ13_init_0 := by decide +kernel
theorem dksJ13_init_1 : cJ13_init.data.toList.drop 24 = dktJ13_init_1 := dk_seg dksJ13_init_0 24 rfl rfl
theorem dJ13_init_0 : decode cJ13_init 0 = .ok (.aload_n 0, 1) := dk_42 (dk_at dksJ13_init_0 0 rfl rfl)
theorem dJ13_init_1 : decode cJ13_init 1 = .ok (.invokespecial 3, 3) := dk_183 0 3 (dk_at dksJ13_init_0 1 rfl rfl)
theorem dJ13_init_4 : decode cJ13_init 4 = .ok (.aload_n 0, 1) := dk_42 (dk_at dksJ13_init_0 4 rfl rfl)
theorem dJ13_init_5 : decode cJ13_init 5 = .ok (.iconst 1, 1) := dk_4 (dk_at dksJ13_init_0 5 rfl rfl)
theorem dJ13_init_6 : decode cJ13_init 6 = .ok (.putfield 9, 3) := dk_181 0 9 (dk_at dksJ13_init_0 6 rfl rfl)
theorem dJ13_init_9 : decode cJ13_init 9 = .ok (.aload_n 0, 1) := dk_42 (dk_at dksJ13_init_0 9 rfl rfl)
theorem dJ13_init_10 : decode cJ13_init 10 = .ok (.aload_n 1, 1) := dk_43 (dk_at dksJ13_init_0 10 rfl rfl)
theorem dJ13_init_11 : decode cJ13_init 11 = .ok (.putfield 15, 3) := dk_181 0 15 (dk_at dksJ13_init_0 11 rfl rfl)
theorem dJ13_init_14 : decode cJ13_init 14 = .ok (.aload_n 0, 1) := dk_42 (dk_at dksJ13_init_0 14 rfl rfl)
theorem dJ13_init_15 : decode cJ13_init 15 = .ok (.aload_n 2, 1) := dk_44 (dk_at dksJ13_init_0 15 rfl rfl)
theorem dJ13_init_16 : decode cJ13_init 16 = .ok (.putfield 19, 3) := dk_181 0 19 (dk_at dksJ13_init_0 16 rfl rfl)
theorem dJ13_init_19 : decode cJ13_init 19 = .ok (.aload_n 0, 1) := dk_42 (dk_at dksJ13_init_0 19 rfl rfl)
theorem dJ13_init_20 : decode cJ13_init 20 = .ok (.aload_n 3, 1) := dk_45 (dk_at dksJ13_init_0 20 rfl rfl)
theorem dJ13_init_21 : decode cJ13_init 21 = .ok (.putfield 22, 3) := dk_181 0 22 (dk_at dksJ13_init_0 21 rfl rfl)
theorem dJ13_init_24 : decode cJ13_init 24 = .ok (.return_, 1) := dk_177 (dk_at dksJ13_init_1 0 rfl rfl)
theorem q144 : (Jvm.Cond.initialized "java/util/TreeMap$Entry") ∈ lw_all := lw_g (lw_at lw_m1 20 rfl) rfl
theorem q614 : (Jvm.Cond.instantiable "java/util/TreeMap$Entry" (6 : Nat)) ∈ lw_all := lw_g (lw_at lw_m3 10 rfl) rfl
theorem q616 : (Jvm.Cond.instanceMethod ({ cls := "java/util/TreeMap$Entry", name := "<init>", desc := "(Ljava/lang/Object;Ljava/lang/Object;Ljava/util/TreeMap$Entry;)V" } : Jvm.MethodName)) ∈ lw_all := lw_g (lw_at lw_m3 12 rfl) rfl
theorem q617 : (Jvm.Cond.code ({ cls := "java/util/TreeMap$Entry", name := "<init>", desc := "(Ljava/lang/Object;Ljava/lang/Object;Ljava/util/TreeMap$Entry;)V" } : Jvm.MethodName) prog_77_method_1_code (4 : Nat) (Option.none : Option Jvm.ClassFile.FieldType)) ∈ lw_all := lw_g (lw_at lw_m3 13 rfl) rfl
theorem q618 : (Jvm.Cond.methodLink "java/util/TreeMap$Entry" (3 : Nat) ({ cls := "java/lang/Object", name := "<init>", desc := "()V" } : Jvm.MethodName)) ∈ lw_all := lw_g (lw_at lw_m3 14 rfl) rfl
theorem q619 : (Jvm.Cond.fieldLink "java/util/TreeMap$Entry" (15 : Nat) "java/util/TreeMap$Entry" "key" "Ljava/lang/Object;") ∈ lw_all := lw_g (lw_at lw_m3 15 rfl) rfl
theorem q621 : (Jvm.Cond.fieldLink "java/util/TreeMap$Entry" (19 : Nat) "java/util/TreeMap$Entry" "value" "Ljava/lang/Object;") ∈ lw_all := lw_g (lw_at lw_m3 17 rfl) rfl
theorem q625 : (Jvm.Cond.fieldLink "java/util/TreeMap$Entry" (22 : Nat) "java/util/TreeMap$Entry" "parent" "Ljava/util/TreeMap$Entry;") ∈ lw_all := lw_g (lw_at lw_m3 21 rfl) rfl
theorem q627 : (Jvm.Cond.fieldLink "java/util/TreeMap$Entry" (9 : Nat) "java/util/TreeMap$Entry" "color" "Z") ∈ lw_all := lw_g (lw_at lw_m3 23 rfl) rfl
theorem q629 : (Jvm.Cond.lays "java/util/TreeMap$Entry" "java/util/TreeMap$Entry" "key" "Ljava/lang/Object;") ∈ lw_all := lw_g (lw_at lw_m3 25 rfl) rfl
theorem q630 : (Jvm.Cond.soleField "java/util/TreeMap$Entry" "key") ∈ lw_all := lw_g (lw_at lw_m3 26 rfl) rfl
theorem q631 : (Jvm.Cond.lays "java/util/TreeMap$Entry" "java/util/TreeMap$Entry" "value" "Ljava/lang/Object;") ∈ lw_all := lw_g (lw_at lw_m3 27 rfl) rfl
theorem q632 : (Jvm.Cond.soleField "java/util/TreeMap$Entry" "value") ∈ lw_all := lw_g (lw_at lw_m3 28 rfl) rfl
theorem q633 : (Jvm.Cond.lays "java/util/TreeMap$Entry" "java/util/TreeMap$Entry" "left" "Ljava/util/TreeMap$Entry;") ∈ lw_all := lw_g (lw_at lw_m3 29 rfl) rfl
theorem q634 : (Jvm.Cond.soleField "java/util/TreeMap$Entry" "left") ∈ lw_all := lw_g (lw_at lw_m3 30 rfl) rfl
theorem q635 : (Jvm.Cond.lays "java/util/TreeMap$Entry" "java/util/TreeMap$Entry" "right" "Ljava/util/TreeMap$Entry;") ∈ lw_all := lw_g (lw_at lw_m3 31 rfl) rfl
theorem q636 : (Jvm.Cond.soleField "java/util/TreeMap$Entry" "right") ∈ lw_all := lw_g (lw_at lw_m3 32 rfl) rfl
theorem q637 : (Jvm.Cond.lays "java/util/TreeMap$Entry" "java/util/TreeMap$Entry" "parent" "Ljava/util/TreeMap$Entry;") ∈ lw_all := lw_g (lw_at lw_m3 33 rfl) rfl
theorem q638 : (Jvm.Cond.soleField "java/util/TreeMap$Entry" "parent") ∈ lw_all := lw_g (lw_at lw_m3 34 rfl) rfl
theorem q639 : (Jvm.Cond.lays "java/util/TreeMap$Entry" "java/util/TreeMap$Entry" "color" "Z") ∈ lw_all := lw_g (lw_at lw_m3 35 rfl) rfl
theorem q640 : (Jvm.Cond.soleField "java/util/TreeMap$Entry" "color") ∈ lw_all := lw_g (lw_at lw_m3 36 rfl) rfl
theorem q641 : (Jvm.Cond.superclass "java/util/TreeMap$Entry" "java/lang/Object") ∈ lw_all := lw_g (lw_at lw_m3 37 rfl) rfl
theorem q1119 : (Jvm.Cond.selects "java/util/TreeMap$Entry" ({ cls := "java/lang/Object", name := "getClass", desc := "()Ljava/lang/Class;" } : Jvm.MethodName) ({ cls := "java/lang/Object", name := "getClass", desc := "()Ljava/lang/Class;" } : Jvm.MethodName)) ∈ lw_all := lw_g (lw_at lw_m5 35 rfl) rfl
theorem q3196 : (Jvm.Cond.castable "java/util/TreeMap$Entry" "java/lang/Object") ∈ lw_tbl := lw_at lw_m13 192 rfl
theorem in_J13 : ∀ w ∈ wsJ130, w ∈ lw_all := lw_in wsJ130 [629, 631, 633, 635, 637, 639] (by decide +kernel) (by decide +kernel)
/-! java/util/AbstractCollection -/
set_option maxRecDepth 100000
def RJ14 : String := "java/util/AbstractCollection"
abbrev cJ14_init : ByteArray := prog_51_method_1_code
def yJ14_init : MethodName := ⟨RJ14, "<init>", "()V"⟩
theorem dJ14_init_0 : decode cJ14_init 0 = .ok (.aload_n 0, 1) := by decide +kernel
theorem dJ14_init_1 : decode cJ14_init 1 = .ok (.invokespecial 1, 3) := by decide +kernel
theorem dJ14_init_4 : decode cJ14_init 4 = .ok (.return_, 1) := by decide +kernel
abbrev cJ14_isEmpty : ByteArray := prog_51_method_4_code
def yJ14_isEmpty : MethodName := ⟨RJ14, "isEmpty", "()Z"⟩
def dkwJ14_isEmpty_0 : List UInt8 := [42, 182, 0, 7, 154, 0, 7, 4, 167, 0, 4, 3, 172]
abbrev dktJ14_isEmpty_0 : List UInt8 := dkwJ14_isEmpty_0 ++ []
theorem dksJ14_isEmpty_0 : cJ14_isEmpty.data.toList.drop 0 = dktJ14_isEmpty_0 := by decide +kernel
theorem dJ14_isEmpty_0 : decode cJ14_isEmpty 0 = .ok (.aload_n 0, 1) := dk_42 (dk_at dksJ14_isEmpty_0 0 rfl rfl)
theorem dJ14_isEmpty_1 : decode cJ14_isEmpty 1 = .ok (.invokevirtual 7, 3) := dk_182 0 7 (dk_at dksJ14_isEmpty_0 1 rfl rfl)
theorem dJ14_isEmpty_4 : decode cJ14_isEmpty 4 = .ok (.ifCond .ne 7, 3) := dk_154 0 7 (dk_at dksJ14_isEmpty_0 4 rfl rfl)
theorem dJ14_isEmpty_7 : decode cJ14_isEmpty 7 = .ok (.iconst 1, 1) := dk_4 (dk_at dksJ14_isEmpty_0 7 rfl rfl)
theorem dJ14_isEmpty_8 : decode cJ14_isEmpty 8 = .ok (.goto 4, 3) := dk_167 0 4 (dk_at dksJ14_isEmpty_0 8 rfl rfl)
theorem dJ14_isEmpty_11 : decode cJ14_isEmpty 11 = .ok (.iconst 0, 1) := dk_3 (dk_at dksJ14_isEmpty_0 11 rfl rfl)
theorem dJ14_isEmpty_12 : decode cJ14_isEmpty 12 = .ok (.ireturn, 1) := dk_172 (dk_at dksJ14_isEmpty_0 12 rfl rfl)
theorem q146 : (Jvm.Cond.initialized "java/util/AbstractCollection") ∈ lw_all := lw_g (lw_at lw_m1 22 rfl) rfl
theorem q802 : (Jvm.Cond.instanceMethod ({ cls := "java/util/AbstractCollection", name := "<init>", desc := "()V" } : Jvm.MethodName)) ∈ lw_all := lw_g (lw_at lw_m3 198 rfl) rfl
theorem q803 : (Jvm.Cond.code ({ cls := "java/util/AbstractCollection", name := "<init>", desc := "()V" } : Jvm.MethodName) prog_51_method_1_code (1 : Nat) (Option.none : Option Jvm.ClassFile.FieldType)) ∈ lw_all := lw_g (lw_at lw_m3 199 rfl) rfl
theorem q804 : (Jvm.Cond.methodLink "java/util/AbstractCollection" (1 : Nat) ({ cls := "java/lang/Object", name := "<init>", desc := "()V" } : Jvm.MethodName)) ∈ lw_all := lw_g (lw_at lw_m3 200 rfl) rfl
theorem q1538 : (Jvm.Cond.declares ({ cls := "java/util/AbstractCollection", name := "isEmpty", desc := "()Z" } : Jvm.MethodName)) ∈ lw_tbl := lw_at lw_m6 214 rfl
theorem q1540 : (Jvm.Cond.instanceMethod ({ cls := "java/util/AbstractCollection", name := "isEmpty", desc := "()Z" } : Jvm.MethodName)) ∈ lw_all := lw_g (lw_at lw_m6 216 rfl) rfl
theorem q1541 : (Jvm.Cond.code ({ cls := "java/util/AbstractCollection", name := "isEmpty", desc := "()Z" } : Jvm.MethodName) prog_51_method_4_code (1 : Nat) (Option.some Jvm.ClassFile.FieldType.boolean)) ∈ lw_all := lw_g (lw_at lw_m6 217 rfl) rfl
theorem q1542 : (Jvm.Cond.methodLink "java/util/AbstractCollection" (7 : Nat) ({ cls := "java/util/AbstractCollection", name := "size", desc := "()I" } : Jvm.MethodName)) ∈ lw_all := lw_g (lw_at lw_m6 218 rfl) rfl
theorem q1543 : (Jvm.Cond.declares ({ cls := "java/util/AbstractCollection", name := "size", desc := "()I" } : Jvm.MethodName)) ∈ lw_tbl := lw_at lw_m6 219 rfl
theorem q1544 : (Jvm.Cond.sameMethod "java/util/AbstractCollection" "java/util/AbstractCollection" "size" "()I") ∈ lw_all := lw_g (lw_at lw_m6 220 rfl) rfl
/-! java/util/ArrayDeque -/
set_option maxRecDepth 100000
def RJ15 : String := "java/util/ArrayDeque"
def TJ15 : u_T := fun k => match k with
  | 0 => ("java/util/ArrayDeque", "elements", "[Ljava/lang/Object;", false)
  | 1 => ("java/util/ArrayDeque", "head", "I", false)
  | _ => ("java/util/ArrayDeque", "tail", "I", false)
def tyJ15 : Nat → FieldType := fun k => match k with
  | 0 => .array (.object "java/lang/Object")
  | 1 => .int
  | _ => .int
abbrev wsJ150 : List Cond := u_ws RJ15 TJ15 3
theorem nmJ15 : ∀ a, a < 3 → ∀ b, b < 3 → a ≠ b → (TJ15 a).2.1 ≠ (TJ15 b).2.1 := by decide +kernel
theorem tyJ15_ok : ∀ k, k < 3 → parseFieldDescriptor (TJ15 k).2.2.1 = some (tyJ15 k) := by decide +kernel
abbrev cJ15_init : ByteArray := prog_56_method_3_code
def yJ15_init : MethodName := ⟨RJ15, "<init>", "()V"⟩
def dkwJ15_init_0 : List UInt8 := [42, 183, 0, 42, 42, 16, 17, 189, 0, 47, 181, 0, 3, 177]
abbrev dktJ15_init_0 : List UInt8 := dkwJ15_init_0 ++ []
theorem dksJ15_init_0 : cJ15_init.data.toList.drop 0 = dktJ15_init_0 := by decide +kernel
theorem dJ15_init_0 : decode cJ15_init 0 = .ok (.aload_n 0, 1) := dk_42 (dk_at dksJ15_init_0 0 rfl rfl)
theorem dJ15_init_1 : decode cJ15_init 1 = .ok (.invokespecial 42, 3) := dk_183 0 42 (dk_at dksJ15_init_0 1 rfl rfl)
theorem dJ15_init_4 : decode cJ15_init 4 = .ok (.aload_n 0, 1) := dk_42 (dk_at dksJ15_init_0 4 rfl rfl)
theorem dJ15_init_5 : decode cJ15_init 5 = .ok (.bipush 17, 2) := dk_16 17 (dk_at dksJ15_init_0 5 rfl rfl)
theorem dJ15_init_7 : decode cJ15_init 7 = .ok (.anewarray 47, 3) := dk_189 0 47 (dk_at dksJ15_init_0 7 rfl rfl)
theorem dJ15_init_10 : decode cJ15_init 10 = .ok (.putfield 3, 3) := dk_181 0 3 (dk_at dksJ15_init_0 10 rfl rfl)
theorem dJ15_init_13 : decode cJ15_init 13 = .ok (.return_, 1) := dk_177 (dk_at dksJ15_init_0 13 rfl rfl)
abbrev cJ15_size : ByteArray := prog_56_method_37_code
def yJ15_size : MethodName := ⟨RJ15, "size", "()I"⟩
def dkwJ15_size_0 : List UInt8 := [42, 180, 0, 20, 42, 180, 0, 24, 42, 180, 0, 3, 190, 184, 0, 127, 172]
abbrev dktJ15_size_0 : List UInt8 := dkwJ15_size_0 ++ []
theorem dksJ15_size_0 : cJ15_size.data.toList.drop 0 = dktJ15_size_0 := by decide +kernel
theorem dJ15_size_0 : decode cJ15_size 0 = .ok (.aload_n 0, 1) := dk_42 (dk_at dksJ15_size_0 0 rfl rfl)
theorem dJ15_size_1 : decode cJ15_size 1 = .ok (.getfield 20, 3) := dk_180 0 20 (dk_at dksJ15_size_0 1 rfl rfl)
theorem dJ15_size_4 : decode cJ15_size 4 = .ok (.aload_n 0, 1) := dk_42 (dk_at dksJ15_size_0 4 rfl rfl)
theorem dJ15_size_5 : decode cJ15_size 5 = .ok (.getfield 24, 3) := dk_180 0 24 (dk_at dksJ15_size_0 5 rfl rfl)
theorem dJ15_size_8 : decode cJ15_size 8 = .ok (.aload_n 0, 1) := dk_42 (dk_at dksJ15_size_0 8 rfl rfl)
theorem dJ15_size_9 : decode cJ15_size 9 = .ok (.getfield 3, 3) := dk_180 0 3 (dk_at dksJ15_size_0 9 rfl rfl)
theorem dJ15_size_12 : decode cJ15_size 12 = .ok (.arraylength, 1) := dk_190 (dk_at dksJ15_size_0 12 rfl rfl)
theorem dJ15_size_13 : decode cJ15_size 13 = .ok (.invokestatic 127, 3) := dk_184 0 127 (dk_at dksJ15_size_0 13 rfl rfl)
theorem dJ15_size_16 : decode cJ15_size 16 = .ok (.ireturn, 1) := dk_172 (dk_at dksJ15_size_0 16 rfl rfl)
abbrev cJ15_sub : ByteArray := prog_56_method_9_code
def yJ15_sub : MethodName := ⟨RJ15, "sub", "(III)I"⟩
def dkwJ15_sub_0 : List UInt8 := [26, 27, 100, 89, 59, 156, 0, 7, 26, 28, 96, 59, 26, 172]
abbrev dktJ15_sub_0 : List UInt8 := dkwJ15_sub_0 ++ []
theorem dksJ15_sub_0 : cJ15_sub.data.toList.drop 0 = dktJ15_sub_0 := by decide +kernel
theorem dJ15_sub_0 : decode cJ15_sub 0 = .ok (.iload_n 0, 1) := dk_26 (dk_at dksJ15_sub_0 0 rfl rfl)
theorem dJ15_sub_1 : decode cJ15_sub 1 = .ok (.iload_n 1, 1) := dk_27 (dk_at dksJ15_sub_0 1 rfl rfl)
theorem dJ15_sub_2 : decode cJ15_sub 2 = .ok (.isub, 1) := dk_100 (dk_at dksJ15_sub_0 2 rfl rfl)
theorem dJ15_sub_3 : decode cJ15_sub 3 = .ok (.dup, 1) := dk_89 (dk_at dksJ15_sub_0 3 rfl rfl)
theorem dJ15_sub_4 : decode cJ15_sub 4 = .ok (.istore_n 0, 1) := dk_59 (dk_at dksJ15_sub_0 4 rfl rfl)
theorem dJ15_sub_5 : decode cJ15_sub 5 = .ok (.ifCond .ge 7, 3) := dk_156 0 7 (dk_at dksJ15_sub_0 5 rfl rfl)
theorem dJ15_sub_8 : decode cJ15_sub 8 = .ok (.iload_n 0, 1) := dk_26 (dk_at dksJ15_sub_0 8 rfl rfl)
theorem dJ15_sub_9 : decode cJ15_sub 9 = .ok (.iload_n 2, 1) := dk_28 (dk_at dksJ15_sub_0 9 rfl rfl)
theorem dJ15_sub_10 : decode cJ15_sub 10 = .ok (.iadd, 1) := dk_96 (dk_at dksJ15_sub_0 10 rfl rfl)
theorem dJ15_sub_11 : decode cJ15_sub 11 = .ok (.istore_n 0, 1) := dk_59 (dk_at dksJ15_sub_0 11 rfl rfl)
theorem dJ15_sub_12 : decode cJ15_sub 12 = .ok (.iload_n 0, 1) := dk_26 (dk_at dksJ15_sub_0 12 rfl rfl)
theorem dJ15_sub_13 : decode cJ15_sub 13 = .ok (.ireturn, 1) := dk_172 (dk_at dksJ15_sub_0 13 rfl rfl)
abbrev cJ15_removeFirst : ByteArray := prog_56_method_18_code
def yJ15_removeFirst : MethodName := ⟨RJ15, "removeFirst", "()Ljava/lang/Object;"⟩
def dkwJ15_removeFirst_0 : List UInt8 := [42, 182, 0, 93, 76, 43, 199, 0, 11, 187, 0, 97, 89, 183, 0, 99, 191, 43, 176]
abbrev dktJ15_removeFirst_0 : List UInt8 := dkwJ15_removeFirst_0 ++ []
theorem dksJ15_removeFirst_0 : cJ15_removeFirst.data.toList.drop 0 = dktJ15_removeFirst_0 := by decide +kernel
theorem dJ15_removeFirst_0 : decode cJ15_removeFirst 0 = .ok (.aload_n 0, 1) := dk_42 (dk_at dksJ15_removeFirst_0 0 rfl rfl)
theorem dJ15_removeFirst_1 : decode cJ15_removeFirst 1 = .ok (.invokevirtual 93, 3) := dk_182 0 93 (dk_at dksJ15_removeFirst_0 1 rfl rfl)
theorem dJ15_removeFirst_4 : decode cJ15_removeFirst 4 = .ok (.astore_n 1, 1) := dk_76 (dk_at dksJ15_removeFirst_0 4 rfl rfl)
theorem dJ15_removeFirst_5 : decode cJ15_removeFirst 5 = .ok (.aload_n 1, 1) := dk_43 (dk_at dksJ15_removeFirst_0 5 rfl rfl)
theorem dJ15_removeFirst_6 : decode cJ15_removeFirst 6 = .ok (.ifnonnull 11, 3) := dk_199 0 11 (dk_at dksJ15_removeFirst_0 6 rfl rfl)
theorem dJ15_removeFirst_9 : decode cJ15_removeFirst 9 = .ok (.new 97, 3) := dk_187 0 97 (dk_at dksJ15_removeFirst_0 9 rfl rfl)
theorem dJ15_removeFirst_12 : decode cJ15_removeFirst 12 = .ok (.dup, 1) := dk_89 (dk_at dksJ15_removeFirst_0 12 rfl rfl)
theorem dJ15_removeFirst_13 : decode cJ15_removeFirst 13 = .ok (.invokespecial 99, 3) := dk_183 0 99 (dk_at dksJ15_removeFirst_0 13 rfl rfl)
theorem dJ15_removeFirst_16 : decode cJ15_removeFirst 16 = .ok (.athrow, 1) := dk_191 (dk_at dksJ15_removeFirst_0 16 rfl rfl)
theorem dJ15_removeFirst_17 : decode cJ15_removeFirst 17 = .ok (.aload_n 1, 1) := dk_43 (dk_at dksJ15_removeFirst_0 17 rfl rfl)
theorem dJ15_removeFirst_18 : decode cJ15_removeFirst 18 = .ok (.areturn, 1) := dk_176 (dk_at dksJ15_removeFirst_0 18 rfl rfl)
abbrev cJ15_pollFirst : ByteArray := prog_56_method_20_code
def yJ15_pollFirst : MethodName := ⟨RJ15, "pollFirst", "()Ljava/lang/Object;"⟩
def dkwJ15_pollFirst_1 : List UInt8 := [42, 28, 43, 190, 184, 0, 74, 181, 0, 24, 45, 176]
abbrev dktJ15_pollFirst_1 : List UInt8 := dkwJ15_pollFirst_1 ++ []
def dkwJ15_pollFirst_0 : List UInt8 := [42, 180, 0, 3, 89, 76, 42, 180, 0, 24, 89, 61, 184, 0, 103, 78, 45, 198, 0, 17, 43, 28, 1, 83]
abbrev dktJ15_pollFirst_0 : List UInt8 := dkwJ15_pollFirst_0 ++ dktJ15_pollFirst_1
theorem dksJ15_pollFirst_0 : cJ15_pollFirst.data.toList.drop 0 = dktJ15_pollFirst_0 := by decide +kernel
theorem dksJ15_pollFirst_1 : cJ15_pollFirst.data.toList.drop 24 = dktJ15_pollFirst_1 := dk_seg dksJ15_pollFirst_0 24 rfl rfl
theorem dJ15_pollFirst_0 : decode cJ15_pollFirst 0 = .ok (.aload_n 0, 1) := dk_42 (dk_at dksJ15_pollFirst_0 0 rfl rfl)
theorem dJ15_pollFirst_1 : decode cJ15_pollFirst 1 = .ok (.getfield 3, 3) := dk_180 0 3 (dk_at dksJ15_pollFirst_0 1 rfl rfl)
theorem dJ15_pollFirst_4 : decode cJ15_pollFirst 4 = .ok (.dup, 1) := dk_89 (dk_at dksJ15_pollFirst_0 4 rfl rfl)
theorem dJ15_pollFirst_5 : decode cJ15_pollFirst 5 = .ok (.astore_n 1, 1) := dk_76 (dk_at dksJ15_pollFirst_0 5 rfl rfl)
theorem dJ15_pollFirst_6 : decode cJ15_pollFirst 6 = .ok (.aload_n 0, 1) := dk_42 (dk_at dksJ15_pollFirst_0 6 rfl rfl)
theorem dJ15_pollFirst_7 : decode cJ15_pollFirst 7 = .ok (.getfield 24, 3) := dk_180 0 24 (dk_at dksJ15_pollFirst_0 7 rfl rfl)
theorem dJ15_pollFirst_10 : decode cJ15_pollFirst 10 = .ok (.dup, 1) := dk_89 (dk_at dksJ15_pollFirst_0 10 rfl rfl)
theorem dJ15_pollFirst_11 : decode cJ15_pollFirst 11 = .ok (.istore_n 2, 1) := dk_61 (dk_at dksJ15_pollFirst_0 11 rfl rfl)
theorem dJ15_pollFirst_12 : decode cJ15_pollFirst 12 = .ok (.invokestatic 103, 3) := dk_184 0 103 (dk_at dksJ15_pollFirst_0 12 rfl rfl)
theorem dJ15_pollFirst_15 : decode cJ15_pollFirst 15 = .ok (.astore_n 3, 1) := dk_78 (dk_at dksJ15_pollFirst_0 15 rfl rfl)
theorem dJ15_pollFirst_16 : decode cJ15_pollFirst 16 = .ok (.aload_n 3, 1) := dk_45 (dk_at dksJ15_pollFirst_0 16 rfl rfl)
theorem dJ15_pollFirst_17 : decode cJ15_pollFirst 17 = .ok (.ifnull 17, 3) := dk_198 0 17 (dk_at dksJ15_pollFirst_0 17 rfl rfl)
theorem dJ15_pollFirst_20 : decode cJ15_pollFirst 20 = .ok (.aload_n 1, 1) := dk_43 (dk_at dksJ15_pollFirst_0 20 rfl rfl)
theorem dJ15_pollFirst_21 : decode cJ15_pollFirst 21 = .ok (.iload_n 2, 1) := dk_28 (dk_at dksJ15_pollFirst_0 21 rfl rfl)
theorem dJ15_pollFirst_22 : decode cJ15_pollFirst 22 = .ok (.aconst_null, 1) := dk_1 (dk_at dksJ15_pollFirst_0 22 rfl rfl)
theorem dJ15_pollFirst_23 : decode cJ15_pollFirst 23 = .ok (.aastore, 1) := dk_83 (dk_at dksJ15_pollFirst_0 23 rfl rfl)
theorem dJ15_pollFirst_24 : decode cJ15_pollFirst 24 = .ok (.aload_n 0, 1) := dk_42 (dk_at dksJ15_pollFirst_1 0 rfl rfl)
theorem dJ15_pollFirst_25 : decode cJ15_pollFirst 25 = .ok (.iload_n 2, 1) := dk_28 (dk_at dksJ15_pollFirst_1 1 rfl rfl)
theorem dJ15_pollFirst_26 : decode cJ15_pollFirst 26 = .ok (.aload_n 1, 1) := dk_43 (dk_at dksJ15_pollFirst_1 2 rfl rfl)
theorem dJ15_pollFirst_27 : decode cJ15_pollFirst 27 = .ok (.arraylength, 1) := dk_190 (dk_at dksJ15_pollFirst_1 3 rfl rfl)
theorem dJ15_pollFirst_28 : decode cJ15_pollFirst 28 = .ok (.invokestatic 74, 3) := dk_184 0 74 (dk_at dksJ15_pollFirst_1 4 rfl rfl)
theorem dJ15_pollFirst_31 : decode cJ15_pollFirst 31 = .ok (.putfield 24, 3) := dk_181 0 24 (dk_at dksJ15_pollFirst_1 7 rfl rfl)
theorem dJ15_pollFirst_34 : decode cJ15_pollFirst 34 = .ok (.aload_n 3, 1) := dk_45 (dk_at dksJ15_pollFirst_1 10 rfl rfl)
theorem dJ15_pollFirst_35 : decode cJ15_pollFirst 35 = .ok (.areturn, 1) := dk_176 (dk_at dksJ15_pollFirst_1 11 rfl rfl)
abbrev cJ15_elementAt : ByteArray := prog_56_method_10_code
def yJ15_elementAt : MethodName := ⟨RJ15, "elementAt", "([Ljava/lang/Object;I)Ljava/lang/Object;"⟩
def dkwJ15_elementAt_0 : List UInt8 := [42, 27, 50, 176]
abbrev dktJ15_elementAt_0 : List UInt8 := dkwJ15_elementAt_0 ++ []
theorem dksJ15_elementAt_0 : cJ15_elementAt.data.toList.drop 0 = dktJ15_elementAt_0 := by decide +kernel
theorem dJ15_elementAt_0 : decode cJ15_elementAt 0 = .ok (.aload_n 0, 1) := dk_42 (dk_at dksJ15_elementAt_0 0 rfl rfl)
theorem dJ15_elementAt_1 : decode cJ15_elementAt 1 = .ok (.iload_n 1, 1) := dk_27 (dk_at dksJ15_elementAt_0 1 rfl rfl)
theorem dJ15_elementAt_2 : decode cJ15_elementAt 2 = .ok (.aaload, 1) := dk_50 (dk_at dksJ15_elementAt_0 2 rfl rfl)
theorem dJ15_elementAt_3 : decode cJ15_elementAt 3 = .ok (.areturn, 1) := dk_176 (dk_at dksJ15_elementAt_0 3 rfl rfl)
abbrev cJ15_inc : ByteArray := prog_56_method_6_code
def yJ15_inc : MethodName := ⟨RJ15, "inc", "(II)I"⟩
def dkwJ15_inc_0 : List UInt8 := [132, 0, 1, 26, 27, 161, 0, 5, 3, 59, 26, 172]
abbrev dktJ15_inc_0 : List UInt8 := dkwJ15_inc_0 ++ []
theorem dksJ15_inc_0 : cJ15_inc.data.toList.drop 0 = dktJ15_inc_0 := by decide +kernel
theorem dJ15_inc_0 : decode cJ15_inc 0 = .ok (.iinc 0 1, 3) := dk_132 0 1 (dk_at dksJ15_inc_0 0 rfl rfl)
theorem dJ15_inc_3 : decode cJ15_inc 3 = .ok (.iload_n 0, 1) := dk_26 (dk_at dksJ15_inc_0 3 rfl rfl)
theorem dJ15_inc_4 : decode cJ15_inc 4 = .ok (.iload_n 1, 1) := dk_27 (dk_at dksJ15_inc_0 4 rfl rfl)
theorem dJ15_inc_5 : decode cJ15_inc 5 = .ok (.if_icmp .lt 5, 3) := dk_161 0 5 (dk_at dksJ15_inc_0 5 rfl rfl)
theorem dJ15_inc_8 : decode cJ15_inc 8 = .ok (.iconst 0, 1) := dk_3 (dk_at dksJ15_inc_0 8 rfl rfl)
theorem dJ15_inc_9 : decode cJ15_inc 9 = .ok (.istore_n 0, 1) := dk_59 (dk_at dksJ15_inc_0 9 rfl rfl)
theorem dJ15_inc_10 : decode cJ15_inc 10 = .ok (.iload_n 0, 1) := dk_26 (dk_at dksJ15_inc_0 10 rfl rfl)
theorem dJ15_inc_11 : decode cJ15_inc 11 = .ok (.ireturn, 1) := dk_172 (dk_at dksJ15_inc_0 11 rfl rfl)
abbrev cJ15_addLast : ByteArray := prog_56_method_13_code
def yJ15_addLast : MethodName := ⟨RJ15, "addLast", "(Ljava/lang/Object;)V"⟩
def dkwJ15_addLast_2 : List UInt8 := [182, 0, 71, 177]
abbrev dktJ15_addLast_2 : List UInt8 := dkwJ15_addLast_2 ++ []
def dkwJ15_addLast_1 : List UInt8 := [42, 180, 0, 24, 42, 42, 180, 0, 20, 44, 190, 184, 0, 74, 90, 181, 0, 20, 160, 0, 8, 42, 4]
abbrev dktJ15_addLast_1 : List UInt8 := dkwJ15_addLast_1 ++ dktJ15_addLast_2
def dkwJ15_addLast_0 : List UInt8 := [43, 199, 0, 11, 187, 0, 65, 89, 183, 0, 67, 191, 42, 180, 0, 3, 77, 44, 42, 180, 0, 20, 43, 83]
abbrev dktJ15_addLast_0 : List UInt8 := dkwJ15_addLast_0 ++ dktJ15_addLast_1
theorem dksJ15_addLast_0 : cJ15_addLast.data.toList.drop 0 = dktJ15_addLast_0 := by decide +kernel
theorem dksJ15_addLast_1 : cJ15_addLast.data.toList.drop 24 = dktJ15_addLast_1 := dk_seg dksJ15_addLast_0 24 rfl rfl
theorem dksJ15_addLast_2 : cJ15_addLast.data.toList.drop 47 = dktJ15_addLast_2 := dk_seg dksJ15_addLast_1 23 rfl rfl
theorem dJ15_addLast_0 : decode cJ15_addLast 0 = .ok (.aload_n 1, 1) := dk_43 (dk_at dksJ15_addLast_0 0 rfl rfl)
theorem dJ15_addLast_1 : decode cJ15_addLast 1 = .ok (.ifnonnull 11, 3) := dk_199 0 11 (dk_at dksJ15_addLast_0 1 rfl rfl)
theorem dJ15_addLast_4 : decode cJ15_addLast 4 = .ok (.new 65, 3) := dk_187 0 65 (dk_at dksJ15_addLast_0 4 rfl rfl)
theorem dJ15_addLast_7 : decode cJ15_addLast 7 = .ok (.dup, 1) := dk_89 (dk_at dksJ15_addLast_0 7 rfl rfl)
theorem dJ15_addLast_8 : decode cJ15_addLast 8 = .ok (.invokespecial 67, 3) := dk_183 0 67 (dk_at dksJ15_addLast_0 8 rfl rfl)
theorem dJ15_addLast_11 : decode cJ15_addLast 11 = .ok (.athrow, 1) := dk_191 (dk_at dksJ15_addLast_0 11 rfl rfl)
theorem dJ15_addLast_12 : decode cJ15_addLast 12 = .ok (.aload_n 0, 1) := dk_42 (dk_at dksJ15_addLast_0 12 rfl rfl)
theorem dJ15_addLast_13 : decode cJ15_addLast 13 = .ok (.getfield 3, 3) := dk_180 0 3 (dk_at dksJ15_addLast_0 13 rfl rfl)
theorem dJ15_addLast_16 : decode cJ15_addLast 16 = .ok (.astore_n 2, 1) := dk_77 (dk_at dksJ15_addLast_0 16 rfl rfl)
theorem dJ15_addLast_17 : decode cJ15_addLast 17 = .ok (.aload_n 2, 1) := dk_44 (dk_at dksJ15_addLast_0 17 rfl rfl)
theorem dJ15_addLast_18 : decode cJ15_addLast 18 = .ok (.aload_n 0, 1) := dk_42 (dk_at dksJ15_addLast_0 18 rfl rfl)
theorem dJ15_addLast_19 : decode cJ15_addLast 19 = .ok (.getfield 20, 3) := dk_180 0 20 (dk_at dksJ15_addLast_0 19 rfl rfl)
theorem dJ15_addLast_22 : decode cJ15_addLast 22 = .ok (.aload_n 1, 1) := dk_43 (dk_at dksJ15_addLast_0 22 rfl rfl)
theorem dJ15_addLast_23 : decode cJ15_addLast 23 = .ok (.aastore, 1) := dk_83 (dk_at dksJ15_addLast_0 23 rfl rfl)
theorem dJ15_addLast_24 : decode cJ15_addLast 24 = .ok (.aload_n 0, 1) := dk_42 (dk_at dksJ15_addLast_1 0 rfl rfl)
theorem dJ15_addLast_25 : decode cJ15_addLast 25 = .ok (.getfield 24, 3) := dk_180 0 24 (dk_at dksJ15_addLast_1 1 rfl rfl)
theorem dJ15_addLast_28 : decode cJ15_addLast 28 = .ok (.aload_n 0, 1) := dk_42 (dk_at dksJ15_addLast_1 4 rfl rfl)
theorem dJ15_addLast_29 : decode cJ15_addLast 29 = .ok (.aload_n 0, 1) := dk_42 (dk_at dksJ15_addLast_1 5 rfl rfl)
theorem dJ15_addLast_30 : decode cJ15_addLast 30 = .ok (.getfield 20, 3) := dk_180 0 20 (dk_at dksJ15_addLast_1 6 rfl rfl)
theorem dJ15_addLast_33 : decode cJ15_addLast 33 = .ok (.aload_n 2, 1) := dk_44 (dk_at dksJ15_addLast_1 9 rfl rfl)
theorem dJ15_addLast_34 : decode cJ15_addLast 34 = .ok (.arraylength, 1) := dk_190 (dk_at dksJ15_addLast_1 10 rfl rfl)
theorem dJ15_addLast_35 : decode cJ15_addLast 35 = .ok (.invokestatic 74, 3) := dk_184 0 74 (dk_at dksJ15_addLast_1 11 rfl rfl)
theorem dJ15_addLast_38 : decode cJ15_addLast 38 = .ok (.dup_x1, 1) := dk_90 (dk_at dksJ15_addLast_1 14 rfl rfl)
theorem dJ15_addLast_39 : decode cJ15_addLast 39 = .ok (.putfield 20, 3) := dk_181 0 20 (dk_at dksJ15_addLast_1 15 rfl rfl)
theorem dJ15_addLast_42 : decode cJ15_addLast 42 = .ok (.if_icmp .ne 8, 3) := dk_160 0 8 (dk_at dksJ15_addLast_1 18 rfl rfl)
theorem dJ15_addLast_45 : decode cJ15_addLast 45 = .ok (.aload_n 0, 1) := dk_42 (dk_at dksJ15_addLast_1 21 rfl rfl)
theorem dJ15_addLast_46 : decode cJ15_addLast 46 = .ok (.iconst 1, 1) := dk_4 (dk_at dksJ15_addLast_1 22 rfl rfl)
theorem dJ15_addLast_47 : decode cJ15_addLast 47 = .ok (.invokevirtual 71, 3) := dk_182 0 71 (dk_at dksJ15_addLast_2 0 rfl rfl)
theorem dJ15_addLast_50 : decode cJ15_addLast 50 = .ok (.return_, 1) := dk_177 (dk_at dksJ15_addLast_2 3 rfl rfl)
abbrev cJ15_grow : ByteArray := prog_56_method_1_code
def yJ15_grow : MethodName := ⟨RJ15, "grow", "(I)V"⟩
def dkwJ15_grow_7 : List UInt8 := [177]
abbrev dktJ15_grow_7 : List UInt8 := dkwJ15_grow_7 ++ []
def dkwJ15_grow_6 : List UInt8 := [181, 0, 24, 54, 8, 21, 7, 21, 8, 162, 0, 15, 25, 5, 21, 7, 1, 83, 132, 7, 1, 167, 255, 240]
abbrev dktJ15_grow_6 : List UInt8 := dkwJ15_grow_6 ++ dktJ15_grow_7
def dkwJ15_grow_5 : List UInt8 := [42, 180, 0, 24, 100, 184, 0, 27, 42, 180, 0, 24, 54, 7, 42, 89, 180, 0, 24, 21, 6, 96, 90]
abbrev dktJ15_grow_5 : List UInt8 := dkwJ15_grow_5 ++ dktJ15_grow_6
def dkwJ15_grow_4 : List UInt8 := [198, 0, 71, 29, 28, 100, 54, 6, 25, 5, 42, 180, 0, 24, 25, 5, 42, 180, 0, 24, 21, 6, 96, 28]
abbrev dktJ15_grow_4 : List UInt8 := dkwJ15_grow_4 ++ dktJ15_grow_5
def dkwJ15_grow_3 : List UInt8 := [180, 0, 24, 161, 0, 24, 42, 180, 0, 20, 42, 180, 0, 24, 160, 0, 81, 25, 5, 42, 180, 0, 24, 50]
abbrev dktJ15_grow_3 : List UInt8 := dkwJ15_grow_3 ++ dktJ15_grow_4
def dkwJ15_grow_2 : List UInt8 := [182, 0, 10, 62, 42, 42, 180, 0, 3, 29, 184, 0, 14, 90, 181, 0, 3, 58, 5, 42, 180, 0, 20, 42]
abbrev dktJ15_grow_2 : List UInt8 := dkwJ15_grow_2 ++ dktJ15_grow_3
def dkwJ15_grow_1 : List UInt8 := [21, 4, 27, 161, 0, 15, 28, 21, 4, 96, 89, 62, 18, 9, 100, 158, 0, 11, 42, 27, 21, 4]
abbrev dktJ15_grow_1 : List UInt8 := dkwJ15_grow_1 ++ dktJ15_grow_2
def dkwJ15_grow_0 : List UInt8 := [42, 180, 0, 3, 190, 61, 28, 16, 64, 162, 0, 9, 28, 5, 96, 167, 0, 6, 28, 4, 122, 54, 4]
abbrev dktJ15_grow_0 : List UInt8 := dkwJ15_grow_0 ++ dktJ15_grow_1
theorem dksJ15_grow_0 : cJ15_grow.data.toList.drop 0 = dktJ15_grow_0 := by decide +kernel
theorem dksJ15_grow_1 : cJ15_grow.data.toList.drop 23 = dktJ15_grow_1 := dk_seg dksJ15_grow_0 23 rfl rfl
theorem dksJ15_grow_2 : cJ15_grow.data.toList.drop 45 = dktJ15_grow_2 := dk_seg dksJ15_grow_1 22 rfl rfl
theorem dksJ15_grow_3 : cJ15_grow.data.toList.drop 69 = dktJ15_grow_3 := dk_seg dksJ15_grow_2 24 rfl rfl
theorem dksJ15_grow_4 : cJ15_grow.data.toList.drop 93 = dktJ15_grow_4 := dk_seg dksJ15_grow_3 24 rfl rfl
theorem dksJ15_grow_5 : cJ15_grow.data.toList.drop 117 = dktJ15_grow_5 := dk_seg dksJ15_grow_4 24 rfl rfl
theorem dksJ15_grow_6 : cJ15_grow.data.toList.drop 140 = dktJ15_grow_6 := dk_seg dksJ15_grow_5 23 rfl rfl
theorem dksJ15_grow_7 : cJ15_grow.data.toList.drop 164 = dktJ15_grow_7 := dk_seg dksJ15_grow_6 24 rfl rfl
theorem dJ15_grow_0 : decode cJ15_grow 0 = .ok (.aload_n 0, 1) := dk_42 (dk_at dksJ15_grow_0 0 rfl rfl)
theorem dJ15_grow_1 : decode cJ15_grow 1 = .ok (.getfield 3, 3) := dk_180 0 3 (dk_at dksJ15_grow_0 1 rfl rfl)
theorem dJ15_grow_4 : decode cJ15_grow 4 = .ok (.arraylength, 1) := dk_190 (dk_at dksJ15_grow_0 4 rfl rfl)
theorem dJ15_grow_5 : decode cJ15_grow 5 = .ok (.istore_n 2, 1) := dk_61 (dk_at dksJ15_grow_0 5 rfl rfl)
theorem dJ15_grow_6 : decode cJ15_grow 6 = .ok (.iload_n 2, 1) := dk_28 (dk_at dksJ15_grow_0 6 rfl rfl)
theorem dJ15_grow_7 : decode cJ15_grow 7 = .ok (.bipush 64, 2) := dk_16 64 (dk_at dksJ15_grow_0 7 rfl rfl)
theorem dJ15_grow_9 : decode cJ15_grow 9 = .ok (.if_icmp .ge 9, 3) := dk_162 0 9 (dk_at dksJ15_grow_0 9 rfl rfl)
theorem dJ15_grow_12 : decode cJ15_grow 12 = .ok (.iload_n 2, 1) := dk_28 (dk_at dksJ15_grow_0 12 rfl rfl)
theorem dJ15_grow_13 : decode cJ15_grow 13 = .ok (.iconst 2, 1) := dk_5 (dk_at dksJ15_grow_0 13 rfl rfl)
theorem dJ15_grow_14 : decode cJ15_grow 14 = .ok (.iadd, 1) := dk_96 (dk_at dksJ15_grow_0 14 rfl rfl)
theorem dJ15_grow_15 : decode cJ15_grow 15 = .ok (.goto 6, 3) := dk_167 0 6 (dk_at dksJ15_grow_0 15 rfl rfl)
theorem dJ15_grow_18 : decode cJ15_grow 18 = .ok (.iload_n 2, 1) := dk_28 (dk_at dksJ15_grow_0 18 rfl rfl)
theorem dJ15_grow_19 : decode cJ15_grow 19 = .ok (.iconst 1, 1) := dk_4 (dk_at dksJ15_grow_0 19 rfl rfl)
theorem dJ15_grow_20 : decode cJ15_grow 20 = .ok (.ishr, 1) := dk_122 (dk_at dksJ15_grow_0 20 rfl rfl)
theorem dJ15_grow_21 : decode cJ15_grow 21 = .ok (.istore 4, 2) := dk_54 4 (dk_at dksJ15_grow_0 21 rfl rfl)
theorem dJ15_grow_23 : decode cJ15_grow 23 = .ok (.iload 4, 2) := dk_21 4 (dk_at dksJ15_grow_1 0 rfl rfl)
theorem dJ15_grow_25 : decode cJ15_grow 25 = .ok (.iload_n 1, 1) := dk_27 (dk_at dksJ15_grow_1 2 rfl rfl)
theorem dJ15_grow_26 : decode cJ15_grow 26 = .ok (.if_icmp .lt 15, 3) := dk_161 0 15 (dk_at dksJ15_grow_1 3 rfl rfl)
theorem dJ15_grow_29 : decode cJ15_grow 29 = .ok (.iload_n 2, 1) := dk_28 (dk_at dksJ15_grow_1 6 rfl rfl)
theorem dJ15_grow_30 : decode cJ15_grow 30 = .ok (.iload 4, 2) := dk_21 4 (dk_at dksJ15_grow_1 7 rfl rfl)
theorem dJ15_grow_32 : decode cJ15_grow 32 = .ok (.iadd, 1) := dk_96 (dk_at dksJ15_grow_1 9 rfl rfl)
theorem dJ15_grow_33 : decode cJ15_grow 33 = .ok (.dup, 1) := dk_89 (dk_at dksJ15_grow_1 10 rfl rfl)
theorem dJ15_grow_34 : decode cJ15_grow 34 = .ok (.istore_n 3, 1) := dk_62 (dk_at dksJ15_grow_1 11 rfl rfl)
theorem dJ15_grow_35 : decode cJ15_grow 35 = .ok (.ldc 9, 2) := dk_18 9 (dk_at dksJ15_grow_1 12 rfl rfl)
theorem dJ15_grow_37 : decode cJ15_grow 37 = .ok (.isub, 1) := dk_100 (dk_at dksJ15_grow_1 14 rfl rfl)
theorem dJ15_grow_38 : decode cJ15_grow 38 = .ok (.ifCond .le 11, 3) := dk_158 0 11 (dk_at dksJ15_grow_1 15 rfl rfl)
theorem dJ15_grow_41 : decode cJ15_grow 41 = .ok (.aload_n 0, 1) := dk_42 (dk_at dksJ15_grow_1 18 rfl rfl)
theorem dJ15_grow_42 : decode cJ15_grow 42 = .ok (.iload_n 1, 1) := dk_27 (dk_at dksJ15_grow_1 19 rfl rfl)
theorem dJ15_grow_43 : decode cJ15_grow 43 = .ok (.iload 4, 2) := dk_21 4 (dk_at dksJ15_grow_1 20 rfl rfl)
theorem dJ15_grow_45 : decode cJ15_grow 45 = .ok (.invokevirtual 10, 3) := dk_182 0 10 (dk_at dksJ15_grow_2 0 rfl rfl)
theorem dJ15_grow_48 : decode cJ15_grow 48 = .ok (.istore_n 3, 1) := dk_62 (dk_at dksJ15_grow_2 3 rfl rfl)
theorem dJ15_grow_49 : decode cJ15_grow 49 = .ok (.aload_n 0, 1) := dk_42 (dk_at dksJ15_grow_2 4 rfl rfl)
theorem dJ15_grow_50 : decode cJ15_grow 50 = .ok (.aload_n 0, 1) := dk_42 (dk_at dksJ15_grow_2 5 rfl rfl)
theorem dJ15_grow_51 : decode cJ15_grow 51 = .ok (.getfield 3, 3) := dk_180 0 3 (dk_at dksJ15_grow_2 6 rfl rfl)
theorem dJ15_grow_54 : decode cJ15_grow 54 = .ok (.iload_n 3, 1) := dk_29 (dk_at dksJ15_grow_2 9 rfl rfl)
theorem dJ15_grow_55 : decode cJ15_grow 55 = .ok (.invokestatic 14, 3) := dk_184 0 14 (dk_at dksJ15_grow_2 10 rfl rfl)
theorem dJ15_grow_58 : decode cJ15_grow 58 = .ok (.dup_x1, 1) := dk_90 (dk_at dksJ15_grow_2 13 rfl rfl)
theorem dJ15_grow_59 : decode cJ15_grow 59 = .ok (.putfield 3, 3) := dk_181 0 3 (dk_at dksJ15_grow_2 14 rfl rfl)
theorem dJ15_grow_62 : decode cJ15_grow 62 = .ok (.astore 5, 2) := dk_58 5 (dk_at dksJ15_grow_2 17 rfl rfl)
theorem dJ15_grow_64 : decode cJ15_grow 64 = .ok (.aload_n 0, 1) := dk_42 (dk_at dksJ15_grow_2 19 rfl rfl)
theorem dJ15_grow_65 : decode cJ15_grow 65 = .ok (.getfield 20, 3) := dk_180 0 20 (dk_at dksJ15_grow_2 20 rfl rfl)
theorem dJ15_grow_68 : decode cJ15_grow 68 = .ok (.aload_n 0, 1) := dk_42 (dk_at dksJ15_grow_2 23 rfl rfl)
theorem dJ15_grow_69 : decode cJ15_grow 69 = .ok (.getfield 24, 3) := dk_180 0 24 (dk_at dksJ15_grow_3 0 rfl rfl)
theorem dJ15_grow_72 : decode cJ15_grow 72 = .ok (.if_icmp .lt 24, 3) := dk_161 0 24 (dk_at dksJ15_grow_3 3 rfl rfl)
theorem dJ15_grow_75 : decode cJ15_grow 75 = .ok (.aload_n 0, 1) := dk_42 (dk_at dksJ15_grow_3 6 rfl rfl)
theorem dJ15_grow_76 : decode cJ15_grow 76 = .ok (.getfield 20, 3) := dk_180 0 20 (dk_at dksJ15_grow_3 7 rfl rfl)
theorem dJ15_grow_79 : decode cJ15_grow 79 = .ok (.aload_n 0, 1) := dk_42 (dk_at dksJ15_grow_3 10 rfl rfl)
theorem dJ15_grow_80 : decode cJ15_grow 80 = .ok (.getfield 24, 3) := dk_180 0 24 (dk_at dksJ15_grow_3 11 rfl rfl)
theorem dJ15_grow_83 : decode cJ15_grow 83 = .ok (.if_icmp .ne 81, 3) := dk_160 0 81 (dk_at dksJ15_grow_3 14 rfl rfl)
theorem dJ15_grow_86 : decode cJ15_grow 86 = .ok (.aload 5, 2) := dk_25 5 (dk_at dksJ15_grow_3 17 rfl rfl)
theorem dJ15_grow_88 : decode cJ15_grow 88 = .ok (.aload_n 0, 1) := dk_42 (dk_at dksJ15_grow_3 19 rfl rfl)
theorem dJ15_grow_89 : decode cJ15_grow 89 = .ok (.getfield 24, 3) := dk_180 0 24 (dk_at dksJ15_grow_3 20 rfl rfl)
theorem dJ15_grow_92 : decode cJ15_grow 92 = .ok (.aaload, 1) := dk_50 (dk_at dksJ15_grow_3 23 rfl rfl)
theorem dJ15_grow_93 : decode cJ15_grow 93 = .ok (.ifnull 71, 3) := dk_198 0 71 (dk_at dksJ15_grow_4 0 rfl rfl)
theorem dJ15_grow_96 : decode cJ15_grow 96 = .ok (.iload_n 3, 1) := dk_29 (dk_at dksJ15_grow_4 3 rfl rfl)
theorem dJ15_grow_97 : decode cJ15_grow 97 = .ok (.iload_n 2, 1) := dk_28 (dk_at dksJ15_grow_4 4 rfl rfl)
theorem dJ15_grow_98 : decode cJ15_grow 98 = .ok (.isub, 1) := dk_100 (dk_at dksJ15_grow_4 5 rfl rfl)
theorem dJ15_grow_99 : decode cJ15_grow 99 = .ok (.istore 6, 2) := dk_54 6 (dk_at dksJ15_grow_4 6 rfl rfl)
theorem dJ15_grow_101 : decode cJ15_grow 101 = .ok (.aload 5, 2) := dk_25 5 (dk_at dksJ15_grow_4 8 rfl rfl)
theorem dJ15_grow_103 : decode cJ15_grow 103 = .ok (.aload_n 0, 1) := dk_42 (dk_at dksJ15_grow_4 10 rfl rfl)
theorem dJ15_grow_104 : decode cJ15_grow 104 = .ok (.getfield 24, 3) := dk_180 0 24 (dk_at dksJ15_grow_4 11 rfl rfl)
theorem dJ15_grow_107 : decode cJ15_grow 107 = .ok (.aload 5, 2) := dk_25 5 (dk_at dksJ15_grow_4 14 rfl rfl)
theorem dJ15_grow_109 : decode cJ15_grow 109 = .ok (.aload_n 0, 1) := dk_42 (dk_at dksJ15_grow_4 16 rfl rfl)
theorem dJ15_grow_110 : decode cJ15_grow 110 = .ok (.getfield 24, 3) := dk_180 0 24 (dk_at dksJ15_grow_4 17 rfl rfl)
theorem dJ15_grow_113 : decode cJ15_grow 113 = .ok (.iload 6, 2) := dk_21 6 (dk_at dksJ15_grow_4 20 rfl rfl)
theorem dJ15_grow_115 : decode cJ15_grow 115 = .ok (.iadd, 1) := dk_96 (dk_at dksJ15_grow_4 22 rfl rfl)
theorem dJ15_grow_116 : decode cJ15_grow 116 = .ok (.iload_n 2, 1) := dk_28 (dk_at dksJ15_grow_4 23 rfl rfl)
theorem dJ15_grow_117 : decode cJ15_grow 117 = .ok (.aload_n 0, 1) := dk_42 (dk_at dksJ15_grow_5 0 rfl rfl)
theorem dJ15_grow_118 : decode cJ15_grow 118 = .ok (.getfield 24, 3) := dk_180 0 24 (dk_at dksJ15_grow_5 1 rfl rfl)
theorem dJ15_grow_121 : decode cJ15_grow 121 = .ok (.isub, 1) := dk_100 (dk_at dksJ15_grow_5 4 rfl rfl)
theorem dJ15_grow_122 : decode cJ15_grow 122 = .ok (.invokestatic 27, 3) := dk_184 0 27 (dk_at dksJ15_grow_5 5 rfl rfl)
theorem dJ15_grow_125 : decode cJ15_grow 125 = .ok (.aload_n 0, 1) := dk_42 (dk_at dksJ15_grow_5 8 rfl rfl)
theorem dJ15_grow_126 : decode cJ15_grow 126 = .ok (.getfield 24, 3) := dk_180 0 24 (dk_at dksJ15_grow_5 9 rfl rfl)
theorem dJ15_grow_129 : decode cJ15_grow 129 = .ok (.istore 7, 2) := dk_54 7 (dk_at dksJ15_grow_5 12 rfl rfl)
theorem dJ15_grow_131 : decode cJ15_grow 131 = .ok (.aload_n 0, 1) := dk_42 (dk_at dksJ15_grow_5 14 rfl rfl)
theorem dJ15_grow_132 : decode cJ15_grow 132 = .ok (.dup, 1) := dk_89 (dk_at dksJ15_grow_5 15 rfl rfl)
theorem dJ15_grow_133 : decode cJ15_grow 133 = .ok (.getfield 24, 3) := dk_180 0 24 (dk_at dksJ15_grow_5 16 rfl rfl)
theorem dJ15_grow_136 : decode cJ15_grow 136 = .ok (.iload 6, 2) := dk_21 6 (dk_at dksJ15_grow_5 19 rfl rfl)
theorem dJ15_grow_138 : decode cJ15_grow 138 = .ok (.iadd, 1) := dk_96 (dk_at dksJ15_grow_5 21 rfl rfl)
theorem dJ15_grow_139 : decode cJ15_grow 139 = .ok (.dup_x1, 1) := dk_90 (dk_at dksJ15_grow_5 22 rfl rfl)
theorem dJ15_grow_140 : decode cJ15_grow 140 = .ok (.putfield 24, 3) := dk_181 0 24 (dk_at dksJ15_grow_6 0 rfl rfl)
theorem dJ15_grow_143 : decode cJ15_grow 143 = .ok (.istore 8, 2) := dk_54 8 (dk_at dksJ15_grow_6 3 rfl rfl)
theorem dJ15_grow_145 : decode cJ15_grow 145 = .ok (.iload 7, 2) := dk_21 7 (dk_at dksJ15_grow_6 5 rfl rfl)
theorem dJ15_grow_147 : decode cJ15_grow 147 = .ok (.iload 8, 2) := dk_21 8 (dk_at dksJ15_grow_6 7 rfl rfl)
theorem dJ15_grow_149 : decode cJ15_grow 149 = .ok (.if_icmp .ge 15, 3) := dk_162 0 15 (dk_at dksJ15_grow_6 9 rfl rfl)
theorem dJ15_grow_152 : decode cJ15_grow 152 = .ok (.aload 5, 2) := dk_25 5 (dk_at dksJ15_grow_6 12 rfl rfl)
theorem dJ15_grow_154 : decode cJ15_grow 154 = .ok (.iload 7, 2) := dk_21 7 (dk_at dksJ15_grow_6 14 rfl rfl)
theorem dJ15_grow_156 : decode cJ15_grow 156 = .ok (.aconst_null, 1) := dk_1 (dk_at dksJ15_grow_6 16 rfl rfl)
theorem dJ15_grow_157 : decode cJ15_grow 157 = .ok (.aastore, 1) := dk_83 (dk_at dksJ15_grow_6 17 rfl rfl)
theorem dJ15_grow_158 : decode cJ15_grow 158 = .ok (.iinc 7 1, 3) := dk_132 7 1 (dk_at dksJ15_grow_6 18 rfl rfl)
theorem dJ15_grow_161 : decode cJ15_grow 161 = .ok (.goto (-16), 3) := dk_167 255 240 (dk_at dksJ15_grow_6 21 rfl rfl)
theorem dJ15_grow_164 : decode cJ15_grow 164 = .ok (.return_, 1) := dk_177 (dk_at dksJ15_grow_7 0 rfl rfl)
abbrev cJ15_newCapacity : ByteArray := prog_56_method_2_code
def yJ15_newCapacity : MethodName := ⟨RJ15, "newCapacity", "(II)I"⟩
def dkwJ15_newCapacity_2 : List UInt8 := [18, 9, 100, 156, 0, 9, 29, 28, 96, 167, 0, 5, 18, 9, 172]
abbrev dktJ15_newCapacity_2 : List UInt8 := dkwJ15_newCapacity_2 ++ []
def dkwJ15_newCapacity_1 : List UInt8 := [187, 0, 33, 89, 18, 35, 183, 0, 37, 191, 18, 41, 172, 27, 28, 164, 0, 6, 21, 4, 172, 29, 28, 96]
abbrev dktJ15_newCapacity_1 : List UInt8 := dkwJ15_newCapacity_1 ++ dktJ15_newCapacity_2
def dkwJ15_newCapacity_0 : List UInt8 := [42, 180, 0, 3, 190, 62, 29, 27, 96, 89, 54, 4, 18, 9, 100, 158, 0, 21, 21, 4, 156, 0, 13]
abbrev dktJ15_newCapacity_0 : List UInt8 := dkwJ15_newCapacity_0 ++ dktJ15_newCapacity_1
theorem dksJ15_newCapacity_0 : cJ15_newCapacity.data.toList.drop 0 = dktJ15_newCapacity_0 := by decide +kernel
theorem dksJ15_newCapacity_1 : cJ15_newCapacity.data.toList.drop 23 = dktJ15_newCapacity_1 := dk_seg dksJ15_newCapacity_0 23 rfl rfl
theorem dksJ15_newCapacity_2 : cJ15_newCapacity.data.toList.drop 47 = dktJ15_newCapacity_2 := dk_seg dksJ15_newCapacity_1 24 rfl rfl
theorem dJ15_newCapacity_0 : decode cJ15_newCapacity 0 = .ok (.aload_n 0, 1) := dk_42 (dk_at dksJ15_newCapacity_0 0 rfl rfl)
theorem dJ15_newCapacity_1 : decode cJ15_newCapacity 1 = .ok (.getfield 3, 3) := dk_180 0 3 (dk_at dksJ15_newCapacity_0 1 rfl rfl)
theorem dJ15_newCapacity_4 : decode cJ15_newCapacity 4 = .ok (.arraylength, 1) := dk_190 (dk_at dksJ15_newCapacity_0 4 rfl rfl)
theorem dJ15_newCapacity_5 : decode cJ15_newCapacity 5 = .ok (.istore_n 3, 1) := dk_62 (dk_at dksJ15_newCapacity_0 5 rfl rfl)
theorem dJ15_newCapacity_6 : decode cJ15_newCapacity 6 = .ok (.iload_n 3, 1) := dk_29 (dk_at dksJ15_newCapacity_0 6 rfl rfl)
theorem dJ15_newCapacity_7 : decode cJ15_newCapacity 7 = .ok (.iload_n 1, 1) := dk_27 (dk_at dksJ15_newCapacity_0 7 rfl rfl)
theorem dJ15_newCapacity_8 : decode cJ15_newCapacity 8 = .ok (.iadd, 1) := dk_96 (dk_at dksJ15_newCapacity_0 8 rfl rfl)
theorem dJ15_newCapacity_9 : decode cJ15_newCapacity 9 = .ok (.dup, 1) := dk_89 (dk_at dksJ15_newCapacity_0 9 rfl rfl)
theorem dJ15_newCapacity_10 : decode cJ15_newCapacity 10 = .ok (.istore 4, 2) := dk_54 4 (dk_at dksJ15_newCapacity_0 10 rfl rfl)
theorem dJ15_newCapacity_12 : decode cJ15_newCapacity 12 = .ok (.ldc 9, 2) := dk_18 9 (dk_at dksJ15_newCapacity_0 12 rfl rfl)
theorem dJ15_newCapacity_14 : decode cJ15_newCapacity 14 = .ok (.isub, 1) := dk_100 (dk_at dksJ15_newCapacity_0 14 rfl rfl)
theorem dJ15_newCapacity_15 : decode cJ15_newCapacity 15 = .ok (.ifCond .le 21, 3) := dk_158 0 21 (dk_at dksJ15_newCapacity_0 15 rfl rfl)
theorem dJ15_newCapacity_18 : decode cJ15_newCapacity 18 = .ok (.iload 4, 2) := dk_21 4 (dk_at dksJ15_newCapacity_0 18 rfl rfl)
theorem dJ15_newCapacity_20 : decode cJ15_newCapacity 20 = .ok (.ifCond .ge 13, 3) := dk_156 0 13 (dk_at dksJ15_newCapacity_0 20 rfl rfl)
theorem dJ15_newCapacity_23 : decode cJ15_newCapacity 23 = .ok (.new 33, 3) := dk_187 0 33 (dk_at dksJ15_newCapacity_1 0 rfl rfl)
theorem dJ15_newCapacity_26 : decode cJ15_newCapacity 26 = .ok (.dup, 1) := dk_89 (dk_at dksJ15_newCapacity_1 3 rfl rfl)
theorem dJ15_newCapacity_27 : decode cJ15_newCapacity 27 = .ok (.ldc 35, 2) := dk_18 35 (dk_at dksJ15_newCapacity_1 4 rfl rfl)
theorem dJ15_newCapacity_29 : decode cJ15_newCapacity 29 = .ok (.invokespecial 37, 3) := dk_183 0 37 (dk_at dksJ15_newCapacity_1 6 rfl rfl)
theorem dJ15_newCapacity_32 : decode cJ15_newCapacity 32 = .ok (.athrow, 1) := dk_191 (dk_at dksJ15_newCapacity_1 9 rfl rfl)
theorem dJ15_newCapacity_33 : decode cJ15_newCapacity 33 = .ok (.ldc 41, 2) := dk_18 41 (dk_at dksJ15_newCapacity_1 10 rfl rfl)
theorem dJ15_newCapacity_35 : decode cJ15_newCapacity 35 = .ok (.ireturn, 1) := dk_172 (dk_at dksJ15_newCapacity_1 12 rfl rfl)
theorem dJ15_newCapacity_36 : decode cJ15_newCapacity 36 = .ok (.iload_n 1, 1) := dk_27 (dk_at dksJ15_newCapacity_1 13 rfl rfl)
theorem dJ15_newCapacity_37 : decode cJ15_newCapacity 37 = .ok (.iload_n 2, 1) := dk_28 (dk_at dksJ15_newCapacity_1 14 rfl rfl)
theorem dJ15_newCapacity_38 : decode cJ15_newCapacity 38 = .ok (.if_icmp .le 6, 3) := dk_164 0 6 (dk_at dksJ15_newCapacity_1 15 rfl rfl)
theorem dJ15_newCapacity_41 : decode cJ15_newCapacity 41 = .ok (.iload 4, 2) := dk_21 4 (dk_at dksJ15_newCapacity_1 18 rfl rfl)
theorem dJ15_newCapacity_43 : decode cJ15_newCapacity 43 = .ok (.ireturn, 1) := dk_172 (dk_at dksJ15_newCapacity_1 20 rfl rfl)
theorem dJ15_newCapacity_44 : decode cJ15_newCapacity 44 = .ok (.iload_n 3, 1) := dk_29 (dk_at dksJ15_newCapacity_1 21 rfl rfl)
theorem dJ15_newCapacity_45 : decode cJ15_newCapacity 45 = .ok (.iload_n 2, 1) := dk_28 (dk_at dksJ15_newCapacity_1 22 rfl rfl)
theorem dJ15_newCapacity_46 : decode cJ15_newCapacity 46 = .ok (.iadd, 1) := dk_96 (dk_at dksJ15_newCapacity_1 23 rfl rfl)
theorem dJ15_newCapacity_47 : decode cJ15_newCapacity 47 = .ok (.ldc 9, 2) := dk_18 9 (dk_at dksJ15_newCapacity_2 0 rfl rfl)
theorem dJ15_newCapacity_49 : decode cJ15_newCapacity 49 = .ok (.isub, 1) := dk_100 (dk_at dksJ15_newCapacity_2 2 rfl rfl)
theorem dJ15_newCapacity_50 : decode cJ15_newCapacity 50 = .ok (.ifCond .ge 9, 3) := dk_156 0 9 (dk_at dksJ15_newCapacity_2 3 rfl rfl)
theorem dJ15_newCapacity_53 : decode cJ15_newCapacity 53 = .ok (.iload_n 3, 1) := dk_29 (dk_at dksJ15_newCapacity_2 6 rfl rfl)
theorem dJ15_newCapacity_54 : decode cJ15_newCapacity 54 = .ok (.iload_n 2, 1) := dk_28 (dk_at dksJ15_newCapacity_2 7 rfl rfl)
theorem dJ15_newCapacity_55 : decode cJ15_newCapacity 55 = .ok (.iadd, 1) := dk_96 (dk_at dksJ15_newCapacity_2 8 rfl rfl)
theorem dJ15_newCapacity_56 : decode cJ15_newCapacity 56 = .ok (.goto 5, 3) := dk_167 0 5 (dk_at dksJ15_newCapacity_2 9 rfl rfl)
theorem dJ15_newCapacity_59 : decode cJ15_newCapacity 59 = .ok (.ldc 9, 2) := dk_18 9 (dk_at dksJ15_newCapacity_2 12 rfl rfl)
theorem dJ15_newCapacity_61 : decode cJ15_newCapacity 61 = .ok (.ireturn, 1) := dk_172 (dk_at dksJ15_newCapacity_2 14 rfl rfl)
abbrev cJ15_isEmpty : ByteArray := prog_56_method_38_code
def yJ15_isEmpty : MethodName := ⟨RJ15, "isEmpty", "()Z"⟩
def dkwJ15_isEmpty_0 : List UInt8 := [42, 180, 0, 24, 42, 180, 0, 20, 160, 0, 7, 4, 167, 0, 4, 3, 172]
abbrev dktJ15_isEmpty_0 : List UInt8 := dkwJ15_isEmpty_0 ++ []
theorem dksJ15_isEmpty_0 : cJ15_isEmpty.data.toList.drop 0 = dktJ15_isEmpty_0 := by decide +kernel
theorem dJ15_isEmpty_0 : decode cJ15_isEmpty 0 = .ok (.aload_n 0, 1) := dk_42 (dk_at dksJ15_isEmpty_0 0 rfl rfl)
theorem dJ15_isEmpty_1 : decode cJ15_isEmpty 1 = .ok (.getfield 24, 3) := dk_180 0 24 (dk_at dksJ15_isEmpty_0 1 rfl rfl)
theorem dJ15_isEmpty_4 : decode cJ15_isEmpty 4 = .ok (.aload_n 0, 1) := dk_42 (dk_at dksJ15_isEmpty_0 4 rfl rfl)
theorem dJ15_isEmpty_5 : decode cJ15_isEmpty 5 = .ok (.getfield 20, 3) := dk_180 0 20 (dk_at dksJ15_isEmpty_0 5 rfl rfl)
theorem dJ15_isEmpty_8 : decode cJ15_isEmpty 8 = .ok (.if_icmp .ne 7, 3) := dk_160 0 7 (dk_at dksJ15_isEmpty_0 8 rfl rfl)
theorem dJ15_isEmpty_11 : decode cJ15_isEmpty 11 = .ok (.iconst 1, 1) := dk_4 (dk_at dksJ15_isEmpty_0 11 rfl rfl)
theorem dJ15_isEmpty_12 : decode cJ15_isEmpty 12 = .ok (.goto 4, 3) := dk_167 0 4 (dk_at dksJ15_isEmpty_0 12 rfl rfl)
theorem dJ15_isEmpty_15 : decode cJ15_isEmpty 15 = .ok (.iconst 0, 1) := dk_3 (dk_at dksJ15_isEmpty_0 15 rfl rfl)
theorem dJ15_isEmpty_16 : decode cJ15_isEmpty 16 = .ok (.ireturn, 1) := dk_172 (dk_at dksJ15_isEmpty_0 16 rfl rfl)
abbrev cJ15_removeLast : ByteArray := prog_56_method_19_code
def yJ15_removeLast : MethodName := ⟨RJ15, "removeLast", "()Ljava/lang/Object;"⟩
def dkwJ15_removeLast_0 : List UInt8 := [42, 182, 0, 100, 76, 43, 199, 0, 11, 187, 0, 97, 89, 183, 0, 99, 191, 43, 176]
abbrev dktJ15_removeLast_0 : List UInt8 := dkwJ15_removeLast_0 ++ []
theorem dksJ15_removeLast_0 : cJ15_removeLast.data.toList.drop 0 = dktJ15_removeLast_0 := by decide +kernel
theorem dJ15_removeLast_0 : decode cJ15_removeLast 0 = .ok (.aload_n 0, 1) := dk_42 (dk_at dksJ15_removeLast_0 0 rfl rfl)
theorem dJ15_removeLast_1 : decode cJ15_removeLast 1 = .ok (.invokevirtual 100, 3) := dk_182 0 100 (dk_at dksJ15_removeLast_0 1 rfl rfl)
theorem dJ15_removeLast_4 : decode cJ15_removeLast 4 = .ok (.astore_n 1, 1) := dk_76 (dk_at dksJ15_removeLast_0 4 rfl rfl)
theorem dJ15_removeLast_5 : decode cJ15_removeLast 5 = .ok (.aload_n 1, 1) := dk_43 (dk_at dksJ15_removeLast_0 5 rfl rfl)
theorem dJ15_removeLast_6 : decode cJ15_removeLast 6 = .ok (.ifnonnull 11, 3) := dk_199 0 11 (dk_at dksJ15_removeLast_0 6 rfl rfl)
theorem dJ15_removeLast_9 : decode cJ15_removeLast 9 = .ok (.new 97, 3) := dk_187 0 97 (dk_at dksJ15_removeLast_0 9 rfl rfl)
theorem dJ15_removeLast_12 : decode cJ15_removeLast 12 = .ok (.dup, 1) := dk_89 (dk_at dksJ15_removeLast_0 12 rfl rfl)
theorem dJ15_removeLast_13 : decode cJ15_removeLast 13 = .ok (.invokespecial 99, 3) := dk_183 0 99 (dk_at dksJ15_removeLast_0 13 rfl rfl)
theorem dJ15_removeLast_16 : decode cJ15_removeLast 16 = .ok (.athrow, 1) := dk_191 (dk_at dksJ15_removeLast_0 16 rfl rfl)
theorem dJ15_removeLast_17 : decode cJ15_removeLast 17 = .ok (.aload_n 1, 1) := dk_43 (dk_at dksJ15_removeLast_0 17 rfl rfl)
theorem dJ15_removeLast_18 : decode cJ15_removeLast 18 = .ok (.areturn, 1) := dk_176 (dk_at dksJ15_removeLast_0 18 rfl rfl)
abbrev cJ15_pollLast : ByteArray := prog_56_method_21_code
def yJ15_pollLast : MethodName := ⟨RJ15, "pollLast", "()Ljava/lang/Object;"⟩
def dkwJ15_pollLast_1 : List UInt8 := [198, 0, 12, 43, 42, 28, 90, 181, 0, 20, 1, 83, 45, 176]
abbrev dktJ15_pollLast_1 : List UInt8 := dkwJ15_pollLast_1 ++ []
def dkwJ15_pollLast_0 : List UInt8 := [42, 180, 0, 3, 89, 76, 42, 180, 0, 20, 43, 190, 184, 0, 68, 89, 61, 184, 0, 103, 78, 45]
abbrev dktJ15_pollLast_0 : List UInt8 := dkwJ15_pollLast_0 ++ dktJ15_pollLast_1
theorem dksJ15_pollLast_0 : cJ15_pollLast.data.toList.drop 0 = dktJ15_pollLast_0 := by decide +kernel
theorem dksJ15_pollLast_1 : cJ15_pollLast.data.toList.drop 22 = dktJ15_pollLast_1 := dk_seg dksJ15_pollLast_0 22 rfl rfl
theorem dJ15_pollLast_0 : decode cJ15_pollLast 0 = .ok (.aload_n 0, 1) := dk_42 (dk_at dksJ15_pollLast_0 0 rfl rfl)
theorem dJ15_pollLast_1 : decode cJ15_pollLast 1 = .ok (.getfield 3, 3) := dk_180 0 3 (dk_at dksJ15_pollLast_0 1 rfl rfl)
theorem dJ15_pollLast_4 : decode cJ15_pollLast 4 = .ok (.dup, 1) := dk_89 (dk_at dksJ15_pollLast_0 4 rfl rfl)
theorem dJ15_pollLast_5 : decode cJ15_pollLast 5 = .ok (.astore_n 1, 1) := dk_76 (dk_at dksJ15_pollLast_0 5 rfl rfl)
theorem dJ15_pollLast_6 : decode cJ15_pollLast 6 = .ok (.aload_n 0, 1) := dk_42 (dk_at dksJ15_pollLast_0 6 rfl rfl)
theorem dJ15_pollLast_7 : decode cJ15_pollLast 7 = .ok (.getfield 20, 3) := dk_180 0 20 (dk_at dksJ15_pollLast_0 7 rfl rfl)
theorem dJ15_pollLast_10 : decode cJ15_pollLast 10 = .ok (.aload_n 1, 1) := dk_43 (dk_at dksJ15_pollLast_0 10 rfl rfl)
theorem dJ15_pollLast_11 : decode cJ15_pollLast 11 = .ok (.arraylength, 1) := dk_190 (dk_at dksJ15_pollLast_0 11 rfl rfl)
theorem dJ15_pollLast_12 : decode cJ15_pollLast 12 = .ok (.invokestatic 68, 3) := dk_184 0 68 (dk_at dksJ15_pollLast_0 12 rfl rfl)
theorem dJ15_pollLast_15 : decode cJ15_pollLast 15 = .ok (.dup, 1) := dk_89 (dk_at dksJ15_pollLast_0 15 rfl rfl)
theorem dJ15_pollLast_16 : decode cJ15_pollLast 16 = .ok (.istore_n 2, 1) := dk_61 (dk_at dksJ15_pollLast_0 16 rfl rfl)
theorem dJ15_pollLast_17 : decode cJ15_pollLast 17 = .ok (.invokestatic 103, 3) := dk_184 0 103 (dk_at dksJ15_pollLast_0 17 rfl rfl)
theorem dJ15_pollLast_20 : decode cJ15_pollLast 20 = .ok (.astore_n 3, 1) := dk_78 (dk_at dksJ15_pollLast_0 20 rfl rfl)
theorem dJ15_pollLast_21 : decode cJ15_pollLast 21 = .ok (.aload_n 3, 1) := dk_45 (dk_at dksJ15_pollLast_0 21 rfl rfl)
theorem dJ15_pollLast_22 : decode cJ15_pollLast 22 = .ok (.ifnull 12, 3) := dk_198 0 12 (dk_at dksJ15_pollLast_1 0 rfl rfl)
theorem dJ15_pollLast_25 : decode cJ15_pollLast 25 = .ok (.aload_n 1, 1) := dk_43 (dk_at dksJ15_pollLast_1 3 rfl rfl)
theorem dJ15_pollLast_26 : decode cJ15_pollLast 26 = .ok (.aload_n 0, 1) := dk_42 (dk_at dksJ15_pollLast_1 4 rfl rfl)
theorem dJ15_pollLast_27 : decode cJ15_pollLast 27 = .ok (.iload_n 2, 1) := dk_28 (dk_at dksJ15_pollLast_1 5 rfl rfl)
theorem dJ15_pollLast_28 : decode cJ15_pollLast 28 = .ok (.dup_x1, 1) := dk_90 (dk_at dksJ15_pollLast_1 6 rfl rfl)
theorem dJ15_pollLast_29 : decode cJ15_pollLast 29 = .ok (.putfield 20, 3) := dk_181 0 20 (dk_at dksJ15_pollLast_1 7 rfl rfl)
theorem dJ15_pollLast_32 : decode cJ15_pollLast 32 = .ok (.aconst_null, 1) := dk_1 (dk_at dksJ15_pollLast_1 10 rfl rfl)
theorem dJ15_pollLast_33 : decode cJ15_pollLast 33 = .ok (.aastore, 1) := dk_83 (dk_at dksJ15_pollLast_1 11 rfl rfl)
theorem dJ15_pollLast_34 : decode cJ15_pollLast 34 = .ok (.aload_n 3, 1) := dk_45 (dk_at dksJ15_pollLast_1 12 rfl rfl)
theorem dJ15_pollLast_35 : decode cJ15_pollLast 35 = .ok (.areturn, 1) := dk_176 (dk_at dksJ15_pollLast_1 13 rfl rfl)
abbrev cJ15_dec : ByteArray := prog_56_method_7_code
def yJ15_dec : MethodName := ⟨RJ15, "dec", "(II)I"⟩
def dkwJ15_dec_0 : List UInt8 := [132, 0, 255, 26, 156, 0, 7, 27, 4, 100, 59, 26, 172]
abbrev dktJ15_dec_0 : List UInt8 := dkwJ15_dec_0 ++ []
theorem dksJ15_dec_0 : cJ15_dec.data.toList.drop 0 = dktJ15_dec_0 := by decide +kernel
theorem dJ15_dec_0 : decode cJ15_dec 0 = .ok (.iinc 0 (-1), 3) := dk_132 0 255 (dk_at dksJ15_dec_0 0 rfl rfl)
theorem dJ15_dec_3 : decode cJ15_dec 3 = .ok (.iload_n 0, 1) := dk_26 (dk_at dksJ15_dec_0 3 rfl rfl)
theorem dJ15_dec_4 : decode cJ15_dec 4 = .ok (.ifCond .ge 7, 3) := dk_156 0 7 (dk_at dksJ15_dec_0 4 rfl rfl)
theorem dJ15_dec_7 : decode cJ15_dec 7 = .ok (.iload_n 1, 1) := dk_27 (dk_at dksJ15_dec_0 7 rfl rfl)
theorem dJ15_dec_8 : decode cJ15_dec 8 = .ok (.iconst 1, 1) := dk_4 (dk_at dksJ15_dec_0 8 rfl rfl)
theorem dJ15_dec_9 : decode cJ15_dec 9 = .ok (.isub, 1) := dk_100 (dk_at dksJ15_dec_0 9 rfl rfl)
theorem dJ15_dec_10 : decode cJ15_dec 10 = .ok (.istore_n 0, 1) := dk_59 (dk_at dksJ15_dec_0 10 rfl rfl)
theorem dJ15_dec_11 : decode cJ15_dec 11 = .ok (.iload_n 0, 1) := dk_26 (dk_at dksJ15_dec_0 11 rfl rfl)
theorem dJ15_dec_12 : decode cJ15_dec 12 = .ok (.ireturn, 1) := dk_172 (dk_at dksJ15_dec_0 12 rfl rfl)
theorem q147 : (Jvm.Cond.initialized "java/util/ArrayDeque") ∈ lw_all := lw_g (lw_at lw_m1 23 rfl) rfl
theorem q797 : (Jvm.Cond.instantiable "java/util/ArrayDeque" (3 : Nat)) ∈ lw_all := lw_g (lw_at lw_m3 193 rfl) rfl
theorem q799 : (Jvm.Cond.instanceMethod ({ cls := "java/util/ArrayDeque", name := "<init>", desc := "()V" } : Jvm.MethodName)) ∈ lw_all := lw_g (lw_at lw_m3 195 rfl) rfl
theorem q800 : (Jvm.Cond.code ({ cls := "java/util/ArrayDeque", name := "<init>", desc := "()V" } : Jvm.MethodName) prog_56_method_3_code (1 : Nat) (Option.none : Option Jvm.ClassFile.FieldType)) ∈ lw_all := lw_g (lw_at lw_m3 196 rfl) rfl
theorem q801 : (Jvm.Cond.methodLink "java/util/ArrayDeque" (42 : Nat) ({ cls := "java/util/AbstractCollection", name := "<init>", desc := "()V" } : Jvm.MethodName)) ∈ lw_all := lw_g (lw_at lw_m3 197 rfl) rfl
theorem q805 : (Jvm.Cond.classLink "java/util/ArrayDeque" (47 : Nat) "java/lang/Object") ∈ lw_all := lw_g (lw_at lw_m3 201 rfl) rfl
theorem q807 : (Jvm.Cond.fieldLink "java/util/ArrayDeque" (3 : Nat) "java/util/ArrayDeque" "elements" "[Ljava/lang/Object;") ∈ lw_all := lw_g (lw_at lw_m3 203 rfl) rfl
theorem q808 : (Jvm.Cond.fieldLink "java/util/ArrayDeque" (24 : Nat) "java/util/ArrayDeque" "head" "I") ∈ lw_all := lw_g (lw_at lw_m3 204 rfl) rfl
theorem q809 : (Jvm.Cond.fieldLink "java/util/ArrayDeque" (20 : Nat) "java/util/ArrayDeque" "tail" "I") ∈ lw_all := lw_g (lw_at lw_m3 205 rfl) rfl
theorem q810 : (Jvm.Cond.lays "java/util/ArrayDeque" "java/util/ArrayDeque" "elements" "[Ljava/lang/Object;") ∈ lw_all := lw_g (lw_at lw_m3 206 rfl) rfl
theorem q811 : (Jvm.Cond.soleField "java/util/ArrayDeque" "elements") ∈ lw_all := lw_g (lw_at lw_m3 207 rfl) rfl
theorem q812 : (Jvm.Cond.lays "java/util/ArrayDeque" "java/util/ArrayDeque" "head" "I") ∈ lw_all := lw_g (lw_at lw_m3 208 rfl) rfl
theorem q813 : (Jvm.Cond.soleField "java/util/ArrayDeque" "head") ∈ lw_all := lw_g (lw_at lw_m3 209 rfl) rfl
theorem q814 : (Jvm.Cond.lays "java/util/ArrayDeque" "java/util/ArrayDeque" "tail" "I") ∈ lw_all := lw_g (lw_at lw_m3 210 rfl) rfl
theorem q815 : (Jvm.Cond.soleField "java/util/ArrayDeque" "tail") ∈ lw_all := lw_g (lw_at lw_m3 211 rfl) rfl
theorem q816 : (Jvm.Cond.superclass "java/util/ArrayDeque" "java/util/AbstractCollection") ∈ lw_all := lw_g (lw_at lw_m3 212 rfl) rfl
theorem q1046 : (Jvm.Cond.instanceMethod ({ cls := "java/util/ArrayDeque", name := "size", desc := "()I" } : Jvm.MethodName)) ∈ lw_all := lw_g (lw_at lw_m4 202 rfl) rfl
theorem q1047 : (Jvm.Cond.selects "java/util/ArrayDeque" ({ cls := "java/util/ArrayDeque", name := "size", desc := "()I" } : Jvm.MethodName) ({ cls := "java/util/ArrayDeque", name := "size", desc := "()I" } : Jvm.MethodName)) ∈ lw_all := lw_g (lw_at lw_m4 203 rfl) rfl
theorem q1048 : (Jvm.Cond.code ({ cls := "java/util/ArrayDeque", name := "size", desc := "()I" } : Jvm.MethodName) prog_56_method_37_code (1 : Nat) (Option.some Jvm.ClassFile.FieldType.int)) ∈ lw_all := lw_g (lw_at lw_m4 204 rfl) rfl
theorem q1049 : (Jvm.Cond.methodLink "java/util/ArrayDeque" (127 : Nat) ({ cls := "java/util/ArrayDeque", name := "sub", desc := "(III)I" } : Jvm.MethodName)) ∈ lw_all := lw_g (lw_at lw_m4 205 rfl) rfl
theorem q1050 : (Jvm.Cond.static ({ cls := "java/util/ArrayDeque", name := "sub", desc := "(III)I" } : Jvm.MethodName)) ∈ lw_all := lw_g (lw_at lw_m4 206 rfl) rfl
theorem q1051 : (Jvm.Cond.code ({ cls := "java/util/ArrayDeque", name := "sub", desc := "(III)I" } : Jvm.MethodName) prog_56_method_9_code (3 : Nat) (Option.some Jvm.ClassFile.FieldType.int)) ∈ lw_all := lw_g (lw_at lw_m4 207 rfl) rfl
theorem q1053 : (Jvm.Cond.instanceMethod ({ cls := "java/util/ArrayDeque", name := "removeFirst", desc := "()Ljava/lang/Object;" } : Jvm.MethodName)) ∈ lw_all := lw_g (lw_at lw_m4 209 rfl) rfl
theorem q1054 : (Jvm.Cond.selects "java/util/ArrayDeque" ({ cls := "java/util/ArrayDeque", name := "removeFirst", desc := "()Ljava/lang/Object;" } : Jvm.MethodName) ({ cls := "java/util/ArrayDeque", name := "removeFirst", desc := "()Ljava/lang/Object;" } : Jvm.MethodName)) ∈ lw_all := lw_g (lw_at lw_m4 210 rfl) rfl
theorem q1055 : (Jvm.Cond.code ({ cls := "java/util/ArrayDeque", name := "removeFirst", desc := "()Ljava/lang/Object;" } : Jvm.MethodName) prog_56_method_18_code (2 : Nat) (Option.some (Jvm.ClassFile.FieldType.object "java/lang/Object"))) ∈ lw_all := lw_g (lw_at lw_m4 211 rfl) rfl
theorem q1056 : (Jvm.Cond.methodLink "java/util/ArrayDeque" (93 : Nat) ({ cls := "java/util/ArrayDeque", name := "pollFirst", desc := "()Ljava/lang/Object;" } : Jvm.MethodName)) ∈ lw_all := lw_g (lw_at lw_m4 212 rfl) rfl
theorem q1057 : (Jvm.Cond.instanceMethod ({ cls := "java/util/ArrayDeque", name := "pollFirst", desc := "()Ljava/lang/Object;" } : Jvm.MethodName)) ∈ lw_all := lw_g (lw_at lw_m4 213 rfl) rfl
theorem q1058 : (Jvm.Cond.selects "java/util/ArrayDeque" ({ cls := "java/util/ArrayDeque", name := "pollFirst", desc := "()Ljava/lang/Object;" } : Jvm.MethodName) ({ cls := "java/util/ArrayDeque", name := "pollFirst", desc := "()Ljava/lang/Object;" } : Jvm.MethodName)) ∈ lw_all := lw_g (lw_at lw_m4 214 rfl) rfl
theorem q1059 : (Jvm.Cond.code ({ cls := "java/util/ArrayDeque", name := "pollFirst", desc := "()Ljava/lang/Object;" } : Jvm.MethodName) prog_56_method_20_code (4 : Nat) (Option.some (Jvm.ClassFile.FieldType.object "java/lang/Object"))) ∈ lw_all := lw_g (lw_at lw_m4 215 rfl) rfl
theorem q1060 : (Jvm.Cond.methodLink "java/util/ArrayDeque" (103 : Nat) ({ cls := "java/util/ArrayDeque", name := "elementAt", desc := "([Ljava/lang/Object;I)Ljava/lang/Object;" } : Jvm.MethodName)) ∈ lw_all := lw_g (lw_at lw_m4 216 rfl) rfl
theorem q1061 : (Jvm.Cond.static ({ cls := "java/util/ArrayDeque", name := "elementAt", desc := "([Ljava/lang/Object;I)Ljava/lang/Object;" } : Jvm.MethodName)) ∈ lw_all := lw_g (lw_at lw_m4 217 rfl) rfl
theorem q1062 : (Jvm.Cond.code ({ cls := "java/util/ArrayDeque", name := "elementAt", desc := "([Ljava/lang/Object;I)Ljava/lang/Object;" } : Jvm.MethodName) prog_56_method_10_code (2 : Nat) (Option.some (Jvm.ClassFile.FieldType.object "java/lang/Object"))) ∈ lw_all := lw_g (lw_at lw_m4 218 rfl) rfl
theorem q1063 : (Jvm.Cond.methodLink "java/util/ArrayDeque" (74 : Nat) ({ cls := "java/util/ArrayDeque", name := "inc", desc := "(II)I" } : Jvm.MethodName)) ∈ lw_all := lw_g (lw_at lw_m4 219 rfl) rfl
theorem q1064 : (Jvm.Cond.static ({ cls := "java/util/ArrayDeque", name := "inc", desc := "(II)I" } : Jvm.MethodName)) ∈ lw_all := lw_g (lw_at lw_m4 220 rfl) rfl
theorem q1065 : (Jvm.Cond.code ({ cls := "java/util/ArrayDeque", name := "inc", desc := "(II)I" } : Jvm.MethodName) prog_56_method_6_code (2 : Nat) (Option.some Jvm.ClassFile.FieldType.int)) ∈ lw_all := lw_g (lw_at lw_m4 221 rfl) rfl
theorem q1067 : (Jvm.Cond.instanceMethod ({ cls := "java/util/ArrayDeque", name := "addLast", desc := "(Ljava/lang/Object;)V" } : Jvm.MethodName)) ∈ lw_all := lw_g (lw_at lw_m4 223 rfl) rfl
theorem q1068 : (Jvm.Cond.selects "java/util/ArrayDeque" ({ cls := "java/util/ArrayDeque", name := "addLast", desc := "(Ljava/lang/Object;)V" } : Jvm.MethodName) ({ cls := "java/util/ArrayDeque", name := "addLast", desc := "(Ljava/lang/Object;)V" } : Jvm.MethodName)) ∈ lw_all := lw_g (lw_at lw_m4 224 rfl) rfl
theorem q1069 : (Jvm.Cond.code ({ cls := "java/util/ArrayDeque", name := "addLast", desc := "(Ljava/lang/Object;)V" } : Jvm.MethodName) prog_56_method_13_code (3 : Nat) (Option.none : Option Jvm.ClassFile.FieldType)) ∈ lw_all := lw_g (lw_at lw_m4 225 rfl) rfl
theorem q1070 : (Jvm.Cond.methodLink "java/util/ArrayDeque" (71 : Nat) ({ cls := "java/util/ArrayDeque", name := "grow", desc := "(I)V" } : Jvm.MethodName)) ∈ lw_all := lw_g (lw_at lw_m4 226 rfl) rfl
theorem q1071 : (Jvm.Cond.privateMethod ({ cls := "java/util/ArrayDeque", name := "grow", desc := "(I)V" } : Jvm.MethodName)) ∈ lw_tbl := lw_at lw_m4 227 rfl
theorem q1072 : (Jvm.Cond.instanceMethod ({ cls := "java/util/ArrayDeque", name := "grow", desc := "(I)V" } : Jvm.MethodName)) ∈ lw_all := lw_g (lw_at lw_m4 228 rfl) rfl
theorem q1073 : (Jvm.Cond.code ({ cls := "java/util/ArrayDeque", name := "grow", desc := "(I)V" } : Jvm.MethodName) prog_56_method_1_code (9 : Nat) (Option.none : Option Jvm.ClassFile.FieldType)) ∈ lw_all := lw_g (lw_at lw_m4 229 rfl) rfl
theorem q1074 : (Jvm.Cond.constant "java/util/ArrayDeque" (9 : Nat) (2147483639 : Int32)) ∈ lw_all := lw_g (lw_at lw_m4 230 rfl) rfl
theorem q1075 : (Jvm.Cond.methodLink "java/util/ArrayDeque" (10 : Nat) ({ cls := "java/util/ArrayDeque", name := "newCapacity", desc := "(II)I" } : Jvm.MethodName)) ∈ lw_all := lw_g (lw_at lw_m4 231 rfl) rfl
theorem q1076 : (Jvm.Cond.privateMethod ({ cls := "java/util/ArrayDeque", name := "newCapacity", desc := "(II)I" } : Jvm.MethodName)) ∈ lw_tbl := lw_at lw_m4 232 rfl
theorem q1077 : (Jvm.Cond.instanceMethod ({ cls := "java/util/ArrayDeque", name := "newCapacity", desc := "(II)I" } : Jvm.MethodName)) ∈ lw_all := lw_g (lw_at lw_m4 233 rfl) rfl
theorem q1078 : (Jvm.Cond.code ({ cls := "java/util/ArrayDeque", name := "newCapacity", desc := "(II)I" } : Jvm.MethodName) prog_56_method_2_code (5 : Nat) (Option.some Jvm.ClassFile.FieldType.int)) ∈ lw_all := lw_g (lw_at lw_m4 234 rfl) rfl
theorem q1079 : (Jvm.Cond.constant "java/util/ArrayDeque" (41 : Nat) (2147483647 : Int32)) ∈ lw_all := lw_g (lw_at lw_m4 235 rfl) rfl
theorem q1080 : (Jvm.Cond.methodLink "java/util/ArrayDeque" (14 : Nat) ({ cls := "java/util/Arrays", name := "copyOf", desc := "([Ljava/lang/Object;I)[Ljava/lang/Object;" } : Jvm.MethodName)) ∈ lw_all := lw_g (lw_at lw_m4 236 rfl) rfl
theorem q1114 : (Jvm.Cond.selects "java/util/ArrayDeque" ({ cls := "java/lang/Object", name := "getClass", desc := "()Ljava/lang/Class;" } : Jvm.MethodName) ({ cls := "java/lang/Object", name := "getClass", desc := "()Ljava/lang/Class;" } : Jvm.MethodName)) ∈ lw_all := lw_g (lw_at lw_m5 30 rfl) rfl
theorem q1130 : (Jvm.Cond.methodLink "java/util/ArrayDeque" (27 : Nat) ({ cls := "java/lang/System", name := "arraycopy", desc := "(Ljava/lang/Object;ILjava/lang/Object;II)V" } : Jvm.MethodName)) ∈ lw_all := lw_g (lw_at lw_m5 46 rfl) rfl
theorem q1545 : (Jvm.Cond.selects "java/util/ArrayDeque" ({ cls := "java/util/AbstractCollection", name := "size", desc := "()I" } : Jvm.MethodName) ({ cls := "java/util/ArrayDeque", name := "size", desc := "()I" } : Jvm.MethodName)) ∈ lw_all := lw_g (lw_at lw_m6 221 rfl) rfl
theorem q1648 : (Jvm.Cond.instanceMethod ({ cls := "java/util/ArrayDeque", name := "isEmpty", desc := "()Z" } : Jvm.MethodName)) ∈ lw_all := lw_g (lw_at lw_m7 84 rfl) rfl
theorem q1649 : (Jvm.Cond.selects "java/util/ArrayDeque" ({ cls := "java/util/ArrayDeque", name := "isEmpty", desc := "()Z" } : Jvm.MethodName) ({ cls := "java/util/ArrayDeque", name := "isEmpty", desc := "()Z" } : Jvm.MethodName)) ∈ lw_all := lw_g (lw_at lw_m7 85 rfl) rfl
theorem q1650 : (Jvm.Cond.code ({ cls := "java/util/ArrayDeque", name := "isEmpty", desc := "()Z" } : Jvm.MethodName) prog_56_method_38_code (1 : Nat) (Option.some Jvm.ClassFile.FieldType.boolean)) ∈ lw_all := lw_g (lw_at lw_m7 86 rfl) rfl
theorem q1652 : (Jvm.Cond.instanceMethod ({ cls := "java/util/ArrayDeque", name := "removeLast", desc := "()Ljava/lang/Object;" } : Jvm.MethodName)) ∈ lw_all := lw_g (lw_at lw_m7 88 rfl) rfl
theorem q1653 : (Jvm.Cond.selects "java/util/ArrayDeque" ({ cls := "java/util/ArrayDeque", name := "removeLast", desc := "()Ljava/lang/Object;" } : Jvm.MethodName) ({ cls := "java/util/ArrayDeque", name := "removeLast", desc := "()Ljava/lang/Object;" } : Jvm.MethodName)) ∈ lw_all := lw_g (lw_at lw_m7 89 rfl) rfl
theorem q1654 : (Jvm.Cond.code ({ cls := "java/util/ArrayDeque", name := "removeLast", desc := "()Ljava/lang/Object;" } : Jvm.MethodName) prog_56_method_19_code (2 : Nat) (Option.some (Jvm.ClassFile.FieldType.object "java/lang/Object"))) ∈ lw_all := lw_g (lw_at lw_m7 90 rfl) rfl
theorem q1655 : (Jvm.Cond.methodLink "java/util/ArrayDeque" (100 : Nat) ({ cls := "java/util/ArrayDeque", name := "pollLast", desc := "()Ljava/lang/Object;" } : Jvm.MethodName)) ∈ lw_all := lw_g (lw_at lw_m7 91 rfl) rfl
theorem q1656 : (Jvm.Cond.instanceMethod ({ cls := "java/util/ArrayDeque", name := "pollLast", desc := "()Ljava/lang/Object;" } : Jvm.MethodName)) ∈ lw_all := lw_g (lw_at lw_m7 92 rfl) rfl
theorem q1657 : (Jvm.Cond.selects "java/util/ArrayDeque" ({ cls := "java/util/ArrayDeque", name := "pollLast", desc := "()Ljava/lang/Object;" } : Jvm.MethodName) ({ cls := "java/util/ArrayDeque", name := "pollLast", desc := "()Ljava/lang/Object;" } : Jvm.MethodName)) ∈ lw_all := lw_g (lw_at lw_m7 93 rfl) rfl
theorem q1658 : (Jvm.Cond.code ({ cls := "java/util/ArrayDeque", name := "pollLast", desc := "()Ljava/lang/Object;" } : Jvm.MethodName) prog_56_method_21_code (4 : Nat) (Option.some (Jvm.ClassFile.FieldType.object "java/lang/Object"))) ∈ lw_all := lw_g (lw_at lw_m7 94 rfl) rfl
theorem q1659 : (Jvm.Cond.methodLink "java/util/ArrayDeque" (68 : Nat) ({ cls := "java/util/ArrayDeque", name := "dec", desc := "(II)I" } : Jvm.MethodName)) ∈ lw_all := lw_g (lw_at lw_m7 95 rfl) rfl
theorem q1660 : (Jvm.Cond.static ({ cls := "java/util/ArrayDeque", name := "dec", desc := "(II)I" } : Jvm.MethodName)) ∈ lw_all := lw_g (lw_at lw_m7 96 rfl) rfl
theorem q1661 : (Jvm.Cond.code ({ cls := "java/util/ArrayDeque", name := "dec", desc := "(II)I" } : Jvm.MethodName) prog_56_method_7_code (2 : Nat) (Option.some Jvm.ClassFile.FieldType.int)) ∈ lw_all := lw_g (lw_at lw_m7 97 rfl) rfl
theorem q3198 : (Jvm.Cond.castable "java/util/ArrayDeque" "java/lang/Object") ∈ lw_tbl := lw_at lw_m13 194 rfl
theorem in_J15 : ∀ w ∈ wsJ150, w ∈ lw_all := lw_in wsJ150 [810, 812, 814] (by decide +kernel) (by decide +kernel)
/-! java/lang/AbstractStringBuilder -/
set_option maxRecDepth 100000
def RJ16 : String := "java/lang/AbstractStringBuilder"
abbrev cJ16_compareTo : ByteArray := prog_30_method_5_code
def yJ16_compareTo : MethodName := ⟨RJ16, "compareTo", "(Ljava/lang/AbstractStringBuilder;)I"⟩
def dkwJ16_compareTo_4 : List UInt8 := [184, 0, 97, 172]
abbrev dktJ16_compareTo_4 : List UInt8 := dkwJ16_compareTo_4 ++ []
def dkwJ16_compareTo_3 : List UInt8 := [182, 0, 83, 153, 0, 15, 44, 45, 21, 4, 21, 5, 184, 0, 94, 167, 0, 12, 44, 45, 21, 4, 21, 5]
abbrev dktJ16_compareTo_3 : List UInt8 := dkwJ16_compareTo_3 ++ dktJ16_compareTo_4
def dkwJ16_compareTo_2 : List UInt8 := [45, 21, 4, 21, 5, 184, 0, 87, 167, 0, 12, 44, 45, 21, 4, 21, 5, 184, 0, 93, 172, 42]
abbrev dktJ16_compareTo_2 : List UInt8 := dkwJ16_compareTo_2 ++ dktJ16_compareTo_3
def dkwJ16_compareTo_1 : List UInt8 := [180, 0, 79, 54, 5, 42, 180, 0, 22, 43, 180, 0, 22, 160, 0, 32, 42, 182, 0, 83, 153, 0, 15, 44]
abbrev dktJ16_compareTo_1 : List UInt8 := dkwJ16_compareTo_1 ++ dktJ16_compareTo_2
def dkwJ16_compareTo_0 : List UInt8 := [42, 43, 166, 0, 5, 3, 172, 42, 180, 0, 15, 77, 43, 180, 0, 15, 78, 42, 180, 0, 79, 54, 4, 43]
abbrev dktJ16_compareTo_0 : List UInt8 := dkwJ16_compareTo_0 ++ dktJ16_compareTo_1
theorem dksJ16_compareTo_0 : cJ16_compareTo.data.toList.drop 0 = dktJ16_compareTo_0 := by decide +kernel
theorem dksJ16_compareTo_1 : cJ16_compareTo.data.toList.drop 24 = dktJ16_compareTo_1 := dk_seg dksJ16_compareTo_0 24 rfl rfl
theorem dksJ16_compareTo_2 : cJ16_compareTo.data.toList.drop 48 = dktJ16_compareTo_2 := dk_seg dksJ16_compareTo_1 24 rfl rfl
theorem dksJ16_compareTo_3 : cJ16_compareTo.data.toList.drop 70 = dktJ16_compareTo_3 := dk_seg dksJ16_compareTo_2 22 rfl rfl
theorem dksJ16_compareTo_4 : cJ16_compareTo.data.toList.drop 94 = dktJ16_compareTo_4 := dk_seg dksJ16_compareTo_3 24 rfl rfl
theorem dJ16_compareTo_0 : decode cJ16_compareTo 0 = .ok (.aload_n 0, 1) := dk_42 (dk_at dksJ16_compareTo_0 0 rfl rfl)
theorem dJ16_compareTo_1 : decode cJ16_compareTo 1 = .ok (.aload_n 1, 1) := dk_43 (dk_at dksJ16_compareTo_0 1 rfl rfl)
theorem dJ16_compareTo_2 : decode cJ16_compareTo 2 = .ok (.if_acmp .ne 5, 3) := dk_166 0 5 (dk_at dksJ16_compareTo_0 2 rfl rfl)
theorem dJ16_compareTo_5 : decode cJ16_compareTo 5 = .ok (.iconst 0, 1) := dk_3 (dk_at dksJ16_compareTo_0 5 rfl rfl)
theorem dJ16_compareTo_6 : decode cJ16_compareTo 6 = .ok (.ireturn, 1) := dk_172 (dk_at dksJ16_compareTo_0 6 rfl rfl)
theorem dJ16_compareTo_7 : decode cJ16_compareTo 7 = .ok (.aload_n 0, 1) := dk_42 (dk_at dksJ16_compareTo_0 7 rfl rfl)
theorem dJ16_compareTo_8 : decode cJ16_compareTo 8 = .ok (.getfield 15, 3) := dk_180 0 15 (dk_at dksJ16_compareTo_0 8 rfl rfl)
theorem dJ16_compareTo_11 : decode cJ16_compareTo 11 = .ok (.astore_n 2, 1) := dk_77 (dk_at dksJ16_compareTo_0 11 rfl rfl)
theorem dJ16_compareTo_12 : decode cJ16_compareTo 12 = .ok (.aload_n 1, 1) := dk_43 (dk_at dksJ16_compareTo_0 12 rfl rfl)
theorem dJ16_compareTo_13 : decode cJ16_compareTo 13 = .ok (.getfield 15, 3) := dk_180 0 15 (dk_at dksJ16_compareTo_0 13 rfl rfl)
theorem dJ16_compareTo_16 : decode cJ16_compareTo 16 = .ok (.astore_n 3, 1) := dk_78 (dk_at dksJ16_compareTo_0 16 rfl rfl)
theorem dJ16_compareTo_17 : decode cJ16_compareTo 17 = .ok (.aload_n 0, 1) := dk_42 (dk_at dksJ16_compareTo_0 17 rfl rfl)
theorem dJ16_compareTo_18 : decode cJ16_compareTo 18 = .ok (.getfield 79, 3) := dk_180 0 79 (dk_at dksJ16_compareTo_0 18 rfl rfl)
theorem dJ16_compareTo_21 : decode cJ16_compareTo 21 = .ok (.istore 4, 2) := dk_54 4 (dk_at dksJ16_compareTo_0 21 rfl rfl)
theorem dJ16_compareTo_23 : decode cJ16_compareTo 23 = .ok (.aload_n 1, 1) := dk_43 (dk_at dksJ16_compareTo_0 23 rfl rfl)
theorem dJ16_compareTo_24 : decode cJ16_compareTo 24 = .ok (.getfield 79, 3) := dk_180 0 79 (dk_at dksJ16_compareTo_1 0 rfl rfl)
theorem dJ16_compareTo_27 : decode cJ16_compareTo 27 = .ok (.istore 5, 2) := dk_54 5 (dk_at dksJ16_compareTo_1 3 rfl rfl)
theorem dJ16_compareTo_29 : decode cJ16_compareTo 29 = .ok (.aload_n 0, 1) := dk_42 (dk_at dksJ16_compareTo_1 5 rfl rfl)
theorem dJ16_compareTo_30 : decode cJ16_compareTo 30 = .ok (.getfield 22, 3) := dk_180 0 22 (dk_at dksJ16_compareTo_1 6 rfl rfl)
theorem dJ16_compareTo_33 : decode cJ16_compareTo 33 = .ok (.aload_n 1, 1) := dk_43 (dk_at dksJ16_compareTo_1 9 rfl rfl)
theorem dJ16_compareTo_34 : decode cJ16_compareTo 34 = .ok (.getfield 22, 3) := dk_180 0 22 (dk_at dksJ16_compareTo_1 10 rfl rfl)
theorem dJ16_compareTo_37 : decode cJ16_compareTo 37 = .ok (.if_icmp .ne 32, 3) := dk_160 0 32 (dk_at dksJ16_compareTo_1 13 rfl rfl)
theorem dJ16_compareTo_40 : decode cJ16_compareTo 40 = .ok (.aload_n 0, 1) := dk_42 (dk_at dksJ16_compareTo_1 16 rfl rfl)
theorem dJ16_compareTo_41 : decode cJ16_compareTo 41 = .ok (.invokevirtual 83, 3) := dk_182 0 83 (dk_at dksJ16_compareTo_1 17 rfl rfl)
theorem dJ16_compareTo_44 : decode cJ16_compareTo 44 = .ok (.ifCond .eq 15, 3) := dk_153 0 15 (dk_at dksJ16_compareTo_1 20 rfl rfl)
theorem dJ16_compareTo_47 : decode cJ16_compareTo 47 = .ok (.aload_n 2, 1) := dk_44 (dk_at dksJ16_compareTo_1 23 rfl rfl)
theorem dJ16_compareTo_48 : decode cJ16_compareTo 48 = .ok (.aload_n 3, 1) := dk_45 (dk_at dksJ16_compareTo_2 0 rfl rfl)
theorem dJ16_compareTo_49 : decode cJ16_compareTo 49 = .ok (.iload 4, 2) := dk_21 4 (dk_at dksJ16_compareTo_2 1 rfl rfl)
theorem dJ16_compareTo_51 : decode cJ16_compareTo 51 = .ok (.iload 5, 2) := dk_21 5 (dk_at dksJ16_compareTo_2 3 rfl rfl)
theorem dJ16_compareTo_53 : decode cJ16_compareTo 53 = .ok (.invokestatic 87, 3) := dk_184 0 87 (dk_at dksJ16_compareTo_2 5 rfl rfl)
theorem dJ16_compareTo_56 : decode cJ16_compareTo 56 = .ok (.goto 12, 3) := dk_167 0 12 (dk_at dksJ16_compareTo_2 8 rfl rfl)
theorem dJ16_compareTo_59 : decode cJ16_compareTo 59 = .ok (.aload_n 2, 1) := dk_44 (dk_at dksJ16_compareTo_2 11 rfl rfl)
theorem dJ16_compareTo_60 : decode cJ16_compareTo 60 = .ok (.aload_n 3, 1) := dk_45 (dk_at dksJ16_compareTo_2 12 rfl rfl)
theorem dJ16_compareTo_61 : decode cJ16_compareTo 61 = .ok (.iload 4, 2) := dk_21 4 (dk_at dksJ16_compareTo_2 13 rfl rfl)
theorem dJ16_compareTo_63 : decode cJ16_compareTo 63 = .ok (.iload 5, 2) := dk_21 5 (dk_at dksJ16_compareTo_2 15 rfl rfl)
theorem dJ16_compareTo_65 : decode cJ16_compareTo 65 = .ok (.invokestatic 93, 3) := dk_184 0 93 (dk_at dksJ16_compareTo_2 17 rfl rfl)
theorem dJ16_compareTo_68 : decode cJ16_compareTo 68 = .ok (.ireturn, 1) := dk_172 (dk_at dksJ16_compareTo_2 20 rfl rfl)
theorem dJ16_compareTo_69 : decode cJ16_compareTo 69 = .ok (.aload_n 0, 1) := dk_42 (dk_at dksJ16_compareTo_2 21 rfl rfl)
theorem dJ16_compareTo_70 : decode cJ16_compareTo 70 = .ok (.invokevirtual 83, 3) := dk_182 0 83 (dk_at dksJ16_compareTo_3 0 rfl rfl)
theorem dJ16_compareTo_73 : decode cJ16_compareTo 73 = .ok (.ifCond .eq 15, 3) := dk_153 0 15 (dk_at dksJ16_compareTo_3 3 rfl rfl)
theorem dJ16_compareTo_76 : decode cJ16_compareTo 76 = .ok (.aload_n 2, 1) := dk_44 (dk_at dksJ16_compareTo_3 6 rfl rfl)
theorem dJ16_compareTo_77 : decode cJ16_compareTo 77 = .ok (.aload_n 3, 1) := dk_45 (dk_at dksJ16_compareTo_3 7 rfl rfl)
theorem dJ16_compareTo_78 : decode cJ16_compareTo 78 = .ok (.iload 4, 2) := dk_21 4 (dk_at dksJ16_compareTo_3 8 rfl rfl)
theorem dJ16_compareTo_80 : decode cJ16_compareTo 80 = .ok (.iload 5, 2) := dk_21 5 (dk_at dksJ16_compareTo_3 10 rfl rfl)
theorem dJ16_compareTo_82 : decode cJ16_compareTo 82 = .ok (.invokestatic 94, 3) := dk_184 0 94 (dk_at dksJ16_compareTo_3 12 rfl rfl)
theorem dJ16_compareTo_85 : decode cJ16_compareTo 85 = .ok (.goto 12, 3) := dk_167 0 12 (dk_at dksJ16_compareTo_3 15 rfl rfl)
theorem dJ16_compareTo_88 : decode cJ16_compareTo 88 = .ok (.aload_n 2, 1) := dk_44 (dk_at dksJ16_compareTo_3 18 rfl rfl)
theorem dJ16_compareTo_89 : decode cJ16_compareTo 89 = .ok (.aload_n 3, 1) := dk_45 (dk_at dksJ16_compareTo_3 19 rfl rfl)
theorem dJ16_compareTo_90 : decode cJ16_compareTo 90 = .ok (.iload 4, 2) := dk_21 4 (dk_at dksJ16_compareTo_3 20 rfl rfl)
theorem dJ16_compareTo_92 : decode cJ16_compareTo 92 = .ok (.iload 5, 2) := dk_21 5 (dk_at dksJ16_compareTo_3 22 rfl rfl)
theorem dJ16_compareTo_94 : decode cJ16_compareTo 94 = .ok (.invokestatic 97, 3) := dk_184 0 97 (dk_at dksJ16_compareTo_4 0 rfl rfl)
theorem dJ16_compareTo_97 : decode cJ16_compareTo 97 = .ok (.ireturn, 1) := dk_172 (dk_at dksJ16_compareTo_4 3 rfl rfl)
abbrev cJ16_isLatin1 : ByteArray := prog_30_method_68_code
def yJ16_isLatin1 : MethodName := ⟨RJ16, "isLatin1", "()Z"⟩
def dkwJ16_isLatin1_0 : List UInt8 := [178, 0, 18, 153, 0, 14, 42, 180, 0, 22, 154, 0, 7, 4, 167, 0, 4, 3, 172]
abbrev dktJ16_isLatin1_0 : List UInt8 := dkwJ16_isLatin1_0 ++ []
theorem dksJ16_isLatin1_0 : cJ16_isLatin1.data.toList.drop 0 = dktJ16_isLatin1_0 := by decide +kernel
theorem dJ16_isLatin1_0 : decode cJ16_isLatin1 0 = .ok (.getstatic 18, 3) := dk_178 0 18 (dk_at dksJ16_isLatin1_0 0 rfl rfl)
theorem dJ16_isLatin1_3 : decode cJ16_isLatin1 3 = .ok (.ifCond .eq 14, 3) := dk_153 0 14 (dk_at dksJ16_isLatin1_0 3 rfl rfl)
theorem dJ16_isLatin1_6 : decode cJ16_isLatin1 6 = .ok (.aload_n 0, 1) := dk_42 (dk_at dksJ16_isLatin1_0 6 rfl rfl)
theorem dJ16_isLatin1_7 : decode cJ16_isLatin1 7 = .ok (.getfield 22, 3) := dk_180 0 22 (dk_at dksJ16_isLatin1_0 7 rfl rfl)
theorem dJ16_isLatin1_10 : decode cJ16_isLatin1 10 = .ok (.ifCond .ne 7, 3) := dk_154 0 7 (dk_at dksJ16_isLatin1_0 10 rfl rfl)
theorem dJ16_isLatin1_13 : decode cJ16_isLatin1 13 = .ok (.iconst 1, 1) := dk_4 (dk_at dksJ16_isLatin1_0 13 rfl rfl)
theorem dJ16_isLatin1_14 : decode cJ16_isLatin1 14 = .ok (.goto 4, 3) := dk_167 0 4 (dk_at dksJ16_isLatin1_0 14 rfl rfl)
theorem dJ16_isLatin1_17 : decode cJ16_isLatin1 17 = .ok (.iconst 0, 1) := dk_3 (dk_at dksJ16_isLatin1_0 17 rfl rfl)
theorem dJ16_isLatin1_18 : decode cJ16_isLatin1 18 = .ok (.ireturn, 1) := dk_172 (dk_at dksJ16_isLatin1_0 18 rfl rfl)
abbrev cJ16_init : ByteArray := prog_30_method_2_code
def yJ16_init : MethodName := ⟨RJ16, "<init>", "(I)V"⟩
def dkwJ16_init_1 : List UInt8 := [167, 0, 16, 42, 27, 184, 0, 26, 181, 0, 15, 42, 4, 181, 0, 22, 177]
abbrev dktJ16_init_1 : List UInt8 := dkwJ16_init_1 ++ []
def dkwJ16_init_0 : List UInt8 := [42, 183, 0, 3, 178, 0, 18, 153, 0, 18, 42, 27, 188, 8, 181, 0, 15, 42, 3, 181, 0, 22]
abbrev dktJ16_init_0 : List UInt8 := dkwJ16_init_0 ++ dktJ16_init_1
theorem dksJ16_init_0 : cJ16_init.data.toList.drop 0 = dktJ16_init_0 := by decide +kernel
theorem dksJ16_init_1 : cJ16_init.data.toList.drop 22 = dktJ16_init_1 := dk_seg dksJ16_init_0 22 rfl rfl
theorem dJ16_init_0 : decode cJ16_init 0 = .ok (.aload_n 0, 1) := dk_42 (dk_at dksJ16_init_0 0 rfl rfl)
theorem dJ16_init_1 : decode cJ16_init 1 = .ok (.invokespecial 3, 3) := dk_183 0 3 (dk_at dksJ16_init_0 1 rfl rfl)
theorem dJ16_init_4 : decode cJ16_init 4 = .ok (.getstatic 18, 3) := dk_178 0 18 (dk_at dksJ16_init_0 4 rfl rfl)
theorem dJ16_init_7 : decode cJ16_init 7 = .ok (.ifCond .eq 18, 3) := dk_153 0 18 (dk_at dksJ16_init_0 7 rfl rfl)
theorem dJ16_init_10 : decode cJ16_init 10 = .ok (.aload_n 0, 1) := dk_42 (dk_at dksJ16_init_0 10 rfl rfl)
theorem dJ16_init_11 : decode cJ16_init 11 = .ok (.iload_n 1, 1) := dk_27 (dk_at dksJ16_init_0 11 rfl rfl)
theorem dJ16_init_12 : decode cJ16_init 12 = .ok (.newarray .byte, 2) := dk_188_8 (dk_at dksJ16_init_0 12 rfl rfl)
theorem dJ16_init_14 : decode cJ16_init 14 = .ok (.putfield 15, 3) := dk_181 0 15 (dk_at dksJ16_init_0 14 rfl rfl)
theorem dJ16_init_17 : decode cJ16_init 17 = .ok (.aload_n 0, 1) := dk_42 (dk_at dksJ16_init_0 17 rfl rfl)
theorem dJ16_init_18 : decode cJ16_init 18 = .ok (.iconst 0, 1) := dk_3 (dk_at dksJ16_init_0 18 rfl rfl)
theorem dJ16_init_19 : decode cJ16_init 19 = .ok (.putfield 22, 3) := dk_181 0 22 (dk_at dksJ16_init_0 19 rfl rfl)
theorem dJ16_init_22 : decode cJ16_init 22 = .ok (.goto 16, 3) := dk_167 0 16 (dk_at dksJ16_init_1 0 rfl rfl)
theorem dJ16_init_25 : decode cJ16_init 25 = .ok (.aload_n 0, 1) := dk_42 (dk_at dksJ16_init_1 3 rfl rfl)
theorem dJ16_init_26 : decode cJ16_init 26 = .ok (.iload_n 1, 1) := dk_27 (dk_at dksJ16_init_1 4 rfl rfl)
theorem dJ16_init_27 : decode cJ16_init 27 = .ok (.invokestatic 26, 3) := dk_184 0 26 (dk_at dksJ16_init_1 5 rfl rfl)
theorem dJ16_init_30 : decode cJ16_init 30 = .ok (.putfield 15, 3) := dk_181 0 15 (dk_at dksJ16_init_1 8 rfl rfl)
theorem dJ16_init_33 : decode cJ16_init 33 = .ok (.aload_n 0, 1) := dk_42 (dk_at dksJ16_init_1 11 rfl rfl)
theorem dJ16_init_34 : decode cJ16_init 34 = .ok (.iconst 1, 1) := dk_4 (dk_at dksJ16_init_1 12 rfl rfl)
theorem dJ16_init_35 : decode cJ16_init 35 = .ok (.putfield 22, 3) := dk_181 0 22 (dk_at dksJ16_init_1 13 rfl rfl)
theorem dJ16_init_38 : decode cJ16_init 38 = .ok (.return_, 1) := dk_177 (dk_at dksJ16_init_1 16 rfl rfl)
abbrev cJ16_length : ByteArray := prog_30_method_6_code
def yJ16_length : MethodName := ⟨RJ16, "length", "()I"⟩
theorem dJ16_length_0 : decode cJ16_length 0 = .ok (.aload_n 0, 1) := by decide +kernel
theorem dJ16_length_1 : decode cJ16_length 1 = .ok (.getfield 79, 3) := by decide +kernel
theorem dJ16_length_4 : decode cJ16_length 4 = .ok (.ireturn, 1) := by decide +kernel
abbrev cJ16_append : ByteArray := prog_30_method_31_code
def yJ16_append : MethodName := ⟨RJ16, "append", "(C)Ljava/lang/AbstractStringBuilder;"⟩
def dkwJ16_append_3 : List UInt8 := [181, 0, 79, 27, 184, 0, 197, 42, 176]
abbrev dktJ16_append_3 : List UInt8 := dkwJ16_append_3 ++ []
def dkwJ16_append_2 : List UInt8 := [182, 0, 83, 153, 0, 7, 42, 182, 0, 195, 42, 180, 0, 15, 42, 89, 180, 0, 79, 90, 4, 96]
abbrev dktJ16_append_2 : List UInt8 := dkwJ16_append_2 ++ dktJ16_append_3
def dkwJ16_append_1 : List UInt8 := [42, 180, 0, 15, 42, 89, 180, 0, 79, 90, 4, 96, 181, 0, 79, 27, 145, 84, 167, 0, 33, 42]
abbrev dktJ16_append_1 : List UInt8 := dkwJ16_append_1 ++ dktJ16_append_2
def dkwJ16_append_0 : List UInt8 := [42, 42, 180, 0, 79, 4, 96, 182, 0, 100, 42, 182, 0, 83, 153, 0, 31, 27, 184, 0, 191, 153, 0, 24]
abbrev dktJ16_append_0 : List UInt8 := dkwJ16_append_0 ++ dktJ16_append_1
theorem dksJ16_append_0 : cJ16_append.data.toList.drop 0 = dktJ16_append_0 := by decide +kernel
theorem dksJ16_append_1 : cJ16_append.data.toList.drop 24 = dktJ16_append_1 := dk_seg dksJ16_append_0 24 rfl rfl
theorem dksJ16_append_2 : cJ16_append.data.toList.drop 46 = dktJ16_append_2 := dk_seg dksJ16_append_1 22 rfl rfl
theorem dksJ16_append_3 : cJ16_append.data.toList.drop 68 = dktJ16_append_3 := dk_seg dksJ16_append_2 22 rfl rfl
theorem dJ16_append_0 : decode cJ16_append 0 = .ok (.aload_n 0, 1) := dk_42 (dk_at dksJ16_append_0 0 rfl rfl)
theorem dJ16_append_1 : decode cJ16_append 1 = .ok (.aload_n 0, 1) := dk_42 (dk_at dksJ16_append_0 1 rfl rfl)
theorem dJ16_append_2 : decode cJ16_append 2 = .ok (.getfield 79, 3) := dk_180 0 79 (dk_at dksJ16_append_0 2 rfl rfl)
theorem dJ16_append_5 : decode cJ16_append 5 = .ok (.iconst 1, 1) := dk_4 (dk_at dksJ16_append_0 5 rfl rfl)
theorem dJ16_append_6 : decode cJ16_append 6 = .ok (.iadd, 1) := dk_96 (dk_at dksJ16_append_0 6 rfl rfl)
theorem dJ16_append_7 : decode cJ16_append 7 = .ok (.invokevirtual 100, 3) := dk_182 0 100 (dk_at dksJ16_append_0 7 rfl rfl)
theorem dJ16_append_10 : decode cJ16_append 10 = .ok (.aload_n 0, 1) := dk_42 (dk_at dksJ16_append_0 10 rfl rfl)
theorem dJ16_append_11 : decode cJ16_append 11 = .ok (.invokevirtual 83, 3) := dk_182 0 83 (dk_at dksJ16_append_0 11 rfl rfl)
theorem dJ16_append_14 : decode cJ16_append 14 = .ok (.ifCond .eq 31, 3) := dk_153 0 31 (dk_at dksJ16_append_0 14 rfl rfl)
theorem dJ16_append_17 : decode cJ16_append 17 = .ok (.iload_n 1, 1) := dk_27 (dk_at dksJ16_append_0 17 rfl rfl)
theorem dJ16_append_18 : decode cJ16_append 18 = .ok (.invokestatic 191, 3) := dk_184 0 191 (dk_at dksJ16_append_0 18 rfl rfl)
theorem dJ16_append_21 : decode cJ16_append 21 = .ok (.ifCond .eq 24, 3) := dk_153 0 24 (dk_at dksJ16_append_0 21 rfl rfl)
theorem dJ16_append_24 : decode cJ16_append 24 = .ok (.aload_n 0, 1) := dk_42 (dk_at dksJ16_append_1 0 rfl rfl)
theorem dJ16_append_25 : decode cJ16_append 25 = .ok (.getfield 15, 3) := dk_180 0 15 (dk_at dksJ16_append_1 1 rfl rfl)
theorem dJ16_append_28 : decode cJ16_append 28 = .ok (.aload_n 0, 1) := dk_42 (dk_at dksJ16_append_1 4 rfl rfl)
theorem dJ16_append_29 : decode cJ16_append 29 = .ok (.dup, 1) := dk_89 (dk_at dksJ16_append_1 5 rfl rfl)
theorem dJ16_append_30 : decode cJ16_append 30 = .ok (.getfield 79, 3) := dk_180 0 79 (dk_at dksJ16_append_1 6 rfl rfl)
theorem dJ16_append_33 : decode cJ16_append 33 = .ok (.dup_x1, 1) := dk_90 (dk_at dksJ16_append_1 9 rfl rfl)
theorem dJ16_append_34 : decode cJ16_append 34 = .ok (.iconst 1, 1) := dk_4 (dk_at dksJ16_append_1 10 rfl rfl)
theorem dJ16_append_35 : decode cJ16_append 35 = .ok (.iadd, 1) := dk_96 (dk_at dksJ16_append_1 11 rfl rfl)
theorem dJ16_append_36 : decode cJ16_append 36 = .ok (.putfield 79, 3) := dk_181 0 79 (dk_at dksJ16_append_1 12 rfl rfl)
theorem dJ16_append_39 : decode cJ16_append 39 = .ok (.iload_n 1, 1) := dk_27 (dk_at dksJ16_append_1 15 rfl rfl)
theorem dJ16_append_40 : decode cJ16_append 40 = .ok (.i2b, 1) := dk_145 (dk_at dksJ16_append_1 16 rfl rfl)
theorem dJ16_append_41 : decode cJ16_append 41 = .ok (.bastore, 1) := dk_84 (dk_at dksJ16_append_1 17 rfl rfl)
theorem dJ16_append_42 : decode cJ16_append 42 = .ok (.goto 33, 3) := dk_167 0 33 (dk_at dksJ16_append_1 18 rfl rfl)
theorem dJ16_append_45 : decode cJ16_append 45 = .ok (.aload_n 0, 1) := dk_42 (dk_at dksJ16_append_1 21 rfl rfl)
theorem dJ16_append_46 : decode cJ16_append 46 = .ok (.invokevirtual 83, 3) := dk_182 0 83 (dk_at dksJ16_append_2 0 rfl rfl)
theorem dJ16_append_49 : decode cJ16_append 49 = .ok (.ifCond .eq 7, 3) := dk_153 0 7 (dk_at dksJ16_append_2 3 rfl rfl)
theorem dJ16_append_52 : decode cJ16_append 52 = .ok (.aload_n 0, 1) := dk_42 (dk_at dksJ16_append_2 6 rfl rfl)
theorem dJ16_append_53 : decode cJ16_append 53 = .ok (.invokevirtual 195, 3) := dk_182 0 195 (dk_at dksJ16_append_2 7 rfl rfl)
theorem dJ16_append_56 : decode cJ16_append 56 = .ok (.aload_n 0, 1) := dk_42 (dk_at dksJ16_append_2 10 rfl rfl)
theorem dJ16_append_57 : decode cJ16_append 57 = .ok (.getfield 15, 3) := dk_180 0 15 (dk_at dksJ16_append_2 11 rfl rfl)
theorem dJ16_append_60 : decode cJ16_append 60 = .ok (.aload_n 0, 1) := dk_42 (dk_at dksJ16_append_2 14 rfl rfl)
theorem dJ16_append_61 : decode cJ16_append 61 = .ok (.dup, 1) := dk_89 (dk_at dksJ16_append_2 15 rfl rfl)
theorem dJ16_append_62 : decode cJ16_append 62 = .ok (.getfield 79, 3) := dk_180 0 79 (dk_at dksJ16_append_2 16 rfl rfl)
theorem dJ16_append_65 : decode cJ16_append 65 = .ok (.dup_x1, 1) := dk_90 (dk_at dksJ16_append_2 19 rfl rfl)
theorem dJ16_append_66 : decode cJ16_append 66 = .ok (.iconst 1, 1) := dk_4 (dk_at dksJ16_append_2 20 rfl rfl)
theorem dJ16_append_67 : decode cJ16_append 67 = .ok (.iadd, 1) := dk_96 (dk_at dksJ16_append_2 21 rfl rfl)
theorem dJ16_append_68 : decode cJ16_append 68 = .ok (.putfield 79, 3) := dk_181 0 79 (dk_at dksJ16_append_3 0 rfl rfl)
theorem dJ16_append_71 : decode cJ16_append 71 = .ok (.iload_n 1, 1) := dk_27 (dk_at dksJ16_append_3 3 rfl rfl)
theorem dJ16_append_72 : decode cJ16_append 72 = .ok (.invokestatic 197, 3) := dk_184 0 197 (dk_at dksJ16_append_3 4 rfl rfl)
theorem dJ16_append_75 : decode cJ16_append 75 = .ok (.aload_n 0, 1) := dk_42 (dk_at dksJ16_append_3 7 rfl rfl)
theorem dJ16_append_76 : decode cJ16_append 76 = .ok (.areturn, 1) := dk_176 (dk_at dksJ16_append_3 8 rfl rfl)
abbrev cJ16_ensureCapacityInternal : ByteArray := prog_30_method_9_code
def yJ16_ensureCapacityInternal : MethodName := ⟨RJ16, "ensureCapacityInternal", "(I)V"⟩
def dkwJ16_ensureCapacityInternal_1 : List UInt8 := [182, 0, 104, 42, 180, 0, 22, 120, 184, 0, 108, 181, 0, 15, 177]
abbrev dktJ16_ensureCapacityInternal_1 : List UInt8 := dkwJ16_ensureCapacityInternal_1 ++ []
def dkwJ16_ensureCapacityInternal_0 : List UInt8 := [42, 180, 0, 15, 190, 42, 180, 0, 22, 122, 61, 27, 28, 100, 158, 0, 24, 42, 42, 180, 0, 15, 42, 27]
abbrev dktJ16_ensureCapacityInternal_0 : List UInt8 := dkwJ16_ensureCapacityInternal_0 ++ dktJ16_ensureCapacityInternal_1
theorem dksJ16_ensureCapacityInternal_0 : cJ16_ensureCapacityInternal.data.toList.drop 0 = dktJ16_ensureCapacityInternal_0 := by decide +kernel
theorem dksJ16_ensureCapacityInternal_1 : cJ16_ensureCapacityInternal.data.toList.drop 24 = dktJ16_ensureCapacityInternal_1 := dk_seg dksJ16_ensureCapacityInternal_0 24 rfl rfl
theorem dJ16_ensureCapacityInternal_0 : decode cJ16_ensureCapacityInternal 0 = .ok (.aload_n 0, 1) := dk_42 (dk_at dksJ16_ensureCapacityInternal_0 0 rfl rfl)
theorem dJ16_ensureCapacityInternal_1 : decode cJ16_ensureCapacityInternal 1 = .ok (.getfield 15, 3) := dk_180 0 15 (dk_at dksJ16_ensureCapacityInternal_0 1 rfl rfl)
theorem dJ16_ensureCapacityInternal_4 : decode cJ16_ensureCapacityInternal 4 = .ok (.arraylength, 1) := dk_190 (dk_at dksJ16_ensureCapacityInternal_0 4 rfl rfl)
theorem dJ16_ensureCapacityInternal_5 : decode cJ16_ensureCapacityInternal 5 = .ok (.aload_n 0, 1) := dk_42 (dk_at dksJ16_ensureCapacityInternal_0 5 rfl rfl)
theorem dJ16_ensureCapacityInternal_6 : decode cJ16_ensureCapacityInternal 6 = .ok (.getfield 22, 3) := dk_180 0 22 (dk_at dksJ16_ensureCapacityInternal_0 6 rfl rfl)
theorem dJ16_ensureCapacityInternal_9 : decode cJ16_ensureCapacityInternal 9 = .ok (.ishr, 1) := dk_122 (dk_at dksJ16_ensureCapacityInternal_0 9 rfl rfl)
theorem dJ16_ensureCapacityInternal_10 : decode cJ16_ensureCapacityInternal 10 = .ok (.istore_n 2, 1) := dk_61 (dk_at dksJ16_ensureCapacityInternal_0 10 rfl rfl)
theorem dJ16_ensureCapacityInternal_11 : decode cJ16_ensureCapacityInternal 11 = .ok (.iload_n 1, 1) := dk_27 (dk_at dksJ16_ensureCapacityInternal_0 11 rfl rfl)
theorem dJ16_ensureCapacityInternal_12 : decode cJ16_ensureCapacityInternal 12 = .ok (.iload_n 2, 1) := dk_28 (dk_at dksJ16_ensureCapacityInternal_0 12 rfl rfl)
theorem dJ16_ensureCapacityInternal_13 : decode cJ16_ensureCapacityInternal 13 = .ok (.isub, 1) := dk_100 (dk_at dksJ16_ensureCapacityInternal_0 13 rfl rfl)
theorem dJ16_ensureCapacityInternal_14 : decode cJ16_ensureCapacityInternal 14 = .ok (.ifCond .le 24, 3) := dk_158 0 24 (dk_at dksJ16_ensureCapacityInternal_0 14 rfl rfl)
theorem dJ16_ensureCapacityInternal_17 : decode cJ16_ensureCapacityInternal 17 = .ok (.aload_n 0, 1) := dk_42 (dk_at dksJ16_ensureCapacityInternal_0 17 rfl rfl)
theorem dJ16_ensureCapacityInternal_18 : decode cJ16_ensureCapacityInternal 18 = .ok (.aload_n 0, 1) := dk_42 (dk_at dksJ16_ensureCapacityInternal_0 18 rfl rfl)
theorem dJ16_ensureCapacityInternal_19 : decode cJ16_ensureCapacityInternal 19 = .ok (.getfield 15, 3) := dk_180 0 15 (dk_at dksJ16_ensureCapacityInternal_0 19 rfl rfl)
theorem dJ16_ensureCapacityInternal_22 : decode cJ16_ensureCapacityInternal 22 = .ok (.aload_n 0, 1) := dk_42 (dk_at dksJ16_ensureCapacityInternal_0 22 rfl rfl)
theorem dJ16_ensureCapacityInternal_23 : decode cJ16_ensureCapacityInternal 23 = .ok (.iload_n 1, 1) := dk_27 (dk_at dksJ16_ensureCapacityInternal_0 23 rfl rfl)
theorem dJ16_ensureCapacityInternal_24 : decode cJ16_ensureCapacityInternal 24 = .ok (.invokevirtual 104, 3) := dk_182 0 104 (dk_at dksJ16_ensureCapacityInternal_1 0 rfl rfl)
theorem dJ16_ensureCapacityInternal_27 : decode cJ16_ensureCapacityInternal 27 = .ok (.aload_n 0, 1) := dk_42 (dk_at dksJ16_ensureCapacityInternal_1 3 rfl rfl)
theorem dJ16_ensureCapacityInternal_28 : decode cJ16_ensureCapacityInternal 28 = .ok (.getfield 22, 3) := dk_180 0 22 (dk_at dksJ16_ensureCapacityInternal_1 4 rfl rfl)
theorem dJ16_ensureCapacityInternal_31 : decode cJ16_ensureCapacityInternal 31 = .ok (.ishl, 1) := dk_120 (dk_at dksJ16_ensureCapacityInternal_1 7 rfl rfl)
theorem dJ16_ensureCapacityInternal_32 : decode cJ16_ensureCapacityInternal 32 = .ok (.invokestatic 108, 3) := dk_184 0 108 (dk_at dksJ16_ensureCapacityInternal_1 8 rfl rfl)
theorem dJ16_ensureCapacityInternal_35 : decode cJ16_ensureCapacityInternal 35 = .ok (.putfield 15, 3) := dk_181 0 15 (dk_at dksJ16_ensureCapacityInternal_1 11 rfl rfl)
theorem dJ16_ensureCapacityInternal_38 : decode cJ16_ensureCapacityInternal 38 = .ok (.return_, 1) := dk_177 (dk_at dksJ16_ensureCapacityInternal_1 14 rfl rfl)
abbrev cJ16_newCapacity : ByteArray := prog_30_method_10_code
def yJ16_newCapacity : MethodName := ⟨RJ16, "newCapacity", "(I)I"⟩
def dkwJ16_newCapacity_2 : List UInt8 := [183, 0, 124, 191, 21, 5, 42, 180, 0, 22, 122, 172]
abbrev dktJ16_newCapacity_2 : List UInt8 := dkwJ16_newCapacity_2 ++ []
def dkwJ16_newCapacity_1 : List UInt8 := [180, 0, 22, 120, 96, 184, 0, 114, 54, 5, 21, 5, 18, 39, 160, 0, 13, 187, 0, 120, 89, 18, 122]
abbrev dktJ16_newCapacity_1 : List UInt8 := dkwJ16_newCapacity_1 ++ dktJ16_newCapacity_2
def dkwJ16_newCapacity_0 : List UInt8 := [42, 180, 0, 15, 190, 61, 27, 42, 180, 0, 22, 120, 62, 29, 28, 100, 54, 4, 28, 21, 4, 28, 5, 42]
abbrev dktJ16_newCapacity_0 : List UInt8 := dkwJ16_newCapacity_0 ++ dktJ16_newCapacity_1
theorem dksJ16_newCapacity_0 : cJ16_newCapacity.data.toList.drop 0 = dktJ16_newCapacity_0 := by decide +kernel
theorem dksJ16_newCapacity_1 : cJ16_newCapacity.data.toList.drop 24 = dktJ16_newCapacity_1 := dk_seg dksJ16_newCapacity_0 24 rfl rfl
theorem dksJ16_newCapacity_2 : cJ16_newCapacity.data.toList.drop 47 = dktJ16_newCapacity_2 := dk_seg dksJ16_newCapacity_1 23 rfl rfl
theorem dJ16_newCapacity_0 : decode cJ16_newCapacity 0 = .ok (.aload_n 0, 1) := dk_42 (dk_at dksJ16_newCapacity_0 0 rfl rfl)
theorem dJ16_newCapacity_1 : decode cJ16_newCapacity 1 = .ok (.getfield 15, 3) := dk_180 0 15 (dk_at dksJ16_newCapacity_0 1 rfl rfl)
theorem dJ16_newCapacity_4 : decode cJ16_newCapacity 4 = .ok (.arraylength, 1) := dk_190 (dk_at dksJ16_newCapacity_0 4 rfl rfl)
theorem dJ16_newCapacity_5 : decode cJ16_newCapacity 5 = .ok (.istore_n 2, 1) := dk_61 (dk_at dksJ16_newCapacity_0 5 rfl rfl)
theorem dJ16_newCapacity_6 : decode cJ16_newCapacity 6 = .ok (.iload_n 1, 1) := dk_27 (dk_at dksJ16_newCapacity_0 6 rfl rfl)
theorem dJ16_newCapacity_7 : decode cJ16_newCapacity 7 = .ok (.aload_n 0, 1) := dk_42 (dk_at dksJ16_newCapacity_0 7 rfl rfl)
theorem dJ16_newCapacity_8 : decode cJ16_newCapacity 8 = .ok (.getfield 22, 3) := dk_180 0 22 (dk_at dksJ16_newCapacity_0 8 rfl rfl)
theorem dJ16_newCapacity_11 : decode cJ16_newCapacity 11 = .ok (.ishl, 1) := dk_120 (dk_at dksJ16_newCapacity_0 11 rfl rfl)
theorem dJ16_newCapacity_12 : decode cJ16_newCapacity 12 = .ok (.istore_n 3, 1) := dk_62 (dk_at dksJ16_newCapacity_0 12 rfl rfl)
theorem dJ16_newCapacity_13 : decode cJ16_newCapacity 13 = .ok (.iload_n 3, 1) := dk_29 (dk_at dksJ16_newCapacity_0 13 rfl rfl)
theorem dJ16_newCapacity_14 : decode cJ16_newCapacity 14 = .ok (.iload_n 2, 1) := dk_28 (dk_at dksJ16_newCapacity_0 14 rfl rfl)
theorem dJ16_newCapacity_15 : decode cJ16_newCapacity 15 = .ok (.isub, 1) := dk_100 (dk_at dksJ16_newCapacity_0 15 rfl rfl)
theorem dJ16_newCapacity_16 : decode cJ16_newCapacity 16 = .ok (.istore 4, 2) := dk_54 4 (dk_at dksJ16_newCapacity_0 16 rfl rfl)
theorem dJ16_newCapacity_18 : decode cJ16_newCapacity 18 = .ok (.iload_n 2, 1) := dk_28 (dk_at dksJ16_newCapacity_0 18 rfl rfl)
theorem dJ16_newCapacity_19 : decode cJ16_newCapacity 19 = .ok (.iload 4, 2) := dk_21 4 (dk_at dksJ16_newCapacity_0 19 rfl rfl)
theorem dJ16_newCapacity_21 : decode cJ16_newCapacity 21 = .ok (.iload_n 2, 1) := dk_28 (dk_at dksJ16_newCapacity_0 21 rfl rfl)
theorem dJ16_newCapacity_22 : decode cJ16_newCapacity 22 = .ok (.iconst 2, 1) := dk_5 (dk_at dksJ16_newCapacity_0 22 rfl rfl)
theorem dJ16_newCapacity_23 : decode cJ16_newCapacity 23 = .ok (.aload_n 0, 1) := dk_42 (dk_at dksJ16_newCapacity_0 23 rfl rfl)
theorem dJ16_newCapacity_24 : decode cJ16_newCapacity 24 = .ok (.getfield 22, 3) := dk_180 0 22 (dk_at dksJ16_newCapacity_1 0 rfl rfl)
theorem dJ16_newCapacity_27 : decode cJ16_newCapacity 27 = .ok (.ishl, 1) := dk_120 (dk_at dksJ16_newCapacity_1 3 rfl rfl)
theorem dJ16_newCapacity_28 : decode cJ16_newCapacity 28 = .ok (.iadd, 1) := dk_96 (dk_at dksJ16_newCapacity_1 4 rfl rfl)
theorem dJ16_newCapacity_29 : decode cJ16_newCapacity 29 = .ok (.invokestatic 114, 3) := dk_184 0 114 (dk_at dksJ16_newCapacity_1 5 rfl rfl)
theorem dJ16_newCapacity_32 : decode cJ16_newCapacity 32 = .ok (.istore 5, 2) := dk_54 5 (dk_at dksJ16_newCapacity_1 8 rfl rfl)
theorem dJ16_newCapacity_34 : decode cJ16_newCapacity 34 = .ok (.iload 5, 2) := dk_21 5 (dk_at dksJ16_newCapacity_1 10 rfl rfl)
theorem dJ16_newCapacity_36 : decode cJ16_newCapacity 36 = .ok (.ldc 39, 2) := dk_18 39 (dk_at dksJ16_newCapacity_1 12 rfl rfl)
theorem dJ16_newCapacity_38 : decode cJ16_newCapacity 38 = .ok (.if_icmp .ne 13, 3) := dk_160 0 13 (dk_at dksJ16_newCapacity_1 14 rfl rfl)
theorem dJ16_newCapacity_41 : decode cJ16_newCapacity 41 = .ok (.new 120, 3) := dk_187 0 120 (dk_at dksJ16_newCapacity_1 17 rfl rfl)
theorem dJ16_newCapacity_44 : decode cJ16_newCapacity 44 = .ok (.dup, 1) := dk_89 (dk_at dksJ16_newCapacity_1 20 rfl rfl)
theorem dJ16_newCapacity_45 : decode cJ16_newCapacity 45 = .ok (.ldc 122, 2) := dk_18 122 (dk_at dksJ16_newCapacity_1 21 rfl rfl)
theorem dJ16_newCapacity_47 : decode cJ16_newCapacity 47 = .ok (.invokespecial 124, 3) := dk_183 0 124 (dk_at dksJ16_newCapacity_2 0 rfl rfl)
theorem dJ16_newCapacity_50 : decode cJ16_newCapacity 50 = .ok (.athrow, 1) := dk_191 (dk_at dksJ16_newCapacity_2 3 rfl rfl)
theorem dJ16_newCapacity_51 : decode cJ16_newCapacity 51 = .ok (.iload 5, 2) := dk_21 5 (dk_at dksJ16_newCapacity_2 4 rfl rfl)
theorem dJ16_newCapacity_53 : decode cJ16_newCapacity 53 = .ok (.aload_n 0, 1) := dk_42 (dk_at dksJ16_newCapacity_2 6 rfl rfl)
theorem dJ16_newCapacity_54 : decode cJ16_newCapacity 54 = .ok (.getfield 22, 3) := dk_180 0 22 (dk_at dksJ16_newCapacity_2 7 rfl rfl)
theorem dJ16_newCapacity_57 : decode cJ16_newCapacity 57 = .ok (.ishr, 1) := dk_122 (dk_at dksJ16_newCapacity_2 10 rfl rfl)
theorem dJ16_newCapacity_58 : decode cJ16_newCapacity 58 = .ok (.ireturn, 1) := dk_172 (dk_at dksJ16_newCapacity_2 11 rfl rfl)
abbrev cJ16_inflate : ByteArray := prog_30_method_11_code
def yJ16_inflate : MethodName := ⟨RJ16, "inflate", "()V"⟩
def dkwJ16_inflate_1 : List UInt8 := [42, 180, 0, 79, 184, 0, 125, 42, 43, 181, 0, 15, 42, 4, 181, 0, 22, 177]
abbrev dktJ16_inflate_1 : List UInt8 := dkwJ16_inflate_1 ++ []
def dkwJ16_inflate_0 : List UInt8 := [42, 182, 0, 83, 154, 0, 4, 177, 42, 180, 0, 15, 190, 184, 0, 26, 76, 42, 180, 0, 15, 3, 43, 3]
abbrev dktJ16_inflate_0 : List UInt8 := dkwJ16_inflate_0 ++ dktJ16_inflate_1
theorem dksJ16_inflate_0 : cJ16_inflate.data.toList.drop 0 = dktJ16_inflate_0 := by decide +kernel
theorem dksJ16_inflate_1 : cJ16_inflate.data.toList.drop 24 = dktJ16_inflate_1 := dk_seg dksJ16_inflate_0 24 rfl rfl
theorem dJ16_inflate_0 : decode cJ16_inflate 0 = .ok (.aload_n 0, 1) := dk_42 (dk_at dksJ16_inflate_0 0 rfl rfl)
theorem dJ16_inflate_1 : decode cJ16_inflate 1 = .ok (.invokevirtual 83, 3) := dk_182 0 83 (dk_at dksJ16_inflate_0 1 rfl rfl)
theorem dJ16_inflate_4 : decode cJ16_inflate 4 = .ok (.ifCond .ne 4, 3) := dk_154 0 4 (dk_at dksJ16_inflate_0 4 rfl rfl)
theorem dJ16_inflate_7 : decode cJ16_inflate 7 = .ok (.return_, 1) := dk_177 (dk_at dksJ16_inflate_0 7 rfl rfl)
theorem dJ16_inflate_8 : decode cJ16_inflate 8 = .ok (.aload_n 0, 1) := dk_42 (dk_at dksJ16_inflate_0 8 rfl rfl)
theorem dJ16_inflate_9 : decode cJ16_inflate 9 = .ok (.getfield 15, 3) := dk_180 0 15 (dk_at dksJ16_inflate_0 9 rfl rfl)
theorem dJ16_inflate_12 : decode cJ16_inflate 12 = .ok (.arraylength, 1) := dk_190 (dk_at dksJ16_inflate_0 12 rfl rfl)
theorem dJ16_inflate_13 : decode cJ16_inflate 13 = .ok (.invokestatic 26, 3) := dk_184 0 26 (dk_at dksJ16_inflate_0 13 rfl rfl)
theorem dJ16_inflate_16 : decode cJ16_inflate 16 = .ok (.astore_n 1, 1) := dk_76 (dk_at dksJ16_inflate_0 16 rfl rfl)
theorem dJ16_inflate_17 : decode cJ16_inflate 17 = .ok (.aload_n 0, 1) := dk_42 (dk_at dksJ16_inflate_0 17 rfl rfl)
theorem dJ16_inflate_18 : decode cJ16_inflate 18 = .ok (.getfield 15, 3) := dk_180 0 15 (dk_at dksJ16_inflate_0 18 rfl rfl)
theorem dJ16_inflate_21 : decode cJ16_inflate 21 = .ok (.iconst 0, 1) := dk_3 (dk_at dksJ16_inflate_0 21 rfl rfl)
theorem dJ16_inflate_22 : decode cJ16_inflate 22 = .ok (.aload_n 1, 1) := dk_43 (dk_at dksJ16_inflate_0 22 rfl rfl)
theorem dJ16_inflate_23 : decode cJ16_inflate 23 = .ok (.iconst 0, 1) := dk_3 (dk_at dksJ16_inflate_0 23 rfl rfl)
theorem dJ16_inflate_24 : decode cJ16_inflate 24 = .ok (.aload_n 0, 1) := dk_42 (dk_at dksJ16_inflate_1 0 rfl rfl)
theorem dJ16_inflate_25 : decode cJ16_inflate 25 = .ok (.getfield 79, 3) := dk_180 0 79 (dk_at dksJ16_inflate_1 1 rfl rfl)
theorem dJ16_inflate_28 : decode cJ16_inflate 28 = .ok (.invokestatic 125, 3) := dk_184 0 125 (dk_at dksJ16_inflate_1 4 rfl rfl)
theorem dJ16_inflate_31 : decode cJ16_inflate 31 = .ok (.aload_n 0, 1) := dk_42 (dk_at dksJ16_inflate_1 7 rfl rfl)
theorem dJ16_inflate_32 : decode cJ16_inflate 32 = .ok (.aload_n 1, 1) := dk_43 (dk_at dksJ16_inflate_1 8 rfl rfl)
theorem dJ16_inflate_33 : decode cJ16_inflate 33 = .ok (.putfield 15, 3) := dk_181 0 15 (dk_at dksJ16_inflate_1 9 rfl rfl)
theorem dJ16_inflate_36 : decode cJ16_inflate 36 = .ok (.aload_n 0, 1) := dk_42 (dk_at dksJ16_inflate_1 12 rfl rfl)
theorem dJ16_inflate_37 : decode cJ16_inflate 37 = .ok (.iconst 1, 1) := dk_4 (dk_at dksJ16_inflate_1 13 rfl rfl)
theorem dJ16_inflate_38 : decode cJ16_inflate 38 = .ok (.putfield 22, 3) := dk_181 0 22 (dk_at dksJ16_inflate_1 14 rfl rfl)
theorem dJ16_inflate_41 : decode cJ16_inflate 41 = .ok (.return_, 1) := dk_177 (dk_at dksJ16_inflate_1 17 rfl rfl)
abbrev cJ16_setLength : ByteArray := prog_30_method_13_code
def yJ16_setLength : MethodName := ⟨RJ16, "setLength", "(I)V"⟩
def dkwJ16_setLength_3 : List UInt8 := [164, 0, 8, 42, 4, 181, 0, 73, 42, 27, 181, 0, 79, 177]
abbrev dktJ16_setLength_3 : List UInt8 := dkwJ16_setLength_3 ++ []
def dkwJ16_setLength_2 : List UInt8 := [167, 0, 31, 42, 180, 0, 15, 42, 180, 0, 79, 27, 184, 0, 137, 167, 0, 16, 42, 180, 0, 79, 27]
abbrev dktJ16_setLength_2 : List UInt8 := dkwJ16_setLength_2 ++ dktJ16_setLength_3
def dkwJ16_setLength_1 : List UInt8 := [162, 0, 40, 42, 182, 0, 83, 153, 0, 18, 42, 180, 0, 15, 42, 180, 0, 79, 27, 184, 0, 133]
abbrev dktJ16_setLength_1 : List UInt8 := dkwJ16_setLength_1 ++ dktJ16_setLength_2
def dkwJ16_setLength_0 : List UInt8 := [27, 156, 0, 12, 187, 0, 129, 89, 27, 183, 0, 131, 191, 42, 27, 182, 0, 100, 42, 180, 0, 79, 27]
abbrev dktJ16_setLength_0 : List UInt8 := dkwJ16_setLength_0 ++ dktJ16_setLength_1
theorem dksJ16_setLength_0 : cJ16_setLength.data.toList.drop 0 = dktJ16_setLength_0 := by decide +kernel
theorem dksJ16_setLength_1 : cJ16_setLength.data.toList.drop 23 = dktJ16_setLength_1 := dk_seg dksJ16_setLength_0 23 rfl rfl
theorem dksJ16_setLength_2 : cJ16_setLength.data.toList.drop 45 = dktJ16_setLength_2 := dk_seg dksJ16_setLength_1 22 rfl rfl
theorem dksJ16_setLength_3 : cJ16_setLength.data.toList.drop 68 = dktJ16_setLength_3 := dk_seg dksJ16_setLength_2 23 rfl rfl
theorem dJ16_setLength_0 : decode cJ16_setLength 0 = .ok (.iload_n 1, 1) := dk_27 (dk_at dksJ16_setLength_0 0 rfl rfl)
theorem dJ16_setLength_1 : decode cJ16_setLength 1 = .ok (.ifCond .ge 12, 3) := dk_156 0 12 (dk_at dksJ16_setLength_0 1 rfl rfl)
theorem dJ16_setLength_4 : decode cJ16_setLength 4 = .ok (.new 129, 3) := dk_187 0 129 (dk_at dksJ16_setLength_0 4 rfl rfl)
theorem dJ16_setLength_7 : decode cJ16_setLength 7 = .ok (.dup, 1) := dk_89 (dk_at dksJ16_setLength_0 7 rfl rfl)
theorem dJ16_setLength_8 : decode cJ16_setLength 8 = .ok (.iload_n 1, 1) := dk_27 (dk_at dksJ16_setLength_0 8 rfl rfl)
theorem dJ16_setLength_9 : decode cJ16_setLength 9 = .ok (.invokespecial 131, 3) := dk_183 0 131 (dk_at dksJ16_setLength_0 9 rfl rfl)
theorem dJ16_setLength_12 : decode cJ16_setLength 12 = .ok (.athrow, 1) := dk_191 (dk_at dksJ16_setLength_0 12 rfl rfl)
theorem dJ16_setLength_13 : decode cJ16_setLength 13 = .ok (.aload_n 0, 1) := dk_42 (dk_at dksJ16_setLength_0 13 rfl rfl)
theorem dJ16_setLength_14 : decode cJ16_setLength 14 = .ok (.iload_n 1, 1) := dk_27 (dk_at dksJ16_setLength_0 14 rfl rfl)
theorem dJ16_setLength_15 : decode cJ16_setLength 15 = .ok (.invokevirtual 100, 3) := dk_182 0 100 (dk_at dksJ16_setLength_0 15 rfl rfl)
theorem dJ16_setLength_18 : decode cJ16_setLength 18 = .ok (.aload_n 0, 1) := dk_42 (dk_at dksJ16_setLength_0 18 rfl rfl)
theorem dJ16_setLength_19 : decode cJ16_setLength 19 = .ok (.getfield 79, 3) := dk_180 0 79 (dk_at dksJ16_setLength_0 19 rfl rfl)
theorem dJ16_setLength_22 : decode cJ16_setLength 22 = .ok (.iload_n 1, 1) := dk_27 (dk_at dksJ16_setLength_0 22 rfl rfl)
theorem dJ16_setLength_23 : decode cJ16_setLength 23 = .ok (.if_icmp .ge 40, 3) := dk_162 0 40 (dk_at dksJ16_setLength_1 0 rfl rfl)
theorem dJ16_setLength_26 : decode cJ16_setLength 26 = .ok (.aload_n 0, 1) := dk_42 (dk_at dksJ16_setLength_1 3 rfl rfl)
theorem dJ16_setLength_27 : decode cJ16_setLength 27 = .ok (.invokevirtual 83, 3) := dk_182 0 83 (dk_at dksJ16_setLength_1 4 rfl rfl)
theorem dJ16_setLength_30 : decode cJ16_setLength 30 = .ok (.ifCond .eq 18, 3) := dk_153 0 18 (dk_at dksJ16_setLength_1 7 rfl rfl)
theorem dJ16_setLength_33 : decode cJ16_setLength 33 = .ok (.aload_n 0, 1) := dk_42 (dk_at dksJ16_setLength_1 10 rfl rfl)
theorem dJ16_setLength_34 : decode cJ16_setLength 34 = .ok (.getfield 15, 3) := dk_180 0 15 (dk_at dksJ16_setLength_1 11 rfl rfl)
theorem dJ16_setLength_37 : decode cJ16_setLength 37 = .ok (.aload_n 0, 1) := dk_42 (dk_at dksJ16_setLength_1 14 rfl rfl)
theorem dJ16_setLength_38 : decode cJ16_setLength 38 = .ok (.getfield 79, 3) := dk_180 0 79 (dk_at dksJ16_setLength_1 15 rfl rfl)
theorem dJ16_setLength_41 : decode cJ16_setLength 41 = .ok (.iload_n 1, 1) := dk_27 (dk_at dksJ16_setLength_1 18 rfl rfl)
theorem dJ16_setLength_42 : decode cJ16_setLength 42 = .ok (.invokestatic 133, 3) := dk_184 0 133 (dk_at dksJ16_setLength_1 19 rfl rfl)
theorem dJ16_setLength_45 : decode cJ16_setLength 45 = .ok (.goto 31, 3) := dk_167 0 31 (dk_at dksJ16_setLength_2 0 rfl rfl)
theorem dJ16_setLength_48 : decode cJ16_setLength 48 = .ok (.aload_n 0, 1) := dk_42 (dk_at dksJ16_setLength_2 3 rfl rfl)
theorem dJ16_setLength_49 : decode cJ16_setLength 49 = .ok (.getfield 15, 3) := dk_180 0 15 (dk_at dksJ16_setLength_2 4 rfl rfl)
theorem dJ16_setLength_52 : decode cJ16_setLength 52 = .ok (.aload_n 0, 1) := dk_42 (dk_at dksJ16_setLength_2 7 rfl rfl)
theorem dJ16_setLength_53 : decode cJ16_setLength 53 = .ok (.getfield 79, 3) := dk_180 0 79 (dk_at dksJ16_setLength_2 8 rfl rfl)
theorem dJ16_setLength_56 : decode cJ16_setLength 56 = .ok (.iload_n 1, 1) := dk_27 (dk_at dksJ16_setLength_2 11 rfl rfl)
theorem dJ16_setLength_57 : decode cJ16_setLength 57 = .ok (.invokestatic 137, 3) := dk_184 0 137 (dk_at dksJ16_setLength_2 12 rfl rfl)
theorem dJ16_setLength_60 : decode cJ16_setLength 60 = .ok (.goto 16, 3) := dk_167 0 16 (dk_at dksJ16_setLength_2 15 rfl rfl)
theorem dJ16_setLength_63 : decode cJ16_setLength 63 = .ok (.aload_n 0, 1) := dk_42 (dk_at dksJ16_setLength_2 18 rfl rfl)
theorem dJ16_setLength_64 : decode cJ16_setLength 64 = .ok (.getfield 79, 3) := dk_180 0 79 (dk_at dksJ16_setLength_2 19 rfl rfl)
theorem dJ16_setLength_67 : decode cJ16_setLength 67 = .ok (.iload_n 1, 1) := dk_27 (dk_at dksJ16_setLength_2 22 rfl rfl)
theorem dJ16_setLength_68 : decode cJ16_setLength 68 = .ok (.if_icmp .le 8, 3) := dk_164 0 8 (dk_at dksJ16_setLength_3 0 rfl rfl)
theorem dJ16_setLength_71 : decode cJ16_setLength 71 = .ok (.aload_n 0, 1) := dk_42 (dk_at dksJ16_setLength_3 3 rfl rfl)
theorem dJ16_setLength_72 : decode cJ16_setLength 72 = .ok (.iconst 1, 1) := dk_4 (dk_at dksJ16_setLength_3 4 rfl rfl)
theorem dJ16_setLength_73 : decode cJ16_setLength 73 = .ok (.putfield 73, 3) := dk_181 0 73 (dk_at dksJ16_setLength_3 5 rfl rfl)
theorem dJ16_setLength_76 : decode cJ16_setLength 76 = .ok (.aload_n 0, 1) := dk_42 (dk_at dksJ16_setLength_3 8 rfl rfl)
theorem dJ16_setLength_77 : decode cJ16_setLength 77 = .ok (.iload_n 1, 1) := dk_27 (dk_at dksJ16_setLength_3 9 rfl rfl)
theorem dJ16_setLength_78 : decode cJ16_setLength 78 = .ok (.putfield 79, 3) := dk_181 0 79 (dk_at dksJ16_setLength_3 10 rfl rfl)
theorem dJ16_setLength_81 : decode cJ16_setLength 81 = .ok (.return_, 1) := dk_177 (dk_at dksJ16_setLength_3 13 rfl rfl)
abbrev cJ16_charAt : ByteArray := prog_30_method_14_code
def yJ16_charAt : MethodName := ⟨RJ16, "charAt", "(I)C"⟩
def dkwJ16_charAt_1 : List UInt8 := [21, 4, 184, 0, 144, 28, 154, 0, 12, 45, 27, 51, 17, 0, 255, 126, 146, 172, 45, 27, 184, 0, 148, 172]
abbrev dktJ16_charAt_1 : List UInt8 := dkwJ16_charAt_1 ++ []
def dkwJ16_charAt_0 : List UInt8 := [42, 180, 0, 22, 61, 42, 180, 0, 15, 78, 42, 180, 0, 79, 45, 190, 28, 122, 184, 0, 138, 54, 4, 27]
abbrev dktJ16_charAt_0 : List UInt8 := dkwJ16_charAt_0 ++ dktJ16_charAt_1
theorem dksJ16_charAt_0 : cJ16_charAt.data.toList.drop 0 = dktJ16_charAt_0 := by decide +kernel
theorem dksJ16_charAt_1 : cJ16_charAt.data.toList.drop 24 = dktJ16_charAt_1 := dk_seg dksJ16_charAt_0 24 rfl rfl
theorem dJ16_charAt_0 : decode cJ16_charAt 0 = .ok (.aload_n 0, 1) := dk_42 (dk_at dksJ16_charAt_0 0 rfl rfl)
theorem dJ16_charAt_1 : decode cJ16_charAt 1 = .ok (.getfield 22, 3) := dk_180 0 22 (dk_at dksJ16_charAt_0 1 rfl rfl)
theorem dJ16_charAt_4 : decode cJ16_charAt 4 = .ok (.istore_n 2, 1) := dk_61 (dk_at dksJ16_charAt_0 4 rfl rfl)
theorem dJ16_charAt_5 : decode cJ16_charAt 5 = .ok (.aload_n 0, 1) := dk_42 (dk_at dksJ16_charAt_0 5 rfl rfl)
theorem dJ16_charAt_6 : decode cJ16_charAt 6 = .ok (.getfield 15, 3) := dk_180 0 15 (dk_at dksJ16_charAt_0 6 rfl rfl)
theorem dJ16_charAt_9 : decode cJ16_charAt 9 = .ok (.astore_n 3, 1) := dk_78 (dk_at dksJ16_charAt_0 9 rfl rfl)
theorem dJ16_charAt_10 : decode cJ16_charAt 10 = .ok (.aload_n 0, 1) := dk_42 (dk_at dksJ16_charAt_0 10 rfl rfl)
theorem dJ16_charAt_11 : decode cJ16_charAt 11 = .ok (.getfield 79, 3) := dk_180 0 79 (dk_at dksJ16_charAt_0 11 rfl rfl)
theorem dJ16_charAt_14 : decode cJ16_charAt 14 = .ok (.aload_n 3, 1) := dk_45 (dk_at dksJ16_charAt_0 14 rfl rfl)
theorem dJ16_charAt_15 : decode cJ16_charAt 15 = .ok (.arraylength, 1) := dk_190 (dk_at dksJ16_charAt_0 15 rfl rfl)
theorem dJ16_charAt_16 : decode cJ16_charAt 16 = .ok (.iload_n 2, 1) := dk_28 (dk_at dksJ16_charAt_0 16 rfl rfl)
theorem dJ16_charAt_17 : decode cJ16_charAt 17 = .ok (.ishr, 1) := dk_122 (dk_at dksJ16_charAt_0 17 rfl rfl)
theorem dJ16_charAt_18 : decode cJ16_charAt 18 = .ok (.invokestatic 138, 3) := dk_184 0 138 (dk_at dksJ16_charAt_0 18 rfl rfl)
theorem dJ16_charAt_21 : decode cJ16_charAt 21 = .ok (.istore 4, 2) := dk_54 4 (dk_at dksJ16_charAt_0 21 rfl rfl)
theorem dJ16_charAt_23 : decode cJ16_charAt 23 = .ok (.iload_n 1, 1) := dk_27 (dk_at dksJ16_charAt_0 23 rfl rfl)
theorem dJ16_charAt_24 : decode cJ16_charAt 24 = .ok (.iload 4, 2) := dk_21 4 (dk_at dksJ16_charAt_1 0 rfl rfl)
theorem dJ16_charAt_26 : decode cJ16_charAt 26 = .ok (.invokestatic 144, 3) := dk_184 0 144 (dk_at dksJ16_charAt_1 2 rfl rfl)
theorem dJ16_charAt_29 : decode cJ16_charAt 29 = .ok (.iload_n 2, 1) := dk_28 (dk_at dksJ16_charAt_1 5 rfl rfl)
theorem dJ16_charAt_30 : decode cJ16_charAt 30 = .ok (.ifCond .ne 12, 3) := dk_154 0 12 (dk_at dksJ16_charAt_1 6 rfl rfl)
theorem dJ16_charAt_33 : decode cJ16_charAt 33 = .ok (.aload_n 3, 1) := dk_45 (dk_at dksJ16_charAt_1 9 rfl rfl)
theorem dJ16_charAt_34 : decode cJ16_charAt 34 = .ok (.iload_n 1, 1) := dk_27 (dk_at dksJ16_charAt_1 10 rfl rfl)
theorem dJ16_charAt_35 : decode cJ16_charAt 35 = .ok (.baload, 1) := dk_51 (dk_at dksJ16_charAt_1 11 rfl rfl)
theorem dJ16_charAt_36 : decode cJ16_charAt 36 = .ok (.sipush 255, 3) := dk_17 0 255 (dk_at dksJ16_charAt_1 12 rfl rfl)
theorem dJ16_charAt_39 : decode cJ16_charAt 39 = .ok (.iand, 1) := dk_126 (dk_at dksJ16_charAt_1 15 rfl rfl)
theorem dJ16_charAt_40 : decode cJ16_charAt 40 = .ok (.i2c, 1) := dk_146 (dk_at dksJ16_charAt_1 16 rfl rfl)
theorem dJ16_charAt_41 : decode cJ16_charAt 41 = .ok (.ireturn, 1) := dk_172 (dk_at dksJ16_charAt_1 17 rfl rfl)
theorem dJ16_charAt_42 : decode cJ16_charAt 42 = .ok (.aload_n 3, 1) := dk_45 (dk_at dksJ16_charAt_1 18 rfl rfl)
theorem dJ16_charAt_43 : decode cJ16_charAt 43 = .ok (.iload_n 1, 1) := dk_27 (dk_at dksJ16_charAt_1 19 rfl rfl)
theorem dJ16_charAt_44 : decode cJ16_charAt 44 = .ok (.invokestatic 148, 3) := dk_184 0 148 (dk_at dksJ16_charAt_1 20 rfl rfl)
theorem dJ16_charAt_47 : decode cJ16_charAt 47 = .ok (.ireturn, 1) := dk_172 (dk_at dksJ16_charAt_1 23 rfl rfl)
abbrev cJ16_getValue : ByteArray := prog_30_method_64_code
def yJ16_getValue : MethodName := ⟨RJ16, "getValue", "()[B"⟩
theorem dJ16_getValue_0 : decode cJ16_getValue 0 = .ok (.aload_n 0, 1) := by decide +kernel
theorem dJ16_getValue_1 : decode cJ16_getValue 1 = .ok (.getfield 15, 3) := by decide +kernel
theorem dJ16_getValue_4 : decode cJ16_getValue 4 = .ok (.areturn, 1) := by decide +kernel
abbrev cJ16_append_2 : ByteArray := prog_30_method_22_code
def yJ16_append_2 : MethodName := ⟨RJ16, "append", "(Ljava/lang/String;)Ljava/lang/AbstractStringBuilder;"⟩
def dkwJ16_append_2_1 : List UInt8 := [42, 42, 180, 0, 79, 43, 182, 0, 208, 42, 89, 180, 0, 79, 28, 96, 181, 0, 79, 42, 176]
abbrev dktJ16_append_2_1 : List UInt8 := dkwJ16_append_2_1 ++ []
def dkwJ16_append_2_0 : List UInt8 := [43, 199, 0, 8, 42, 182, 0, 204, 176, 43, 182, 0, 32, 61, 42, 42, 180, 0, 79, 28, 96, 182, 0, 100]
abbrev dktJ16_append_2_0 : List UInt8 := dkwJ16_append_2_0 ++ dktJ16_append_2_1
theorem dksJ16_append_2_0 : cJ16_append_2.data.toList.drop 0 = dktJ16_append_2_0 := by decide +kernel
theorem dksJ16_append_2_1 : cJ16_append_2.data.toList.drop 24 = dktJ16_append_2_1 := dk_seg dksJ16_append_2_0 24 rfl rfl
theorem dJ16_append_2_0 : decode cJ16_append_2 0 = .ok (.aload_n 1, 1) := dk_43 (dk_at dksJ16_append_2_0 0 rfl rfl)
theorem dJ16_append_2_1 : decode cJ16_append_2 1 = .ok (.ifnonnull 8, 3) := dk_199 0 8 (dk_at dksJ16_append_2_0 1 rfl rfl)
theorem dJ16_append_2_4 : decode cJ16_append_2 4 = .ok (.aload_n 0, 1) := dk_42 (dk_at dksJ16_append_2_0 4 rfl rfl)
theorem dJ16_append_2_5 : decode cJ16_append_2 5 = .ok (.invokevirtual 204, 3) := dk_182 0 204 (dk_at dksJ16_append_2_0 5 rfl rfl)
theorem dJ16_append_2_8 : decode cJ16_append_2 8 = .ok (.areturn, 1) := dk_176 (dk_at dksJ16_append_2_0 8 rfl rfl)
theorem dJ16_append_2_9 : decode cJ16_append_2 9 = .ok (.aload_n 1, 1) := dk_43 (dk_at dksJ16_append_2_0 9 rfl rfl)
theorem dJ16_append_2_10 : decode cJ16_append_2 10 = .ok (.invokevirtual 32, 3) := dk_182 0 32 (dk_at dksJ16_append_2_0 10 rfl rfl)
theorem dJ16_append_2_13 : decode cJ16_append_2 13 = .ok (.istore_n 2, 1) := dk_61 (dk_at dksJ16_append_2_0 13 rfl rfl)
theorem dJ16_append_2_14 : decode cJ16_append_2 14 = .ok (.aload_n 0, 1) := dk_42 (dk_at dksJ16_append_2_0 14 rfl rfl)
theorem dJ16_append_2_15 : decode cJ16_append_2 15 = .ok (.aload_n 0, 1) := dk_42 (dk_at dksJ16_append_2_0 15 rfl rfl)
theorem dJ16_append_2_16 : decode cJ16_append_2 16 = .ok (.getfield 79, 3) := dk_180 0 79 (dk_at dksJ16_append_2_0 16 rfl rfl)
theorem dJ16_append_2_19 : decode cJ16_append_2 19 = .ok (.iload_n 2, 1) := dk_28 (dk_at dksJ16_append_2_0 19 rfl rfl)
theorem dJ16_append_2_20 : decode cJ16_append_2 20 = .ok (.iadd, 1) := dk_96 (dk_at dksJ16_append_2_0 20 rfl rfl)
theorem dJ16_append_2_21 : decode cJ16_append_2 21 = .ok (.invokevirtual 100, 3) := dk_182 0 100 (dk_at dksJ16_append_2_0 21 rfl rfl)
theorem dJ16_append_2_24 : decode cJ16_append_2 24 = .ok (.aload_n 0, 1) := dk_42 (dk_at dksJ16_append_2_1 0 rfl rfl)
theorem dJ16_append_2_25 : decode cJ16_append_2 25 = .ok (.aload_n 0, 1) := dk_42 (dk_at dksJ16_append_2_1 1 rfl rfl)
theorem dJ16_append_2_26 : decode cJ16_append_2 26 = .ok (.getfield 79, 3) := dk_180 0 79 (dk_at dksJ16_append_2_1 2 rfl rfl)
theorem dJ16_append_2_29 : decode cJ16_append_2 29 = .ok (.aload_n 1, 1) := dk_43 (dk_at dksJ16_append_2_1 5 rfl rfl)
theorem dJ16_append_2_30 : decode cJ16_append_2 30 = .ok (.invokevirtual 208, 3) := dk_182 0 208 (dk_at dksJ16_append_2_1 6 rfl rfl)
theorem dJ16_append_2_33 : decode cJ16_append_2 33 = .ok (.aload_n 0, 1) := dk_42 (dk_at dksJ16_append_2_1 9 rfl rfl)
theorem dJ16_append_2_34 : decode cJ16_append_2 34 = .ok (.dup, 1) := dk_89 (dk_at dksJ16_append_2_1 10 rfl rfl)
theorem dJ16_append_2_35 : decode cJ16_append_2 35 = .ok (.getfield 79, 3) := dk_180 0 79 (dk_at dksJ16_append_2_1 11 rfl rfl)
theorem dJ16_append_2_38 : decode cJ16_append_2 38 = .ok (.iload_n 2, 1) := dk_28 (dk_at dksJ16_append_2_1 14 rfl rfl)
theorem dJ16_append_2_39 : decode cJ16_append_2 39 = .ok (.iadd, 1) := dk_96 (dk_at dksJ16_append_2_1 15 rfl rfl)
theorem dJ16_append_2_40 : decode cJ16_append_2 40 = .ok (.putfield 79, 3) := dk_181 0 79 (dk_at dksJ16_append_2_1 16 rfl rfl)
theorem dJ16_append_2_43 : decode cJ16_append_2 43 = .ok (.aload_n 0, 1) := dk_42 (dk_at dksJ16_append_2_1 19 rfl rfl)
theorem dJ16_append_2_44 : decode cJ16_append_2 44 = .ok (.areturn, 1) := dk_176 (dk_at dksJ16_append_2_1 20 rfl rfl)
abbrev cJ16_appendNull : ByteArray := prog_30_method_26_code
def yJ16_appendNull : MethodName := ⟨RJ16, "appendNull", "()Ljava/lang/AbstractStringBuilder;"⟩
def dkwJ16_appendNull_3 : List UInt8 := [184, 0, 226, 60, 42, 27, 181, 0, 79, 42, 176]
abbrev dktJ16_appendNull_3 : List UInt8 := dkwJ16_appendNull_3 ++ []
def dkwJ16_appendNull_2 : List UInt8 := [16, 108, 84, 44, 27, 132, 1, 1, 16, 108, 84, 167, 0, 17, 44, 27, 16, 110, 16, 117, 16, 108, 16, 108]
abbrev dktJ16_appendNull_2 : List UInt8 := dkwJ16_appendNull_2 ++ dktJ16_appendNull_3
def dkwJ16_appendNull_1 : List UInt8 := [153, 0, 38, 44, 27, 132, 1, 1, 16, 110, 84, 44, 27, 132, 1, 1, 16, 117, 84, 44, 27, 132, 1, 1]
abbrev dktJ16_appendNull_1 : List UInt8 := dkwJ16_appendNull_1 ++ dktJ16_appendNull_2
def dkwJ16_appendNull_0 : List UInt8 := [42, 42, 180, 0, 79, 7, 96, 182, 0, 100, 42, 180, 0, 79, 60, 42, 180, 0, 15, 77, 42, 182, 0, 83]
abbrev dktJ16_appendNull_0 : List UInt8 := dkwJ16_appendNull_0 ++ dktJ16_appendNull_1
theorem dksJ16_appendNull_0 : cJ16_appendNull.data.toList.drop 0 = dktJ16_appendNull_0 := by decide +kernel
theorem dksJ16_appendNull_1 : cJ16_appendNull.data.toList.drop 24 = dktJ16_appendNull_1 := dk_seg dksJ16_appendNull_0 24 rfl rfl
theorem dksJ16_appendNull_2 : cJ16_appendNull.data.toList.drop 48 = dktJ16_appendNull_2 := dk_seg dksJ16_appendNull_1 24 rfl rfl
theorem dksJ16_appendNull_3 : cJ16_appendNull.data.toList.drop 72 = dktJ16_appendNull_3 := dk_seg dksJ16_appendNull_2 24 rfl rfl
theorem dJ16_appendNull_0 : decode cJ16_appendNull 0 = .ok (.aload_n 0, 1) := dk_42 (dk_at dksJ16_appendNull_0 0 rfl rfl)
theorem dJ16_appendNull_1 : decode cJ16_appendNull 1 = .ok (.aload_n 0, 1) := dk_42 (dk_at dksJ16_appendNull_0 1 rfl rfl)
theorem dJ16_appendNull_2 : decode cJ16_appendNull 2 = .ok (.getfield 79, 3) := dk_180 0 79 (dk_at dksJ16_appendNull_0 2 rfl rfl)
theorem dJ16_appendNull_5 : decode cJ16_appendNull 5 = .ok (.iconst 4, 1) := dk_7 (dk_at dksJ16_appendNull_0 5 rfl rfl)
theorem dJ16_appendNull_6 : decode cJ16_appendNull 6 = .ok (.iadd, 1) := dk_96 (dk_at dksJ16_appendNull_0 6 rfl rfl)
theorem dJ16_appendNull_7 : decode cJ16_appendNull 7 = .ok (.invokevirtual 100, 3) := dk_182 0 100 (dk_at dksJ16_appendNull_0 7 rfl rfl)
theorem dJ16_appendNull_10 : decode cJ16_appendNull 10 = .ok (.aload_n 0, 1) := dk_42 (dk_at dksJ16_appendNull_0 10 rfl rfl)
theorem dJ16_appendNull_11 : decode cJ16_appendNull 11 = .ok (.getfield 79, 3) := dk_180 0 79 (dk_at dksJ16_appendNull_0 11 rfl rfl)
theorem dJ16_appendNull_14 : decode cJ16_appendNull 14 = .ok (.istore_n 1, 1) := dk_60 (dk_at dksJ16_appendNull_0 14 rfl rfl)
theorem dJ16_appendNull_15 : decode cJ16_appendNull 15 = .ok (.aload_n 0, 1) := dk_42 (dk_at dksJ16_appendNull_0 15 rfl rfl)
theorem dJ16_appendNull_16 : decode cJ16_appendNull 16 = .ok (.getfield 15, 3) := dk_180 0 15 (dk_at dksJ16_appendNull_0 16 rfl rfl)
theorem dJ16_appendNull_19 : decode cJ16_appendNull 19 = .ok (.astore_n 2, 1) := dk_77 (dk_at dksJ16_appendNull_0 19 rfl rfl)
theorem dJ16_appendNull_20 : decode cJ16_appendNull 20 = .ok (.aload_n 0, 1) := dk_42 (dk_at dksJ16_appendNull_0 20 rfl rfl)
theorem dJ16_appendNull_21 : decode cJ16_appendNull 21 = .ok (.invokevirtual 83, 3) := dk_182 0 83 (dk_at dksJ16_appendNull_0 21 rfl rfl)
theorem dJ16_appendNull_24 : decode cJ16_appendNull 24 = .ok (.ifCond .eq 38, 3) := dk_153 0 38 (dk_at dksJ16_appendNull_1 0 rfl rfl)
theorem dJ16_appendNull_27 : decode cJ16_appendNull 27 = .ok (.aload_n 2, 1) := dk_44 (dk_at dksJ16_appendNull_1 3 rfl rfl)
theorem dJ16_appendNull_28 : decode cJ16_appendNull 28 = .ok (.iload_n 1, 1) := dk_27 (dk_at dksJ16_appendNull_1 4 rfl rfl)
theorem dJ16_appendNull_29 : decode cJ16_appendNull 29 = .ok (.iinc 1 1, 3) := dk_132 1 1 (dk_at dksJ16_appendNull_1 5 rfl rfl)
theorem dJ16_appendNull_32 : decode cJ16_appendNull 32 = .ok (.bipush 110, 2) := dk_16 110 (dk_at dksJ16_appendNull_1 8 rfl rfl)
theorem dJ16_appendNull_34 : decode cJ16_appendNull 34 = .ok (.bastore, 1) := dk_84 (dk_at dksJ16_appendNull_1 10 rfl rfl)
theorem dJ16_appendNull_35 : decode cJ16_appendNull 35 = .ok (.aload_n 2, 1) := dk_44 (dk_at dksJ16_appendNull_1 11 rfl rfl)
theorem dJ16_appendNull_36 : decode cJ16_appendNull 36 = .ok (.iload_n 1, 1) := dk_27 (dk_at dksJ16_appendNull_1 12 rfl rfl)
theorem dJ16_appendNull_37 : decode cJ16_appendNull 37 = .ok (.iinc 1 1, 3) := dk_132 1 1 (dk_at dksJ16_appendNull_1 13 rfl rfl)
theorem dJ16_appendNull_40 : decode cJ16_appendNull 40 = .ok (.bipush 117, 2) := dk_16 117 (dk_at dksJ16_appendNull_1 16 rfl rfl)
theorem dJ16_appendNull_42 : decode cJ16_appendNull 42 = .ok (.bastore, 1) := dk_84 (dk_at dksJ16_appendNull_1 18 rfl rfl)
theorem dJ16_appendNull_43 : decode cJ16_appendNull 43 = .ok (.aload_n 2, 1) := dk_44 (dk_at dksJ16_appendNull_1 19 rfl rfl)
theorem dJ16_appendNull_44 : decode cJ16_appendNull 44 = .ok (.iload_n 1, 1) := dk_27 (dk_at dksJ16_appendNull_1 20 rfl rfl)
theorem dJ16_appendNull_45 : decode cJ16_appendNull 45 = .ok (.iinc 1 1, 3) := dk_132 1 1 (dk_at dksJ16_appendNull_1 21 rfl rfl)
theorem dJ16_appendNull_48 : decode cJ16_appendNull 48 = .ok (.bipush 108, 2) := dk_16 108 (dk_at dksJ16_appendNull_2 0 rfl rfl)
theorem dJ16_appendNull_50 : decode cJ16_appendNull 50 = .ok (.bastore, 1) := dk_84 (dk_at dksJ16_appendNull_2 2 rfl rfl)
theorem dJ16_appendNull_51 : decode cJ16_appendNull 51 = .ok (.aload_n 2, 1) := dk_44 (dk_at dksJ16_appendNull_2 3 rfl rfl)
theorem dJ16_appendNull_52 : decode cJ16_appendNull 52 = .ok (.iload_n 1, 1) := dk_27 (dk_at dksJ16_appendNull_2 4 rfl rfl)
theorem dJ16_appendNull_53 : decode cJ16_appendNull 53 = .ok (.iinc 1 1, 3) := dk_132 1 1 (dk_at dksJ16_appendNull_2 5 rfl rfl)
theorem dJ16_appendNull_56 : decode cJ16_appendNull 56 = .ok (.bipush 108, 2) := dk_16 108 (dk_at dksJ16_appendNull_2 8 rfl rfl)
theorem dJ16_appendNull_58 : decode cJ16_appendNull 58 = .ok (.bastore, 1) := dk_84 (dk_at dksJ16_appendNull_2 10 rfl rfl)
theorem dJ16_appendNull_59 : decode cJ16_appendNull 59 = .ok (.goto 17, 3) := dk_167 0 17 (dk_at dksJ16_appendNull_2 11 rfl rfl)
theorem dJ16_appendNull_62 : decode cJ16_appendNull 62 = .ok (.aload_n 2, 1) := dk_44 (dk_at dksJ16_appendNull_2 14 rfl rfl)
theorem dJ16_appendNull_63 : decode cJ16_appendNull 63 = .ok (.iload_n 1, 1) := dk_27 (dk_at dksJ16_appendNull_2 15 rfl rfl)
theorem dJ16_appendNull_64 : decode cJ16_appendNull 64 = .ok (.bipush 110, 2) := dk_16 110 (dk_at dksJ16_appendNull_2 16 rfl rfl)
theorem dJ16_appendNull_66 : decode cJ16_appendNull 66 = .ok (.bipush 117, 2) := dk_16 117 (dk_at dksJ16_appendNull_2 18 rfl rfl)
theorem dJ16_appendNull_68 : decode cJ16_appendNull 68 = .ok (.bipush 108, 2) := dk_16 108 (dk_at dksJ16_appendNull_2 20 rfl rfl)
theorem dJ16_appendNull_70 : decode cJ16_appendNull 70 = .ok (.bipush 108, 2) := dk_16 108 (dk_at dksJ16_appendNull_2 22 rfl rfl)
theorem dJ16_appendNull_72 : decode cJ16_appendNull 72 = .ok (.invokestatic 226, 3) := dk_184 0 226 (dk_at dksJ16_appendNull_3 0 rfl rfl)
theorem dJ16_appendNull_75 : decode cJ16_appendNull 75 = .ok (.istore_n 1, 1) := dk_60 (dk_at dksJ16_appendNull_3 3 rfl rfl)
theorem dJ16_appendNull_76 : decode cJ16_appendNull 76 = .ok (.aload_n 0, 1) := dk_42 (dk_at dksJ16_appendNull_3 4 rfl rfl)
theorem dJ16_appendNull_77 : decode cJ16_appendNull 77 = .ok (.iload_n 1, 1) := dk_27 (dk_at dksJ16_appendNull_3 5 rfl rfl)
theorem dJ16_appendNull_78 : decode cJ16_appendNull 78 = .ok (.putfield 79, 3) := dk_181 0 79 (dk_at dksJ16_appendNull_3 6 rfl rfl)
theorem dJ16_appendNull_81 : decode cJ16_appendNull 81 = .ok (.aload_n 0, 1) := dk_42 (dk_at dksJ16_appendNull_3 9 rfl rfl)
theorem dJ16_appendNull_82 : decode cJ16_appendNull 82 = .ok (.areturn, 1) := dk_176 (dk_at dksJ16_appendNull_3 10 rfl rfl)
abbrev cJ16_putStringAt : ByteArray := prog_30_method_73_code
def yJ16_putStringAt : MethodName := ⟨RJ16, "putStringAt", "(ILjava/lang/String;)V"⟩
def dkwJ16_putStringAt_0 : List UInt8 := [42, 44, 182, 1, 141, 44, 42, 180, 0, 15, 27, 42, 180, 0, 22, 182, 1, 143, 177]
abbrev dktJ16_putStringAt_0 : List UInt8 := dkwJ16_putStringAt_0 ++ []
theorem dksJ16_putStringAt_0 : cJ16_putStringAt.data.toList.drop 0 = dktJ16_putStringAt_0 := by decide +kernel
theorem dJ16_putStringAt_0 : decode cJ16_putStringAt 0 = .ok (.aload_n 0, 1) := dk_42 (dk_at dksJ16_putStringAt_0 0 rfl rfl)
theorem dJ16_putStringAt_1 : decode cJ16_putStringAt 1 = .ok (.aload_n 2, 1) := dk_44 (dk_at dksJ16_putStringAt_0 1 rfl rfl)
theorem dJ16_putStringAt_2 : decode cJ16_putStringAt 2 = .ok (.invokevirtual 397, 3) := dk_182 1 141 (dk_at dksJ16_putStringAt_0 2 rfl rfl)
theorem dJ16_putStringAt_5 : decode cJ16_putStringAt 5 = .ok (.aload_n 2, 1) := dk_44 (dk_at dksJ16_putStringAt_0 5 rfl rfl)
theorem dJ16_putStringAt_6 : decode cJ16_putStringAt 6 = .ok (.aload_n 0, 1) := dk_42 (dk_at dksJ16_putStringAt_0 6 rfl rfl)
theorem dJ16_putStringAt_7 : decode cJ16_putStringAt 7 = .ok (.getfield 15, 3) := dk_180 0 15 (dk_at dksJ16_putStringAt_0 7 rfl rfl)
theorem dJ16_putStringAt_10 : decode cJ16_putStringAt 10 = .ok (.iload_n 1, 1) := dk_27 (dk_at dksJ16_putStringAt_0 10 rfl rfl)
theorem dJ16_putStringAt_11 : decode cJ16_putStringAt 11 = .ok (.aload_n 0, 1) := dk_42 (dk_at dksJ16_putStringAt_0 11 rfl rfl)
theorem dJ16_putStringAt_12 : decode cJ16_putStringAt 12 = .ok (.getfield 22, 3) := dk_180 0 22 (dk_at dksJ16_putStringAt_0 12 rfl rfl)
theorem dJ16_putStringAt_15 : decode cJ16_putStringAt 15 = .ok (.invokevirtual 399, 3) := dk_182 1 143 (dk_at dksJ16_putStringAt_0 15 rfl rfl)
theorem dJ16_putStringAt_18 : decode cJ16_putStringAt 18 = .ok (.return_, 1) := dk_177 (dk_at dksJ16_putStringAt_0 18 rfl rfl)
abbrev cJ16_inflateIfNeededFor : ByteArray := prog_30_method_71_code
def yJ16_inflateIfNeededFor : MethodName := ⟨RJ16, "inflateIfNeededFor", "(Ljava/lang/String;)V"⟩
def dkwJ16_inflateIfNeededFor_0 : List UInt8 := [178, 0, 18, 153, 0, 18, 42, 180, 0, 22, 43, 182, 0, 40, 159, 0, 7, 42, 182, 0, 195, 177]
abbrev dktJ16_inflateIfNeededFor_0 : List UInt8 := dkwJ16_inflateIfNeededFor_0 ++ []
theorem dksJ16_inflateIfNeededFor_0 : cJ16_inflateIfNeededFor.data.toList.drop 0 = dktJ16_inflateIfNeededFor_0 := by decide +kernel
theorem dJ16_inflateIfNeededFor_0 : decode cJ16_inflateIfNeededFor 0 = .ok (.getstatic 18, 3) := dk_178 0 18 (dk_at dksJ16_inflateIfNeededFor_0 0 rfl rfl)
theorem dJ16_inflateIfNeededFor_3 : decode cJ16_inflateIfNeededFor 3 = .ok (.ifCond .eq 18, 3) := dk_153 0 18 (dk_at dksJ16_inflateIfNeededFor_0 3 rfl rfl)
theorem dJ16_inflateIfNeededFor_6 : decode cJ16_inflateIfNeededFor 6 = .ok (.aload_n 0, 1) := dk_42 (dk_at dksJ16_inflateIfNeededFor_0 6 rfl rfl)
theorem dJ16_inflateIfNeededFor_7 : decode cJ16_inflateIfNeededFor 7 = .ok (.getfield 22, 3) := dk_180 0 22 (dk_at dksJ16_inflateIfNeededFor_0 7 rfl rfl)
theorem dJ16_inflateIfNeededFor_10 : decode cJ16_inflateIfNeededFor 10 = .ok (.aload_n 1, 1) := dk_43 (dk_at dksJ16_inflateIfNeededFor_0 10 rfl rfl)
theorem dJ16_inflateIfNeededFor_11 : decode cJ16_inflateIfNeededFor 11 = .ok (.invokevirtual 40, 3) := dk_182 0 40 (dk_at dksJ16_inflateIfNeededFor_0 11 rfl rfl)
theorem dJ16_inflateIfNeededFor_14 : decode cJ16_inflateIfNeededFor 14 = .ok (.if_icmp .eq 7, 3) := dk_159 0 7 (dk_at dksJ16_inflateIfNeededFor_0 14 rfl rfl)
theorem dJ16_inflateIfNeededFor_17 : decode cJ16_inflateIfNeededFor 17 = .ok (.aload_n 0, 1) := dk_42 (dk_at dksJ16_inflateIfNeededFor_0 17 rfl rfl)
theorem dJ16_inflateIfNeededFor_18 : decode cJ16_inflateIfNeededFor 18 = .ok (.invokevirtual 195, 3) := dk_182 0 195 (dk_at dksJ16_inflateIfNeededFor_0 18 rfl rfl)
theorem dJ16_inflateIfNeededFor_21 : decode cJ16_inflateIfNeededFor 21 = .ok (.return_, 1) := dk_177 (dk_at dksJ16_inflateIfNeededFor_0 21 rfl rfl)
abbrev cJ16_append_3 : ByteArray := prog_30_method_32_code
def yJ16_append_3 : MethodName := ⟨RJ16, "append", "(I)Ljava/lang/AbstractStringBuilder;"⟩
def dkwJ16_append_3_2 : List UInt8 := [42, 29, 181, 0, 79, 42, 176]
abbrev dktJ16_append_3_2 : List UInt8 := dkwJ16_append_3_2 ++ []
def dkwJ16_append_3_1 : List UInt8 := [27, 29, 42, 180, 0, 15, 184, 0, 248, 87, 167, 0, 14, 27, 28, 29, 42, 180, 0, 15, 184, 0, 251, 87]
abbrev dktJ16_append_3_1 : List UInt8 := dkwJ16_append_3_1 ++ dktJ16_append_3_2
def dkwJ16_append_3_0 : List UInt8 := [42, 180, 0, 79, 61, 28, 27, 184, 0, 245, 96, 62, 42, 29, 182, 0, 100, 42, 182, 0, 83, 153, 0, 16]
abbrev dktJ16_append_3_0 : List UInt8 := dkwJ16_append_3_0 ++ dktJ16_append_3_1
theorem dksJ16_append_3_0 : cJ16_append_3.data.toList.drop 0 = dktJ16_append_3_0 := by decide +kernel
theorem dksJ16_append_3_1 : cJ16_append_3.data.toList.drop 24 = dktJ16_append_3_1 := dk_seg dksJ16_append_3_0 24 rfl rfl
theorem dksJ16_append_3_2 : cJ16_append_3.data.toList.drop 48 = dktJ16_append_3_2 := dk_seg dksJ16_append_3_1 24 rfl rfl
theorem dJ16_append_3_0 : decode cJ16_append_3 0 = .ok (.aload_n 0, 1) := dk_42 (dk_at dksJ16_append_3_0 0 rfl rfl)
theorem dJ16_append_3_1 : decode cJ16_append_3 1 = .ok (.getfield 79, 3) := dk_180 0 79 (dk_at dksJ16_append_3_0 1 rfl rfl)
theorem dJ16_append_3_4 : decode cJ16_append_3 4 = .ok (.istore_n 2, 1) := dk_61 (dk_at dksJ16_append_3_0 4 rfl rfl)
theorem dJ16_append_3_5 : decode cJ16_append_3 5 = .ok (.iload_n 2, 1) := dk_28 (dk_at dksJ16_append_3_0 5 rfl rfl)
theorem dJ16_append_3_6 : decode cJ16_append_3 6 = .ok (.iload_n 1, 1) := dk_27 (dk_at dksJ16_append_3_0 6 rfl rfl)
theorem dJ16_append_3_7 : decode cJ16_append_3 7 = .ok (.invokestatic 245, 3) := dk_184 0 245 (dk_at dksJ16_append_3_0 7 rfl rfl)
theorem dJ16_append_3_10 : decode cJ16_append_3 10 = .ok (.iadd, 1) := dk_96 (dk_at dksJ16_append_3_0 10 rfl rfl)
theorem dJ16_append_3_11 : decode cJ16_append_3 11 = .ok (.istore_n 3, 1) := dk_62 (dk_at dksJ16_append_3_0 11 rfl rfl)
theorem dJ16_append_3_12 : decode cJ16_append_3 12 = .ok (.aload_n 0, 1) := dk_42 (dk_at dksJ16_append_3_0 12 rfl rfl)
theorem dJ16_append_3_13 : decode cJ16_append_3 13 = .ok (.iload_n 3, 1) := dk_29 (dk_at dksJ16_append_3_0 13 rfl rfl)
theorem dJ16_append_3_14 : decode cJ16_append_3 14 = .ok (.invokevirtual 100, 3) := dk_182 0 100 (dk_at dksJ16_append_3_0 14 rfl rfl)
theorem dJ16_append_3_17 : decode cJ16_append_3 17 = .ok (.aload_n 0, 1) := dk_42 (dk_at dksJ16_append_3_0 17 rfl rfl)
theorem dJ16_append_3_18 : decode cJ16_append_3 18 = .ok (.invokevirtual 83, 3) := dk_182 0 83 (dk_at dksJ16_append_3_0 18 rfl rfl)
theorem dJ16_append_3_21 : decode cJ16_append_3 21 = .ok (.ifCond .eq 16, 3) := dk_153 0 16 (dk_at dksJ16_append_3_0 21 rfl rfl)
theorem dJ16_append_3_24 : decode cJ16_append_3 24 = .ok (.iload_n 1, 1) := dk_27 (dk_at dksJ16_append_3_1 0 rfl rfl)
theorem dJ16_append_3_25 : decode cJ16_append_3 25 = .ok (.iload_n 3, 1) := dk_29 (dk_at dksJ16_append_3_1 1 rfl rfl)
theorem dJ16_append_3_26 : decode cJ16_append_3 26 = .ok (.aload_n 0, 1) := dk_42 (dk_at dksJ16_append_3_1 2 rfl rfl)
theorem dJ16_append_3_27 : decode cJ16_append_3 27 = .ok (.getfield 15, 3) := dk_180 0 15 (dk_at dksJ16_append_3_1 3 rfl rfl)
theorem dJ16_append_3_30 : decode cJ16_append_3 30 = .ok (.invokestatic 248, 3) := dk_184 0 248 (dk_at dksJ16_append_3_1 6 rfl rfl)
theorem dJ16_append_3_33 : decode cJ16_append_3 33 = .ok (.pop, 1) := dk_87 (dk_at dksJ16_append_3_1 9 rfl rfl)
theorem dJ16_append_3_34 : decode cJ16_append_3 34 = .ok (.goto 14, 3) := dk_167 0 14 (dk_at dksJ16_append_3_1 10 rfl rfl)
theorem dJ16_append_3_37 : decode cJ16_append_3 37 = .ok (.iload_n 1, 1) := dk_27 (dk_at dksJ16_append_3_1 13 rfl rfl)
theorem dJ16_append_3_38 : decode cJ16_append_3 38 = .ok (.iload_n 2, 1) := dk_28 (dk_at dksJ16_append_3_1 14 rfl rfl)
theorem dJ16_append_3_39 : decode cJ16_append_3 39 = .ok (.iload_n 3, 1) := dk_29 (dk_at dksJ16_append_3_1 15 rfl rfl)
theorem dJ16_append_3_40 : decode cJ16_append_3 40 = .ok (.aload_n 0, 1) := dk_42 (dk_at dksJ16_append_3_1 16 rfl rfl)
theorem dJ16_append_3_41 : decode cJ16_append_3 41 = .ok (.getfield 15, 3) := dk_180 0 15 (dk_at dksJ16_append_3_1 17 rfl rfl)
theorem dJ16_append_3_44 : decode cJ16_append_3 44 = .ok (.invokestatic 251, 3) := dk_184 0 251 (dk_at dksJ16_append_3_1 20 rfl rfl)
theorem dJ16_append_3_47 : decode cJ16_append_3 47 = .ok (.pop, 1) := dk_87 (dk_at dksJ16_append_3_1 23 rfl rfl)
theorem dJ16_append_3_48 : decode cJ16_append_3 48 = .ok (.aload_n 0, 1) := dk_42 (dk_at dksJ16_append_3_2 0 rfl rfl)
theorem dJ16_append_3_49 : decode cJ16_append_3 49 = .ok (.iload_n 3, 1) := dk_29 (dk_at dksJ16_append_3_2 1 rfl rfl)
theorem dJ16_append_3_50 : decode cJ16_append_3 50 = .ok (.putfield 79, 3) := dk_181 0 79 (dk_at dksJ16_append_3_2 2 rfl rfl)
theorem dJ16_append_3_53 : decode cJ16_append_3 53 = .ok (.aload_n 0, 1) := dk_42 (dk_at dksJ16_append_3_2 5 rfl rfl)
theorem dJ16_append_3_54 : decode cJ16_append_3 54 = .ok (.areturn, 1) := dk_176 (dk_at dksJ16_append_3_2 6 rfl rfl)
theorem q148 : (Jvm.Cond.initialized "java/lang/AbstractStringBuilder") ∈ lw_all := lw_g (lw_at lw_m1 24 rfl) rfl
theorem q562 : (Jvm.Cond.instanceMethod ({ cls := "java/lang/AbstractStringBuilder", name := "compareTo", desc := "(Ljava/lang/AbstractStringBuilder;)I" } : Jvm.MethodName)) ∈ lw_all := lw_g (lw_at lw_m2 198 rfl) rfl
theorem q563 : (Jvm.Cond.code ({ cls := "java/lang/AbstractStringBuilder", name := "compareTo", desc := "(Ljava/lang/AbstractStringBuilder;)I" } : Jvm.MethodName) prog_30_method_5_code (6 : Nat) (Option.some Jvm.ClassFile.FieldType.int)) ∈ lw_all := lw_g (lw_at lw_m2 199 rfl) rfl
theorem q564 : (Jvm.Cond.methodLink "java/lang/AbstractStringBuilder" (83 : Nat) ({ cls := "java/lang/AbstractStringBuilder", name := "isLatin1", desc := "()Z" } : Jvm.MethodName)) ∈ lw_all := lw_g (lw_at lw_m2 200 rfl) rfl
theorem q565 : (Jvm.Cond.instanceMethod ({ cls := "java/lang/AbstractStringBuilder", name := "isLatin1", desc := "()Z" } : Jvm.MethodName)) ∈ lw_all := lw_g (lw_at lw_m2 201 rfl) rfl
theorem q566 : (Jvm.Cond.sameMethod "java/lang/AbstractStringBuilder" "java/lang/AbstractStringBuilder" "isLatin1" "()Z") ∈ lw_all := lw_g (lw_at lw_m2 202 rfl) rfl
theorem q568 : (Jvm.Cond.code ({ cls := "java/lang/AbstractStringBuilder", name := "isLatin1", desc := "()Z" } : Jvm.MethodName) prog_30_method_68_code (1 : Nat) (Option.some Jvm.ClassFile.FieldType.boolean)) ∈ lw_all := lw_g (lw_at lw_m2 204 rfl) rfl
theorem q569 : (Jvm.Cond.fieldLink "java/lang/AbstractStringBuilder" (18 : Nat) "java/lang/String" "COMPACT_STRINGS" "Z") ∈ lw_all := lw_g (lw_at lw_m2 205 rfl) rfl
theorem q570 : (Jvm.Cond.methodLink "java/lang/AbstractStringBuilder" (87 : Nat) ({ cls := "java/lang/StringLatin1", name := "compareTo", desc := "([B[BII)I" } : Jvm.MethodName)) ∈ lw_all := lw_g (lw_at lw_m2 206 rfl) rfl
theorem q571 : (Jvm.Cond.methodLink "java/lang/AbstractStringBuilder" (93 : Nat) ({ cls := "java/lang/StringUTF16", name := "compareTo", desc := "([B[BII)I" } : Jvm.MethodName)) ∈ lw_all := lw_g (lw_at lw_m2 207 rfl) rfl
theorem q585 : (Jvm.Cond.methodLink "java/lang/AbstractStringBuilder" (94 : Nat) ({ cls := "java/lang/StringLatin1", name := "compareToUTF16", desc := "([B[BII)I" } : Jvm.MethodName)) ∈ lw_all := lw_g (lw_at lw_m2 221 rfl) rfl
theorem q589 : (Jvm.Cond.methodLink "java/lang/AbstractStringBuilder" (97 : Nat) ({ cls := "java/lang/StringUTF16", name := "compareToLatin1", desc := "([B[BII)I" } : Jvm.MethodName)) ∈ lw_all := lw_g (lw_at lw_m2 225 rfl) rfl
theorem q823 : (Jvm.Cond.instanceMethod ({ cls := "java/lang/AbstractStringBuilder", name := "<init>", desc := "(I)V" } : Jvm.MethodName)) ∈ lw_all := lw_g (lw_at lw_m3 219 rfl) rfl
theorem q824 : (Jvm.Cond.code ({ cls := "java/lang/AbstractStringBuilder", name := "<init>", desc := "(I)V" } : Jvm.MethodName) prog_30_method_2_code (2 : Nat) (Option.none : Option Jvm.ClassFile.FieldType)) ∈ lw_all := lw_g (lw_at lw_m3 220 rfl) rfl
theorem q825 : (Jvm.Cond.methodLink "java/lang/AbstractStringBuilder" (3 : Nat) ({ cls := "java/lang/Object", name := "<init>", desc := "()V" } : Jvm.MethodName)) ∈ lw_all := lw_g (lw_at lw_m3 221 rfl) rfl
theorem q826 : (Jvm.Cond.methodLink "java/lang/AbstractStringBuilder" (26 : Nat) ({ cls := "java/lang/StringUTF16", name := "newBytesFor", desc := "(I)[B" } : Jvm.MethodName)) ∈ lw_all := lw_g (lw_at lw_m3 222 rfl) rfl
theorem q833 : (Jvm.Cond.fieldLink "java/lang/AbstractStringBuilder" (15 : Nat) "java/lang/AbstractStringBuilder" "value" "[B") ∈ lw_all := lw_g (lw_at lw_m3 229 rfl) rfl
theorem q834 : (Jvm.Cond.fieldLink "java/lang/AbstractStringBuilder" (22 : Nat) "java/lang/AbstractStringBuilder" "coder" "B") ∈ lw_all := lw_g (lw_at lw_m3 230 rfl) rfl
theorem q835 : (Jvm.Cond.fieldLink "java/lang/AbstractStringBuilder" (73 : Nat) "java/lang/AbstractStringBuilder" "maybeLatin1" "Z") ∈ lw_all := lw_g (lw_at lw_m3 231 rfl) rfl
theorem q837 : (Jvm.Cond.fieldLink "java/lang/AbstractStringBuilder" (79 : Nat) "java/lang/AbstractStringBuilder" "count" "I") ∈ lw_all := lw_g (lw_at lw_m3 233 rfl) rfl
theorem q839 : (Jvm.Cond.soleField "java/lang/AbstractStringBuilder" "value") ∈ lw_all := lw_g (lw_at lw_m3 235 rfl) rfl
theorem q841 : (Jvm.Cond.soleField "java/lang/AbstractStringBuilder" "coder") ∈ lw_all := lw_g (lw_at lw_m3 237 rfl) rfl
theorem q843 : (Jvm.Cond.soleField "java/lang/AbstractStringBuilder" "maybeLatin1") ∈ lw_all := lw_g (lw_at lw_m3 239 rfl) rfl
theorem q845 : (Jvm.Cond.soleField "java/lang/AbstractStringBuilder" "count") ∈ lw_all := lw_g (lw_at lw_m4 1 rfl) rfl
theorem q1671 : (Jvm.Cond.instanceMethod ({ cls := "java/lang/AbstractStringBuilder", name := "length", desc := "()I" } : Jvm.MethodName)) ∈ lw_all := lw_g (lw_at lw_m7 107 rfl) rfl
theorem q1672 : (Jvm.Cond.code ({ cls := "java/lang/AbstractStringBuilder", name := "length", desc := "()I" } : Jvm.MethodName) prog_30_method_6_code (1 : Nat) (Option.some Jvm.ClassFile.FieldType.int)) ∈ lw_all := lw_g (lw_at lw_m7 108 rfl) rfl
theorem q1678 : (Jvm.Cond.instanceMethod ({ cls := "java/lang/AbstractStringBuilder", name := "append", desc := "(C)Ljava/lang/AbstractStringBuilder;" } : Jvm.MethodName)) ∈ lw_all := lw_g (lw_at lw_m7 114 rfl) rfl
theorem q1679 : (Jvm.Cond.code ({ cls := "java/lang/AbstractStringBuilder", name := "append", desc := "(C)Ljava/lang/AbstractStringBuilder;" } : Jvm.MethodName) prog_30_method_31_code (2 : Nat) (Option.some (Jvm.ClassFile.FieldType.object "java/lang/AbstractStringBuilder"))) ∈ lw_all := lw_g (lw_at lw_m7 115 rfl) rfl
theorem q1680 : (Jvm.Cond.methodLink "java/lang/AbstractStringBuilder" (100 : Nat) ({ cls := "java/lang/AbstractStringBuilder", name := "ensureCapacityInternal", desc := "(I)V" } : Jvm.MethodName)) ∈ lw_all := lw_g (lw_at lw_m7 116 rfl) rfl
theorem q1681 : (Jvm.Cond.privateMethod ({ cls := "java/lang/AbstractStringBuilder", name := "ensureCapacityInternal", desc := "(I)V" } : Jvm.MethodName)) ∈ lw_tbl := lw_at lw_m7 117 rfl
theorem q1682 : (Jvm.Cond.instanceMethod ({ cls := "java/lang/AbstractStringBuilder", name := "ensureCapacityInternal", desc := "(I)V" } : Jvm.MethodName)) ∈ lw_all := lw_g (lw_at lw_m7 118 rfl) rfl
theorem q1683 : (Jvm.Cond.code ({ cls := "java/lang/AbstractStringBuilder", name := "ensureCapacityInternal", desc := "(I)V" } : Jvm.MethodName) prog_30_method_9_code (3 : Nat) (Option.none : Option Jvm.ClassFile.FieldType)) ∈ lw_all := lw_g (lw_at lw_m7 119 rfl) rfl
theorem q1684 : (Jvm.Cond.methodLink "java/lang/AbstractStringBuilder" (104 : Nat) ({ cls := "java/lang/AbstractStringBuilder", name := "newCapacity", desc := "(I)I" } : Jvm.MethodName)) ∈ lw_all := lw_g (lw_at lw_m7 120 rfl) rfl
theorem q1685 : (Jvm.Cond.privateMethod ({ cls := "java/lang/AbstractStringBuilder", name := "newCapacity", desc := "(I)I" } : Jvm.MethodName)) ∈ lw_tbl := lw_at lw_m7 121 rfl
theorem q1686 : (Jvm.Cond.instanceMethod ({ cls := "java/lang/AbstractStringBuilder", name := "newCapacity", desc := "(I)I" } : Jvm.MethodName)) ∈ lw_all := lw_g (lw_at lw_m7 122 rfl) rfl
theorem q1687 : (Jvm.Cond.code ({ cls := "java/lang/AbstractStringBuilder", name := "newCapacity", desc := "(I)I" } : Jvm.MethodName) prog_30_method_10_code (6 : Nat) (Option.some Jvm.ClassFile.FieldType.int)) ∈ lw_all := lw_g (lw_at lw_m7 123 rfl) rfl
theorem q1688 : (Jvm.Cond.methodLink "java/lang/AbstractStringBuilder" (114 : Nat) ({ cls := "jdk/internal/util/ArraysSupport", name := "newLength", desc := "(III)I" } : Jvm.MethodName)) ∈ lw_all := lw_g (lw_at lw_m7 124 rfl) rfl
theorem q1689 : (Jvm.Cond.constant "java/lang/AbstractStringBuilder" (39 : Nat) (2147483647 : Int32)) ∈ lw_all := lw_g (lw_at lw_m7 125 rfl) rfl
theorem q1690 : (Jvm.Cond.methodLink "java/lang/AbstractStringBuilder" (108 : Nat) ({ cls := "java/util/Arrays", name := "copyOf", desc := "([BI)[B" } : Jvm.MethodName)) ∈ lw_all := lw_g (lw_at lw_m7 126 rfl) rfl
theorem q1700 : (Jvm.Cond.methodLink "java/lang/AbstractStringBuilder" (191 : Nat) ({ cls := "java/lang/StringLatin1", name := "canEncode", desc := "(C)Z" } : Jvm.MethodName)) ∈ lw_all := lw_g (lw_at lw_m7 136 rfl) rfl
theorem q1703 : (Jvm.Cond.methodLink "java/lang/AbstractStringBuilder" (195 : Nat) ({ cls := "java/lang/AbstractStringBuilder", name := "inflate", desc := "()V" } : Jvm.MethodName)) ∈ lw_all := lw_g (lw_at lw_m7 139 rfl) rfl
theorem q1704 : (Jvm.Cond.privateMethod ({ cls := "java/lang/AbstractStringBuilder", name := "inflate", desc := "()V" } : Jvm.MethodName)) ∈ lw_tbl := lw_at lw_m7 140 rfl
theorem q1705 : (Jvm.Cond.instanceMethod ({ cls := "java/lang/AbstractStringBuilder", name := "inflate", desc := "()V" } : Jvm.MethodName)) ∈ lw_all := lw_g (lw_at lw_m7 141 rfl) rfl
theorem q1706 : (Jvm.Cond.code ({ cls := "java/lang/AbstractStringBuilder", name := "inflate", desc := "()V" } : Jvm.MethodName) prog_30_method_11_code (2 : Nat) (Option.none : Option Jvm.ClassFile.FieldType)) ∈ lw_all := lw_g (lw_at lw_m7 142 rfl) rfl
theorem q1707 : (Jvm.Cond.methodLink "java/lang/AbstractStringBuilder" (125 : Nat) ({ cls := "java/lang/StringLatin1", name := "inflate", desc := "([BI[BII)V" } : Jvm.MethodName)) ∈ lw_all := lw_g (lw_at lw_m7 143 rfl) rfl
theorem q1725 : (Jvm.Cond.methodLink "java/lang/AbstractStringBuilder" (197 : Nat) ({ cls := "java/lang/StringUTF16", name := "putCharSB", desc := "([BII)V" } : Jvm.MethodName)) ∈ lw_all := lw_g (lw_at lw_m7 161 rfl) rfl
theorem q1746 : (Jvm.Cond.instanceMethod ({ cls := "java/lang/AbstractStringBuilder", name := "setLength", desc := "(I)V" } : Jvm.MethodName)) ∈ lw_all := lw_g (lw_at lw_m7 182 rfl) rfl
theorem q1747 : (Jvm.Cond.code ({ cls := "java/lang/AbstractStringBuilder", name := "setLength", desc := "(I)V" } : Jvm.MethodName) prog_30_method_13_code (2 : Nat) (Option.none : Option Jvm.ClassFile.FieldType)) ∈ lw_all := lw_g (lw_at lw_m7 183 rfl) rfl
theorem q1748 : (Jvm.Cond.methodLink "java/lang/AbstractStringBuilder" (133 : Nat) ({ cls := "java/lang/StringLatin1", name := "fillNull", desc := "([BII)V" } : Jvm.MethodName)) ∈ lw_all := lw_g (lw_at lw_m7 184 rfl) rfl
theorem q1757 : (Jvm.Cond.methodLink "java/lang/AbstractStringBuilder" (137 : Nat) ({ cls := "java/lang/StringUTF16", name := "fillNull", desc := "([BII)V" } : Jvm.MethodName)) ∈ lw_all := lw_g (lw_at lw_m7 193 rfl) rfl
theorem q1809 : (Jvm.Cond.instanceMethod ({ cls := "java/lang/AbstractStringBuilder", name := "charAt", desc := "(I)C" } : Jvm.MethodName)) ∈ lw_all := lw_g (lw_at lw_m8 5 rfl) rfl
theorem q1810 : (Jvm.Cond.code ({ cls := "java/lang/AbstractStringBuilder", name := "charAt", desc := "(I)C" } : Jvm.MethodName) prog_30_method_14_code (5 : Nat) (Option.some Jvm.ClassFile.FieldType.char)) ∈ lw_all := lw_g (lw_at lw_m8 6 rfl) rfl
theorem q1811 : (Jvm.Cond.methodLink "java/lang/AbstractStringBuilder" (138 : Nat) ({ cls := "java/lang/Math", name := "min", desc := "(II)I" } : Jvm.MethodName)) ∈ lw_all := lw_g (lw_at lw_m8 7 rfl) rfl
theorem q1812 : (Jvm.Cond.methodLink "java/lang/AbstractStringBuilder" (144 : Nat) ({ cls := "java/lang/String", name := "checkIndex", desc := "(II)V" } : Jvm.MethodName)) ∈ lw_all := lw_g (lw_at lw_m8 8 rfl) rfl
theorem q1813 : (Jvm.Cond.methodLink "java/lang/AbstractStringBuilder" (148 : Nat) ({ cls := "java/lang/StringUTF16", name := "getChar", desc := "([BI)C" } : Jvm.MethodName)) ∈ lw_all := lw_g (lw_at lw_m8 9 rfl) rfl
theorem q1895 : (Jvm.Cond.instanceMethod ({ cls := "java/lang/AbstractStringBuilder", name := "getValue", desc := "()[B" } : Jvm.MethodName)) ∈ lw_all := lw_g (lw_at lw_m8 91 rfl) rfl
theorem q1896 : (Jvm.Cond.sameMethod "java/lang/AbstractStringBuilder" "java/lang/AbstractStringBuilder" "getValue" "()[B") ∈ lw_all := lw_g (lw_at lw_m8 92 rfl) rfl
theorem q1898 : (Jvm.Cond.code ({ cls := "java/lang/AbstractStringBuilder", name := "getValue", desc := "()[B" } : Jvm.MethodName) prog_30_method_64_code (1 : Nat) (Option.some (Jvm.ClassFile.FieldType.array Jvm.ClassFile.FieldType.byte))) ∈ lw_all := lw_g (lw_at lw_m8 94 rfl) rfl
theorem q2516 : (Jvm.Cond.instanceMethod ({ cls := "java/lang/AbstractStringBuilder", name := "append", desc := "(Ljava/lang/String;)Ljava/lang/AbstractStringBuilder;" } : Jvm.MethodName)) ∈ lw_all := lw_g (lw_at lw_m10 232 rfl) rfl
theorem q2517 : (Jvm.Cond.code ({ cls := "java/lang/AbstractStringBuilder", name := "append", desc := "(Ljava/lang/String;)Ljava/lang/AbstractStringBuilder;" } : Jvm.MethodName) prog_30_method_22_code (3 : Nat) (Option.some (Jvm.ClassFile.FieldType.object "java/lang/AbstractStringBuilder"))) ∈ lw_all := lw_g (lw_at lw_m10 233 rfl) rfl
theorem q2518 : (Jvm.Cond.methodLink "java/lang/AbstractStringBuilder" (204 : Nat) ({ cls := "java/lang/AbstractStringBuilder", name := "appendNull", desc := "()Ljava/lang/AbstractStringBuilder;" } : Jvm.MethodName)) ∈ lw_all := lw_g (lw_at lw_m10 234 rfl) rfl
theorem q2519 : (Jvm.Cond.privateMethod ({ cls := "java/lang/AbstractStringBuilder", name := "appendNull", desc := "()Ljava/lang/AbstractStringBuilder;" } : Jvm.MethodName)) ∈ lw_tbl := lw_at lw_m10 235 rfl
theorem q2520 : (Jvm.Cond.instanceMethod ({ cls := "java/lang/AbstractStringBuilder", name := "appendNull", desc := "()Ljava/lang/AbstractStringBuilder;" } : Jvm.MethodName)) ∈ lw_all := lw_g (lw_at lw_m10 236 rfl) rfl
theorem q2521 : (Jvm.Cond.code ({ cls := "java/lang/AbstractStringBuilder", name := "appendNull", desc := "()Ljava/lang/AbstractStringBuilder;" } : Jvm.MethodName) prog_30_method_26_code (3 : Nat) (Option.some (Jvm.ClassFile.FieldType.object "java/lang/AbstractStringBuilder"))) ∈ lw_all := lw_g (lw_at lw_m10 237 rfl) rfl
theorem q2522 : (Jvm.Cond.methodLink "java/lang/AbstractStringBuilder" (226 : Nat) ({ cls := "java/lang/StringUTF16", name := "putCharsAt", desc := "([BICCCC)I" } : Jvm.MethodName)) ∈ lw_all := lw_g (lw_at lw_m10 238 rfl) rfl
theorem q2531 : (Jvm.Cond.methodLink "java/lang/AbstractStringBuilder" (32 : Nat) ({ cls := "java/lang/String", name := "length", desc := "()I" } : Jvm.MethodName)) ∈ lw_all := lw_g (lw_at lw_m11 7 rfl) rfl
theorem q2535 : (Jvm.Cond.methodLink "java/lang/AbstractStringBuilder" (208 : Nat) ({ cls := "java/lang/AbstractStringBuilder", name := "putStringAt", desc := "(ILjava/lang/String;)V" } : Jvm.MethodName)) ∈ lw_all := lw_g (lw_at lw_m11 11 rfl) rfl
theorem q2536 : (Jvm.Cond.privateMethod ({ cls := "java/lang/AbstractStringBuilder", name := "putStringAt", desc := "(ILjava/lang/String;)V" } : Jvm.MethodName)) ∈ lw_tbl := lw_at lw_m11 12 rfl
theorem q2537 : (Jvm.Cond.instanceMethod ({ cls := "java/lang/AbstractStringBuilder", name := "putStringAt", desc := "(ILjava/lang/String;)V" } : Jvm.MethodName)) ∈ lw_all := lw_g (lw_at lw_m11 13 rfl) rfl
theorem q2538 : (Jvm.Cond.code ({ cls := "java/lang/AbstractStringBuilder", name := "putStringAt", desc := "(ILjava/lang/String;)V" } : Jvm.MethodName) prog_30_method_73_code (3 : Nat) (Option.none : Option Jvm.ClassFile.FieldType)) ∈ lw_all := lw_g (lw_at lw_m11 14 rfl) rfl
theorem q2539 : (Jvm.Cond.methodLink "java/lang/AbstractStringBuilder" (397 : Nat) ({ cls := "java/lang/AbstractStringBuilder", name := "inflateIfNeededFor", desc := "(Ljava/lang/String;)V" } : Jvm.MethodName)) ∈ lw_all := lw_g (lw_at lw_m11 15 rfl) rfl
theorem q2540 : (Jvm.Cond.privateMethod ({ cls := "java/lang/AbstractStringBuilder", name := "inflateIfNeededFor", desc := "(Ljava/lang/String;)V" } : Jvm.MethodName)) ∈ lw_tbl := lw_at lw_m11 16 rfl
theorem q2541 : (Jvm.Cond.instanceMethod ({ cls := "java/lang/AbstractStringBuilder", name := "inflateIfNeededFor", desc := "(Ljava/lang/String;)V" } : Jvm.MethodName)) ∈ lw_all := lw_g (lw_at lw_m11 17 rfl) rfl
theorem q2542 : (Jvm.Cond.code ({ cls := "java/lang/AbstractStringBuilder", name := "inflateIfNeededFor", desc := "(Ljava/lang/String;)V" } : Jvm.MethodName) prog_30_method_71_code (2 : Nat) (Option.none : Option Jvm.ClassFile.FieldType)) ∈ lw_all := lw_g (lw_at lw_m11 18 rfl) rfl
theorem q2543 : (Jvm.Cond.methodLink "java/lang/AbstractStringBuilder" (40 : Nat) ({ cls := "java/lang/String", name := "coder", desc := "()B" } : Jvm.MethodName)) ∈ lw_all := lw_g (lw_at lw_m11 19 rfl) rfl
theorem q2544 : (Jvm.Cond.methodLink "java/lang/AbstractStringBuilder" (399 : Nat) ({ cls := "java/lang/String", name := "getBytes", desc := "([BIB)V" } : Jvm.MethodName)) ∈ lw_all := lw_g (lw_at lw_m11 20 rfl) rfl
theorem q2586 : (Jvm.Cond.instanceMethod ({ cls := "java/lang/AbstractStringBuilder", name := "append", desc := "(I)Ljava/lang/AbstractStringBuilder;" } : Jvm.MethodName)) ∈ lw_all := lw_g (lw_at lw_m11 62 rfl) rfl
theorem q2587 : (Jvm.Cond.code ({ cls := "java/lang/AbstractStringBuilder", name := "append", desc := "(I)Ljava/lang/AbstractStringBuilder;" } : Jvm.MethodName) prog_30_method_32_code (4 : Nat) (Option.some (Jvm.ClassFile.FieldType.object "java/lang/AbstractStringBuilder"))) ∈ lw_all := lw_g (lw_at lw_m11 63 rfl) rfl
theorem q2588 : (Jvm.Cond.methodLink "java/lang/AbstractStringBuilder" (245 : Nat) ({ cls := "java/lang/Integer", name := "stringSize", desc := "(I)I" } : Jvm.MethodName)) ∈ lw_all := lw_g (lw_at lw_m11 64 rfl) rfl
theorem q2589 : (Jvm.Cond.methodLink "java/lang/AbstractStringBuilder" (248 : Nat) ({ cls := "java/lang/Integer", name := "getChars", desc := "(II[B)I" } : Jvm.MethodName)) ∈ lw_all := lw_g (lw_at lw_m11 65 rfl) rfl
theorem q2590 : (Jvm.Cond.methodLink "java/lang/AbstractStringBuilder" (251 : Nat) ({ cls := "java/lang/StringUTF16", name := "getChars", desc := "(III[B)I" } : Jvm.MethodName)) ∈ lw_all := lw_g (lw_at lw_m11 66 rfl) rfl
theorem q3171 : (Jvm.Cond.sameMethod "java/lang/AbstractStringBuilder" "java/lang/AbstractStringBuilder" "compareTo" "(Ljava/lang/AbstractStringBuilder;)I") ∈ lw_all := lw_g (lw_at lw_m13 167 rfl) rfl
theorem q3173 : (Jvm.Cond.sameMethod "java/lang/AbstractStringBuilder" "java/lang/AbstractStringBuilder" "length" "()I") ∈ lw_all := lw_g (lw_at lw_m13 169 rfl) rfl
theorem q3174 : (Jvm.Cond.sameMethod "java/lang/AbstractStringBuilder" "java/lang/AbstractStringBuilder" "append" "(C)Ljava/lang/AbstractStringBuilder;") ∈ lw_all := lw_g (lw_at lw_m13 170 rfl) rfl
theorem q3175 : (Jvm.Cond.sameMethod "java/lang/AbstractStringBuilder" "java/lang/AbstractStringBuilder" "ensureCapacityInternal" "(I)V") ∈ lw_all := lw_g (lw_at lw_m13 171 rfl) rfl
theorem q3176 : (Jvm.Cond.sameMethod "java/lang/AbstractStringBuilder" "java/lang/AbstractStringBuilder" "newCapacity" "(I)I") ∈ lw_all := lw_g (lw_at lw_m13 172 rfl) rfl
theorem q3177 : (Jvm.Cond.sameMethod "java/lang/AbstractStringBuilder" "java/lang/AbstractStringBuilder" "inflate" "()V") ∈ lw_all := lw_g (lw_at lw_m13 173 rfl) rfl
theorem q3178 : (Jvm.Cond.sameMethod "java/lang/AbstractStringBuilder" "java/lang/AbstractStringBuilder" "setLength" "(I)V") ∈ lw_all := lw_g (lw_at lw_m13 174 rfl) rfl
theorem q3179 : (Jvm.Cond.sameMethod "java/lang/AbstractStringBuilder" "java/lang/AbstractStringBuilder" "charAt" "(I)C") ∈ lw_all := lw_g (lw_at lw_m13 175 rfl) rfl
theorem q3183 : (Jvm.Cond.sameMethod "java/lang/AbstractStringBuilder" "java/lang/AbstractStringBuilder" "append" "(Ljava/lang/String;)Ljava/lang/AbstractStringBuilder;") ∈ lw_all := lw_g (lw_at lw_m13 179 rfl) rfl
theorem q3184 : (Jvm.Cond.sameMethod "java/lang/AbstractStringBuilder" "java/lang/AbstractStringBuilder" "appendNull" "()Ljava/lang/AbstractStringBuilder;") ∈ lw_all := lw_g (lw_at lw_m13 180 rfl) rfl
theorem q3185 : (Jvm.Cond.sameMethod "java/lang/AbstractStringBuilder" "java/lang/AbstractStringBuilder" "putStringAt" "(ILjava/lang/String;)V") ∈ lw_all := lw_g (lw_at lw_m13 181 rfl) rfl
theorem q3186 : (Jvm.Cond.sameMethod "java/lang/AbstractStringBuilder" "java/lang/AbstractStringBuilder" "inflateIfNeededFor" "(Ljava/lang/String;)V") ∈ lw_all := lw_g (lw_at lw_m13 182 rfl) rfl
theorem q3187 : (Jvm.Cond.sameMethod "java/lang/AbstractStringBuilder" "java/lang/AbstractStringBuilder" "append" "(I)Ljava/lang/AbstractStringBuilder;") ∈ lw_all := lw_g (lw_at lw_m13 183 rfl) rfl
/-! java/lang/StringBuilder -/
set_option maxRecDepth 100000
def RJ17 : String := "java/lang/StringBuilder"
def TJ17 : u_T := fun k => match k with
  | 0 => ("java/lang/AbstractStringBuilder", "value", "[B", false)
  | 1 => ("java/lang/AbstractStringBuilder", "coder", "B", false)
  | 2 => ("java/lang/AbstractStringBuilder", "maybeLatin1", "Z", false)
  | _ => ("java/lang/AbstractStringBuilder", "count", "I", false)
def tyJ17 : Nat → FieldType := fun k => match k with
  | 0 => .array .byte
  | 1 => .byte
  | 2 => .boolean
  | _ => .int
abbrev wsJ170 : List Cond := u_ws RJ17 TJ17 4
theorem nmJ17 : ∀ a, a < 4 → ∀ b, b < 4 → a ≠ b → (TJ17 a).2.1 ≠ (TJ17 b).2.1 := by decide +kernel
theorem tyJ17_ok : ∀ k, k < 4 → parseFieldDescriptor (TJ17 k).2.2.1 = some (tyJ17 k) := by decide +kernel
abbrev cJ17_compareTo : ByteArray := prog_43_method_97_code
def yJ17_compareTo : MethodName := ⟨RJ17, "compareTo", "(Ljava/lang/Object;)I"⟩
def dkwJ17_compareTo_0 : List UInt8 := [42, 43, 192, 0, 24, 182, 1, 90, 172]
abbrev dktJ17_compareTo_0 : List UInt8 := dkwJ17_compareTo_0 ++ []
theorem dksJ17_compareTo_0 : cJ17_compareTo.data.toList.drop 0 = dktJ17_compareTo_0 := by decide +kernel
theorem dJ17_compareTo_0 : decode cJ17_compareTo 0 = .ok (.aload_n 0, 1) := dk_42 (dk_at dksJ17_compareTo_0 0 rfl rfl)
theorem dJ17_compareTo_1 : decode cJ17_compareTo 1 = .ok (.aload_n 1, 1) := dk_43 (dk_at dksJ17_compareTo_0 1 rfl rfl)
theorem dJ17_compareTo_2 : decode cJ17_compareTo 2 = .ok (.checkcast 24, 3) := dk_192 0 24 (dk_at dksJ17_compareTo_0 2 rfl rfl)
theorem dJ17_compareTo_5 : decode cJ17_compareTo 5 = .ok (.invokevirtual 346, 3) := dk_182 1 90 (dk_at dksJ17_compareTo_0 5 rfl rfl)
theorem dJ17_compareTo_8 : decode cJ17_compareTo 8 = .ok (.ireturn, 1) := dk_172 (dk_at dksJ17_compareTo_0 8 rfl rfl)
abbrev cJ17_compareTo_2 : ByteArray := prog_43_method_5_code
def yJ17_compareTo_2 : MethodName := ⟨RJ17, "compareTo", "(Ljava/lang/StringBuilder;)I"⟩
def dkwJ17_compareTo_2_0 : List UInt8 := [42, 43, 183, 0, 13, 172]
abbrev dktJ17_compareTo_2_0 : List UInt8 := dkwJ17_compareTo_2_0 ++ []
theorem dksJ17_compareTo_2_0 : cJ17_compareTo_2.data.toList.drop 0 = dktJ17_compareTo_2_0 := by decide +kernel
theorem dJ17_compareTo_2_0 : decode cJ17_compareTo_2 0 = .ok (.aload_n 0, 1) := dk_42 (dk_at dksJ17_compareTo_2_0 0 rfl rfl)
theorem dJ17_compareTo_2_1 : decode cJ17_compareTo_2 1 = .ok (.aload_n 1, 1) := dk_43 (dk_at dksJ17_compareTo_2_0 1 rfl rfl)
theorem dJ17_compareTo_2_2 : decode cJ17_compareTo_2 2 = .ok (.invokespecial 13, 3) := dk_183 0 13 (dk_at dksJ17_compareTo_2_0 2 rfl rfl)
theorem dJ17_compareTo_2_5 : decode cJ17_compareTo_2 5 = .ok (.ireturn, 1) := dk_172 (dk_at dksJ17_compareTo_2_0 5 rfl rfl)
abbrev cJ17_init : ByteArray := prog_43_method_1_code
def yJ17_init : MethodName := ⟨RJ17, "<init>", "()V"⟩
def dkwJ17_init_0 : List UInt8 := [42, 16, 16, 183, 0, 1, 177]
abbrev dktJ17_init_0 : List UInt8 := dkwJ17_init_0 ++ []
theorem dksJ17_init_0 : cJ17_init.data.toList.drop 0 = dktJ17_init_0 := by decide +kernel
theorem dJ17_init_0 : decode cJ17_init 0 = .ok (.aload_n 0, 1) := dk_42 (dk_at dksJ17_init_0 0 rfl rfl)
theorem dJ17_init_1 : decode cJ17_init 1 = .ok (.bipush 16, 2) := dk_16 16 (dk_at dksJ17_init_0 1 rfl rfl)
theorem dJ17_init_3 : decode cJ17_init 3 = .ok (.invokespecial 1, 3) := dk_183 0 1 (dk_at dksJ17_init_0 3 rfl rfl)
theorem dJ17_init_6 : decode cJ17_init 6 = .ok (.return_, 1) := dk_177 (dk_at dksJ17_init_0 6 rfl rfl)
abbrev cJ17_length : ByteArray := prog_43_method_93_code
def yJ17_length : MethodName := ⟨RJ17, "length", "()I"⟩
theorem dJ17_length_0 : decode cJ17_length 0 = .ok (.aload_n 0, 1) := by decide +kernel
theorem dJ17_length_1 : decode cJ17_length 1 = .ok (.invokespecial 343, 3) := by decide +kernel
theorem dJ17_length_4 : decode cJ17_length 4 = .ok (.ireturn, 1) := by decide +kernel
abbrev cJ17_append : ByteArray := prog_43_method_14_code
def yJ17_append : MethodName := ⟨RJ17, "append", "(C)Ljava/lang/StringBuilder;"⟩
def dkwJ17_append_0 : List UInt8 := [42, 27, 183, 0, 50, 87, 42, 176]
abbrev dktJ17_append_0 : List UInt8 := dkwJ17_append_0 ++ []
theorem dksJ17_append_0 : cJ17_append.data.toList.drop 0 = dktJ17_append_0 := by decide +kernel
theorem dJ17_append_0 : decode cJ17_append 0 = .ok (.aload_n 0, 1) := dk_42 (dk_at dksJ17_append_0 0 rfl rfl)
theorem dJ17_append_1 : decode cJ17_append 1 = .ok (.iload_n 1, 1) := dk_27 (dk_at dksJ17_append_0 1 rfl rfl)
theorem dJ17_append_2 : decode cJ17_append 2 = .ok (.invokespecial 50, 3) := dk_183 0 50 (dk_at dksJ17_append_0 2 rfl rfl)
theorem dJ17_append_5 : decode cJ17_append 5 = .ok (.pop, 1) := dk_87 (dk_at dksJ17_append_0 5 rfl rfl)
theorem dJ17_append_6 : decode cJ17_append 6 = .ok (.aload_n 0, 1) := dk_42 (dk_at dksJ17_append_0 6 rfl rfl)
theorem dJ17_append_7 : decode cJ17_append 7 = .ok (.areturn, 1) := dk_176 (dk_at dksJ17_append_0 7 rfl rfl)
abbrev cJ17_setLength : ByteArray := prog_43_method_89_code
def yJ17_setLength : MethodName := ⟨RJ17, "setLength", "(I)V"⟩
def dkwJ17_setLength_0 : List UInt8 := [42, 27, 183, 1, 77, 177]
abbrev dktJ17_setLength_0 : List UInt8 := dkwJ17_setLength_0 ++ []
theorem dksJ17_setLength_0 : cJ17_setLength.data.toList.drop 0 = dktJ17_setLength_0 := by decide +kernel
theorem dJ17_setLength_0 : decode cJ17_setLength 0 = .ok (.aload_n 0, 1) := dk_42 (dk_at dksJ17_setLength_0 0 rfl rfl)
theorem dJ17_setLength_1 : decode cJ17_setLength 1 = .ok (.iload_n 1, 1) := dk_27 (dk_at dksJ17_setLength_0 1 rfl rfl)
theorem dJ17_setLength_2 : decode cJ17_setLength 2 = .ok (.invokespecial 333, 3) := dk_183 1 77 (dk_at dksJ17_setLength_0 2 rfl rfl)
theorem dJ17_setLength_5 : decode cJ17_setLength 5 = .ok (.return_, 1) := dk_177 (dk_at dksJ17_setLength_0 5 rfl rfl)
abbrev cJ17_charAt : ByteArray := prog_43_method_88_code
def yJ17_charAt : MethodName := ⟨RJ17, "charAt", "(I)C"⟩
def dkwJ17_charAt_0 : List UInt8 := [42, 27, 183, 1, 73, 172]
abbrev dktJ17_charAt_0 : List UInt8 := dkwJ17_charAt_0 ++ []
theorem dksJ17_charAt_0 : cJ17_charAt.data.toList.drop 0 = dktJ17_charAt_0 := by decide +kernel
theorem dJ17_charAt_0 : decode cJ17_charAt 0 = .ok (.aload_n 0, 1) := dk_42 (dk_at dksJ17_charAt_0 0 rfl rfl)
theorem dJ17_charAt_1 : decode cJ17_charAt 1 = .ok (.iload_n 1, 1) := dk_27 (dk_at dksJ17_charAt_0 1 rfl rfl)
theorem dJ17_charAt_2 : decode cJ17_charAt 2 = .ok (.invokespecial 329, 3) := dk_183 1 73 (dk_at dksJ17_charAt_0 2 rfl rfl)
theorem dJ17_charAt_5 : decode cJ17_charAt 5 = .ok (.ireturn, 1) := dk_172 (dk_at dksJ17_charAt_0 5 rfl rfl)
abbrev cJ17_toString : ByteArray := prog_43_method_42_code
def yJ17_toString : MethodName := ⟨RJ17, "toString", "()Ljava/lang/String;"⟩
def dkwJ17_toString_0 : List UInt8 := [187, 0, 18, 89, 42, 183, 0, 137, 176]
abbrev dktJ17_toString_0 : List UInt8 := dkwJ17_toString_0 ++ []
theorem dksJ17_toString_0 : cJ17_toString.data.toList.drop 0 = dktJ17_toString_0 := by decide +kernel
theorem dJ17_toString_0 : decode cJ17_toString 0 = .ok (.new 18, 3) := dk_187 0 18 (dk_at dksJ17_toString_0 0 rfl rfl)
theorem dJ17_toString_3 : decode cJ17_toString 3 = .ok (.dup, 1) := dk_89 (dk_at dksJ17_toString_0 3 rfl rfl)
theorem dJ17_toString_4 : decode cJ17_toString 4 = .ok (.aload_n 0, 1) := dk_42 (dk_at dksJ17_toString_0 4 rfl rfl)
theorem dJ17_toString_5 : decode cJ17_toString 5 = .ok (.invokespecial 137, 3) := dk_183 0 137 (dk_at dksJ17_toString_0 5 rfl rfl)
theorem dJ17_toString_8 : decode cJ17_toString 8 = .ok (.areturn, 1) := dk_176 (dk_at dksJ17_toString_0 8 rfl rfl)
abbrev cJ17_append_2 : ByteArray := prog_43_method_7_code
def yJ17_append_2 : MethodName := ⟨RJ17, "append", "(Ljava/lang/String;)Ljava/lang/StringBuilder;"⟩
def dkwJ17_append_2_0 : List UInt8 := [42, 43, 183, 0, 29, 87, 42, 176]
abbrev dktJ17_append_2_0 : List UInt8 := dkwJ17_append_2_0 ++ []
theorem dksJ17_append_2_0 : cJ17_append_2.data.toList.drop 0 = dktJ17_append_2_0 := by decide +kernel
theorem dJ17_append_2_0 : decode cJ17_append_2 0 = .ok (.aload_n 0, 1) := dk_42 (dk_at dksJ17_append_2_0 0 rfl rfl)
theorem dJ17_append_2_1 : decode cJ17_append_2 1 = .ok (.aload_n 1, 1) := dk_43 (dk_at dksJ17_append_2_0 1 rfl rfl)
theorem dJ17_append_2_2 : decode cJ17_append_2 2 = .ok (.invokespecial 29, 3) := dk_183 0 29 (dk_at dksJ17_append_2_0 2 rfl rfl)
theorem dJ17_append_2_5 : decode cJ17_append_2 5 = .ok (.pop, 1) := dk_87 (dk_at dksJ17_append_2_0 5 rfl rfl)
theorem dJ17_append_2_6 : decode cJ17_append_2 6 = .ok (.aload_n 0, 1) := dk_42 (dk_at dksJ17_append_2_0 6 rfl rfl)
theorem dJ17_append_2_7 : decode cJ17_append_2 7 = .ok (.areturn, 1) := dk_176 (dk_at dksJ17_append_2_0 7 rfl rfl)
abbrev cJ17_append_3 : ByteArray := prog_43_method_15_code
def yJ17_append_3 : MethodName := ⟨RJ17, "append", "(I)Ljava/lang/StringBuilder;"⟩
def dkwJ17_append_3_0 : List UInt8 := [42, 27, 183, 0, 53, 87, 42, 176]
abbrev dktJ17_append_3_0 : List UInt8 := dkwJ17_append_3_0 ++ []
theorem dksJ17_append_3_0 : cJ17_append_3.data.toList.drop 0 = dktJ17_append_3_0 := by decide +kernel
theorem dJ17_append_3_0 : decode cJ17_append_3 0 = .ok (.aload_n 0, 1) := dk_42 (dk_at dksJ17_append_3_0 0 rfl rfl)
theorem dJ17_append_3_1 : decode cJ17_append_3 1 = .ok (.iload_n 1, 1) := dk_27 (dk_at dksJ17_append_3_0 1 rfl rfl)
theorem dJ17_append_3_2 : decode cJ17_append_3 2 = .ok (.invokespecial 53, 3) := dk_183 0 53 (dk_at dksJ17_append_3_0 2 rfl rfl)
theorem dJ17_append_3_5 : decode cJ17_append_3 5 = .ok (.pop, 1) := dk_87 (dk_at dksJ17_append_3_0 5 rfl rfl)
theorem dJ17_append_3_6 : decode cJ17_append_3 6 = .ok (.aload_n 0, 1) := dk_42 (dk_at dksJ17_append_3_0 6 rfl rfl)
theorem dJ17_append_3_7 : decode cJ17_append_3 7 = .ok (.areturn, 1) := dk_176 (dk_at dksJ17_append_3_0 7 rfl rfl)
theorem q149 : (Jvm.Cond.initialized "java/lang/StringBuilder") ∈ lw_all := lw_g (lw_at lw_m1 25 rfl) rfl
theorem q549 : (Jvm.Cond.castable "java/lang/StringBuilder" "java/lang/Comparable") ∈ lw_tbl := lw_at lw_m2 185 rfl
theorem q550 : (Jvm.Cond.selects "java/lang/StringBuilder" ({ cls := "java/lang/Comparable", name := "compareTo", desc := "(Ljava/lang/Object;)I" } : Jvm.MethodName) ({ cls := "java/lang/StringBuilder", name := "compareTo", desc := "(Ljava/lang/Object;)I" } : Jvm.MethodName)) ∈ lw_all := lw_g (lw_at lw_m2 186 rfl) rfl
theorem q551 : (Jvm.Cond.unhidden "java/lang/StringBuilder" "compareTo" "(Ljava/lang/Object;)I") ∈ lw_tbl := lw_at lw_m2 187 rfl
theorem q552 : (Jvm.Cond.instanceMethod ({ cls := "java/lang/StringBuilder", name := "compareTo", desc := "(Ljava/lang/Object;)I" } : Jvm.MethodName)) ∈ lw_all := lw_g (lw_at lw_m2 188 rfl) rfl
theorem q553 : (Jvm.Cond.publicMethod ({ cls := "java/lang/StringBuilder", name := "compareTo", desc := "(Ljava/lang/Object;)I" } : Jvm.MethodName)) ∈ lw_tbl := lw_at lw_m2 189 rfl
theorem q554 : (Jvm.Cond.code ({ cls := "java/lang/StringBuilder", name := "compareTo", desc := "(Ljava/lang/Object;)I" } : Jvm.MethodName) prog_43_method_97_code (2 : Nat) (Option.some Jvm.ClassFile.FieldType.int)) ∈ lw_all := lw_g (lw_at lw_m2 190 rfl) rfl
theorem q555 : (Jvm.Cond.classLink "java/lang/StringBuilder" (24 : Nat) "java/lang/StringBuilder") ∈ lw_all := lw_g (lw_at lw_m2 191 rfl) rfl
theorem q556 : (Jvm.Cond.methodLink "java/lang/StringBuilder" (346 : Nat) ({ cls := "java/lang/StringBuilder", name := "compareTo", desc := "(Ljava/lang/StringBuilder;)I" } : Jvm.MethodName)) ∈ lw_all := lw_g (lw_at lw_m2 192 rfl) rfl
theorem q557 : (Jvm.Cond.instanceMethod ({ cls := "java/lang/StringBuilder", name := "compareTo", desc := "(Ljava/lang/StringBuilder;)I" } : Jvm.MethodName)) ∈ lw_all := lw_g (lw_at lw_m2 193 rfl) rfl
theorem q558 : (Jvm.Cond.selects "java/lang/StringBuilder" ({ cls := "java/lang/StringBuilder", name := "compareTo", desc := "(Ljava/lang/StringBuilder;)I" } : Jvm.MethodName) ({ cls := "java/lang/StringBuilder", name := "compareTo", desc := "(Ljava/lang/StringBuilder;)I" } : Jvm.MethodName)) ∈ lw_all := lw_g (lw_at lw_m2 194 rfl) rfl
theorem q559 : (Jvm.Cond.code ({ cls := "java/lang/StringBuilder", name := "compareTo", desc := "(Ljava/lang/StringBuilder;)I" } : Jvm.MethodName) prog_43_method_5_code (2 : Nat) (Option.some Jvm.ClassFile.FieldType.int)) ∈ lw_all := lw_g (lw_at lw_m2 195 rfl) rfl
theorem q560 : (Jvm.Cond.methodLink "java/lang/StringBuilder" (13 : Nat) ({ cls := "java/lang/AbstractStringBuilder", name := "compareTo", desc := "(Ljava/lang/AbstractStringBuilder;)I" } : Jvm.MethodName)) ∈ lw_all := lw_g (lw_at lw_m2 196 rfl) rfl
theorem q561 : (Jvm.Cond.superclass "java/lang/StringBuilder" "java/lang/AbstractStringBuilder") ∈ lw_all := lw_g (lw_at lw_m2 197 rfl) rfl
theorem q567 : (Jvm.Cond.selects "java/lang/StringBuilder" ({ cls := "java/lang/AbstractStringBuilder", name := "isLatin1", desc := "()Z" } : Jvm.MethodName) ({ cls := "java/lang/AbstractStringBuilder", name := "isLatin1", desc := "()Z" } : Jvm.MethodName)) ∈ lw_all := lw_g (lw_at lw_m2 203 rfl) rfl
theorem q818 : (Jvm.Cond.instantiable "java/lang/StringBuilder" (4 : Nat)) ∈ lw_all := lw_g (lw_at lw_m3 214 rfl) rfl
theorem q820 : (Jvm.Cond.instanceMethod ({ cls := "java/lang/StringBuilder", name := "<init>", desc := "()V" } : Jvm.MethodName)) ∈ lw_all := lw_g (lw_at lw_m3 216 rfl) rfl
theorem q821 : (Jvm.Cond.code ({ cls := "java/lang/StringBuilder", name := "<init>", desc := "()V" } : Jvm.MethodName) prog_43_method_1_code (1 : Nat) (Option.none : Option Jvm.ClassFile.FieldType)) ∈ lw_all := lw_g (lw_at lw_m3 217 rfl) rfl
theorem q822 : (Jvm.Cond.methodLink "java/lang/StringBuilder" (1 : Nat) ({ cls := "java/lang/AbstractStringBuilder", name := "<init>", desc := "(I)V" } : Jvm.MethodName)) ∈ lw_all := lw_g (lw_at lw_m3 218 rfl) rfl
theorem q838 : (Jvm.Cond.lays "java/lang/StringBuilder" "java/lang/AbstractStringBuilder" "value" "[B") ∈ lw_all := lw_g (lw_at lw_m3 234 rfl) rfl
theorem q840 : (Jvm.Cond.lays "java/lang/StringBuilder" "java/lang/AbstractStringBuilder" "coder" "B") ∈ lw_all := lw_g (lw_at lw_m3 236 rfl) rfl
theorem q842 : (Jvm.Cond.lays "java/lang/StringBuilder" "java/lang/AbstractStringBuilder" "maybeLatin1" "Z") ∈ lw_all := lw_g (lw_at lw_m3 238 rfl) rfl
theorem q844 : (Jvm.Cond.lays "java/lang/StringBuilder" "java/lang/AbstractStringBuilder" "count" "I") ∈ lw_all := lw_g (lw_at lw_m4 0 rfl) rfl
theorem q1112 : (Jvm.Cond.selects "java/lang/StringBuilder" ({ cls := "java/lang/Object", name := "getClass", desc := "()Ljava/lang/Class;" } : Jvm.MethodName) ({ cls := "java/lang/Object", name := "getClass", desc := "()Ljava/lang/Class;" } : Jvm.MethodName)) ∈ lw_all := lw_g (lw_at lw_m5 28 rfl) rfl
theorem q1667 : (Jvm.Cond.instanceMethod ({ cls := "java/lang/StringBuilder", name := "length", desc := "()I" } : Jvm.MethodName)) ∈ lw_all := lw_g (lw_at lw_m7 103 rfl) rfl
theorem q1668 : (Jvm.Cond.selects "java/lang/StringBuilder" ({ cls := "java/lang/StringBuilder", name := "length", desc := "()I" } : Jvm.MethodName) ({ cls := "java/lang/StringBuilder", name := "length", desc := "()I" } : Jvm.MethodName)) ∈ lw_all := lw_g (lw_at lw_m7 104 rfl) rfl
theorem q1669 : (Jvm.Cond.code ({ cls := "java/lang/StringBuilder", name := "length", desc := "()I" } : Jvm.MethodName) prog_43_method_93_code (1 : Nat) (Option.some Jvm.ClassFile.FieldType.int)) ∈ lw_all := lw_g (lw_at lw_m7 105 rfl) rfl
theorem q1670 : (Jvm.Cond.methodLink "java/lang/StringBuilder" (343 : Nat) ({ cls := "java/lang/AbstractStringBuilder", name := "length", desc := "()I" } : Jvm.MethodName)) ∈ lw_all := lw_g (lw_at lw_m7 106 rfl) rfl
theorem q1674 : (Jvm.Cond.instanceMethod ({ cls := "java/lang/StringBuilder", name := "append", desc := "(C)Ljava/lang/StringBuilder;" } : Jvm.MethodName)) ∈ lw_all := lw_g (lw_at lw_m7 110 rfl) rfl
theorem q1675 : (Jvm.Cond.selects "java/lang/StringBuilder" ({ cls := "java/lang/StringBuilder", name := "append", desc := "(C)Ljava/lang/StringBuilder;" } : Jvm.MethodName) ({ cls := "java/lang/StringBuilder", name := "append", desc := "(C)Ljava/lang/StringBuilder;" } : Jvm.MethodName)) ∈ lw_all := lw_g (lw_at lw_m7 111 rfl) rfl
theorem q1676 : (Jvm.Cond.code ({ cls := "java/lang/StringBuilder", name := "append", desc := "(C)Ljava/lang/StringBuilder;" } : Jvm.MethodName) prog_43_method_14_code (2 : Nat) (Option.some (Jvm.ClassFile.FieldType.object "java/lang/StringBuilder"))) ∈ lw_all := lw_g (lw_at lw_m7 112 rfl) rfl
theorem q1677 : (Jvm.Cond.methodLink "java/lang/StringBuilder" (50 : Nat) ({ cls := "java/lang/AbstractStringBuilder", name := "append", desc := "(C)Ljava/lang/AbstractStringBuilder;" } : Jvm.MethodName)) ∈ lw_all := lw_g (lw_at lw_m7 113 rfl) rfl
theorem q1742 : (Jvm.Cond.instanceMethod ({ cls := "java/lang/StringBuilder", name := "setLength", desc := "(I)V" } : Jvm.MethodName)) ∈ lw_all := lw_g (lw_at lw_m7 178 rfl) rfl
theorem q1743 : (Jvm.Cond.selects "java/lang/StringBuilder" ({ cls := "java/lang/StringBuilder", name := "setLength", desc := "(I)V" } : Jvm.MethodName) ({ cls := "java/lang/StringBuilder", name := "setLength", desc := "(I)V" } : Jvm.MethodName)) ∈ lw_all := lw_g (lw_at lw_m7 179 rfl) rfl
theorem q1744 : (Jvm.Cond.code ({ cls := "java/lang/StringBuilder", name := "setLength", desc := "(I)V" } : Jvm.MethodName) prog_43_method_89_code (2 : Nat) (Option.none : Option Jvm.ClassFile.FieldType)) ∈ lw_all := lw_g (lw_at lw_m7 180 rfl) rfl
theorem q1745 : (Jvm.Cond.methodLink "java/lang/StringBuilder" (333 : Nat) ({ cls := "java/lang/AbstractStringBuilder", name := "setLength", desc := "(I)V" } : Jvm.MethodName)) ∈ lw_all := lw_g (lw_at lw_m7 181 rfl) rfl
theorem q1805 : (Jvm.Cond.instanceMethod ({ cls := "java/lang/StringBuilder", name := "charAt", desc := "(I)C" } : Jvm.MethodName)) ∈ lw_all := lw_g (lw_at lw_m8 1 rfl) rfl
theorem q1806 : (Jvm.Cond.selects "java/lang/StringBuilder" ({ cls := "java/lang/StringBuilder", name := "charAt", desc := "(I)C" } : Jvm.MethodName) ({ cls := "java/lang/StringBuilder", name := "charAt", desc := "(I)C" } : Jvm.MethodName)) ∈ lw_all := lw_g (lw_at lw_m8 2 rfl) rfl
theorem q1807 : (Jvm.Cond.code ({ cls := "java/lang/StringBuilder", name := "charAt", desc := "(I)C" } : Jvm.MethodName) prog_43_method_88_code (2 : Nat) (Option.some Jvm.ClassFile.FieldType.char)) ∈ lw_all := lw_g (lw_at lw_m8 3 rfl) rfl
theorem q1808 : (Jvm.Cond.methodLink "java/lang/StringBuilder" (329 : Nat) ({ cls := "java/lang/AbstractStringBuilder", name := "charAt", desc := "(I)C" } : Jvm.MethodName)) ∈ lw_all := lw_g (lw_at lw_m8 4 rfl) rfl
theorem q1876 : (Jvm.Cond.castable "java/lang/StringBuilder" "java/lang/CharSequence") ∈ lw_tbl := lw_at lw_m8 72 rfl
theorem q1877 : (Jvm.Cond.selects "java/lang/StringBuilder" ({ cls := "java/lang/CharSequence", name := "charAt", desc := "(I)C" } : Jvm.MethodName) ({ cls := "java/lang/StringBuilder", name := "charAt", desc := "(I)C" } : Jvm.MethodName)) ∈ lw_all := lw_g (lw_at lw_m8 73 rfl) rfl
theorem q1878 : (Jvm.Cond.unhidden "java/lang/StringBuilder" "charAt" "(I)C") ∈ lw_tbl := lw_at lw_m8 74 rfl
theorem q1879 : (Jvm.Cond.publicMethod ({ cls := "java/lang/StringBuilder", name := "charAt", desc := "(I)C" } : Jvm.MethodName)) ∈ lw_tbl := lw_at lw_m8 75 rfl
theorem q1882 : (Jvm.Cond.instanceMethod ({ cls := "java/lang/StringBuilder", name := "toString", desc := "()Ljava/lang/String;" } : Jvm.MethodName)) ∈ lw_all := lw_g (lw_at lw_m8 78 rfl) rfl
theorem q1883 : (Jvm.Cond.selects "java/lang/StringBuilder" ({ cls := "java/lang/StringBuilder", name := "toString", desc := "()Ljava/lang/String;" } : Jvm.MethodName) ({ cls := "java/lang/StringBuilder", name := "toString", desc := "()Ljava/lang/String;" } : Jvm.MethodName)) ∈ lw_all := lw_g (lw_at lw_m8 79 rfl) rfl
theorem q1884 : (Jvm.Cond.code ({ cls := "java/lang/StringBuilder", name := "toString", desc := "()Ljava/lang/String;" } : Jvm.MethodName) prog_43_method_42_code (1 : Nat) (Option.some (Jvm.ClassFile.FieldType.object "java/lang/String"))) ∈ lw_all := lw_g (lw_at lw_m8 80 rfl) rfl
theorem q1885 : (Jvm.Cond.classLink "java/lang/StringBuilder" (18 : Nat) "java/lang/String") ∈ lw_all := lw_g (lw_at lw_m8 81 rfl) rfl
theorem q1887 : (Jvm.Cond.methodLink "java/lang/StringBuilder" (137 : Nat) ({ cls := "java/lang/String", name := "<init>", desc := "(Ljava/lang/StringBuilder;)V" } : Jvm.MethodName)) ∈ lw_all := lw_g (lw_at lw_m8 83 rfl) rfl
theorem q1897 : (Jvm.Cond.selects "java/lang/StringBuilder" ({ cls := "java/lang/AbstractStringBuilder", name := "getValue", desc := "()[B" } : Jvm.MethodName) ({ cls := "java/lang/AbstractStringBuilder", name := "getValue", desc := "()[B" } : Jvm.MethodName)) ∈ lw_all := lw_g (lw_at lw_m8 93 rfl) rfl
theorem q1938 : (Jvm.Cond.selects "java/lang/StringBuilder" ({ cls := "java/lang/CharSequence", name := "toString", desc := "()Ljava/lang/String;" } : Jvm.MethodName) ({ cls := "java/lang/StringBuilder", name := "toString", desc := "()Ljava/lang/String;" } : Jvm.MethodName)) ∈ lw_all := lw_g (lw_at lw_m8 134 rfl) rfl
theorem q1939 : (Jvm.Cond.unhidden "java/lang/StringBuilder" "toString" "()Ljava/lang/String;") ∈ lw_tbl := lw_at lw_m8 135 rfl
theorem q1940 : (Jvm.Cond.publicMethod ({ cls := "java/lang/StringBuilder", name := "toString", desc := "()Ljava/lang/String;" } : Jvm.MethodName)) ∈ lw_tbl := lw_at lw_m8 136 rfl
theorem q2512 : (Jvm.Cond.instanceMethod ({ cls := "java/lang/StringBuilder", name := "append", desc := "(Ljava/lang/String;)Ljava/lang/StringBuilder;" } : Jvm.MethodName)) ∈ lw_all := lw_g (lw_at lw_m10 228 rfl) rfl
theorem q2513 : (Jvm.Cond.selects "java/lang/StringBuilder" ({ cls := "java/lang/StringBuilder", name := "append", desc := "(Ljava/lang/String;)Ljava/lang/StringBuilder;" } : Jvm.MethodName) ({ cls := "java/lang/StringBuilder", name := "append", desc := "(Ljava/lang/String;)Ljava/lang/StringBuilder;" } : Jvm.MethodName)) ∈ lw_all := lw_g (lw_at lw_m10 229 rfl) rfl
theorem q2514 : (Jvm.Cond.code ({ cls := "java/lang/StringBuilder", name := "append", desc := "(Ljava/lang/String;)Ljava/lang/StringBuilder;" } : Jvm.MethodName) prog_43_method_7_code (2 : Nat) (Option.some (Jvm.ClassFile.FieldType.object "java/lang/StringBuilder"))) ∈ lw_all := lw_g (lw_at lw_m10 230 rfl) rfl
theorem q2515 : (Jvm.Cond.methodLink "java/lang/StringBuilder" (29 : Nat) ({ cls := "java/lang/AbstractStringBuilder", name := "append", desc := "(Ljava/lang/String;)Ljava/lang/AbstractStringBuilder;" } : Jvm.MethodName)) ∈ lw_all := lw_g (lw_at lw_m10 231 rfl) rfl
theorem q2582 : (Jvm.Cond.instanceMethod ({ cls := "java/lang/StringBuilder", name := "append", desc := "(I)Ljava/lang/StringBuilder;" } : Jvm.MethodName)) ∈ lw_all := lw_g (lw_at lw_m11 58 rfl) rfl
theorem q2583 : (Jvm.Cond.selects "java/lang/StringBuilder" ({ cls := "java/lang/StringBuilder", name := "append", desc := "(I)Ljava/lang/StringBuilder;" } : Jvm.MethodName) ({ cls := "java/lang/StringBuilder", name := "append", desc := "(I)Ljava/lang/StringBuilder;" } : Jvm.MethodName)) ∈ lw_all := lw_g (lw_at lw_m11 59 rfl) rfl
theorem q2584 : (Jvm.Cond.code ({ cls := "java/lang/StringBuilder", name := "append", desc := "(I)Ljava/lang/StringBuilder;" } : Jvm.MethodName) prog_43_method_15_code (2 : Nat) (Option.some (Jvm.ClassFile.FieldType.object "java/lang/StringBuilder"))) ∈ lw_all := lw_g (lw_at lw_m11 60 rfl) rfl
theorem q2585 : (Jvm.Cond.methodLink "java/lang/StringBuilder" (53 : Nat) ({ cls := "java/lang/AbstractStringBuilder", name := "append", desc := "(I)Ljava/lang/AbstractStringBuilder;" } : Jvm.MethodName)) ∈ lw_all := lw_g (lw_at lw_m11 61 rfl) rfl
theorem q2604 : (Jvm.Cond.selects "java/lang/StringBuilder" ({ cls := "java/lang/CharSequence", name := "length", desc := "()I" } : Jvm.MethodName) ({ cls := "java/lang/StringBuilder", name := "length", desc := "()I" } : Jvm.MethodName)) ∈ lw_all := lw_g (lw_at lw_m11 80 rfl) rfl
theorem q2605 : (Jvm.Cond.unhidden "java/lang/StringBuilder" "length" "()I") ∈ lw_tbl := lw_at lw_m11 81 rfl
theorem q2606 : (Jvm.Cond.publicMethod ({ cls := "java/lang/StringBuilder", name := "length", desc := "()I" } : Jvm.MethodName)) ∈ lw_tbl := lw_at lw_m11 82 rfl
theorem q3180 : (Jvm.Cond.selects "java/lang/StringBuilder" ({ cls := "java/lang/AbstractStringBuilder", name := "length", desc := "()I" } : Jvm.MethodName) ({ cls := "java/lang/StringBuilder", name := "length", desc := "()I" } : Jvm.MethodName)) ∈ lw_all := lw_g (lw_at lw_m13 176 rfl) rfl
theorem q3199 : (Jvm.Cond.castable "java/lang/StringBuilder" "java/lang/Object") ∈ lw_tbl := lw_at lw_m13 195 rfl
theorem in_J17 : ∀ w ∈ wsJ170, w ∈ lw_all := lw_in wsJ170 [838, 840, 842, 844] (by decide +kernel) (by decide +kernel)
/-! java/util/Arrays -/
set_option maxRecDepth 100000
def RJ18 : String := "java/util/Arrays"
abbrev cJ18_copyOf : ByteArray := prog_59_method_119_code
def yJ18_copyOf : MethodName := ⟨RJ18, "copyOf", "([Ljava/lang/Object;I)[Ljava/lang/Object;"⟩
def dkwJ18_copyOf_0 : List UInt8 := [42, 27, 42, 182, 0, 86, 184, 1, 44, 176]
abbrev dktJ18_copyOf_0 : List UInt8 := dkwJ18_copyOf_0 ++ []
theorem dksJ18_copyOf_0 : cJ18_copyOf.data.toList.drop 0 = dktJ18_copyOf_0 := by decide +kernel
theorem dJ18_copyOf_0 : decode cJ18_copyOf 0 = .ok (.aload_n 0, 1) := dk_42 (dk_at dksJ18_copyOf_0 0 rfl rfl)
theorem dJ18_copyOf_1 : decode cJ18_copyOf 1 = .ok (.iload_n 1, 1) := dk_27 (dk_at dksJ18_copyOf_0 1 rfl rfl)
theorem dJ18_copyOf_2 : decode cJ18_copyOf 2 = .ok (.aload_n 0, 1) := dk_42 (dk_at dksJ18_copyOf_0 2 rfl rfl)
theorem dJ18_copyOf_3 : decode cJ18_copyOf 3 = .ok (.invokevirtual 86, 3) := dk_182 0 86 (dk_at dksJ18_copyOf_0 3 rfl rfl)
theorem dJ18_copyOf_6 : decode cJ18_copyOf 6 = .ok (.invokestatic 300, 3) := dk_184 1 44 (dk_at dksJ18_copyOf_0 6 rfl rfl)
theorem dJ18_copyOf_9 : decode cJ18_copyOf 9 = .ok (.areturn, 1) := dk_176 (dk_at dksJ18_copyOf_0 9 rfl rfl)
abbrev cJ18_copyOf_2 : ByteArray := prog_59_method_120_code
def yJ18_copyOf_2 : MethodName := ⟨RJ18, "copyOf", "([Ljava/lang/Object;ILjava/lang/Class;)[Ljava/lang/Object;"⟩
def dkwJ18_copyOf_2_1 : List UInt8 := [78, 42, 3, 45, 3, 42, 190, 27, 184, 1, 48, 184, 0, 150, 45, 176]
abbrev dktJ18_copyOf_2_1 : List UInt8 := dkwJ18_copyOf_2_1 ++ []
def dkwJ18_copyOf_2_0 : List UInt8 := [44, 18, 110, 166, 0, 10, 27, 189, 0, 2, 167, 0, 14, 44, 182, 0, 90, 27, 184, 0, 95, 192, 0, 110]
abbrev dktJ18_copyOf_2_0 : List UInt8 := dkwJ18_copyOf_2_0 ++ dktJ18_copyOf_2_1
theorem dksJ18_copyOf_2_0 : cJ18_copyOf_2.data.toList.drop 0 = dktJ18_copyOf_2_0 := by decide +kernel
theorem dksJ18_copyOf_2_1 : cJ18_copyOf_2.data.toList.drop 24 = dktJ18_copyOf_2_1 := dk_seg dksJ18_copyOf_2_0 24 rfl rfl
theorem dJ18_copyOf_2_0 : decode cJ18_copyOf_2 0 = .ok (.aload_n 2, 1) := dk_44 (dk_at dksJ18_copyOf_2_0 0 rfl rfl)
theorem dJ18_copyOf_2_1 : decode cJ18_copyOf_2 1 = .ok (.ldc 110, 2) := dk_18 110 (dk_at dksJ18_copyOf_2_0 1 rfl rfl)
theorem dJ18_copyOf_2_3 : decode cJ18_copyOf_2 3 = .ok (.if_acmp .ne 10, 3) := dk_166 0 10 (dk_at dksJ18_copyOf_2_0 3 rfl rfl)
theorem dJ18_copyOf_2_6 : decode cJ18_copyOf_2 6 = .ok (.iload_n 1, 1) := dk_27 (dk_at dksJ18_copyOf_2_0 6 rfl rfl)
theorem dJ18_copyOf_2_7 : decode cJ18_copyOf_2 7 = .ok (.anewarray 2, 3) := dk_189 0 2 (dk_at dksJ18_copyOf_2_0 7 rfl rfl)
theorem dJ18_copyOf_2_10 : decode cJ18_copyOf_2 10 = .ok (.goto 14, 3) := dk_167 0 14 (dk_at dksJ18_copyOf_2_0 10 rfl rfl)
theorem dJ18_copyOf_2_13 : decode cJ18_copyOf_2 13 = .ok (.aload_n 2, 1) := dk_44 (dk_at dksJ18_copyOf_2_0 13 rfl rfl)
theorem dJ18_copyOf_2_14 : decode cJ18_copyOf_2 14 = .ok (.invokevirtual 90, 3) := dk_182 0 90 (dk_at dksJ18_copyOf_2_0 14 rfl rfl)
theorem dJ18_copyOf_2_17 : decode cJ18_copyOf_2 17 = .ok (.iload_n 1, 1) := dk_27 (dk_at dksJ18_copyOf_2_0 17 rfl rfl)
theorem dJ18_copyOf_2_18 : decode cJ18_copyOf_2 18 = .ok (.invokestatic 95, 3) := dk_184 0 95 (dk_at dksJ18_copyOf_2_0 18 rfl rfl)
theorem dJ18_copyOf_2_21 : decode cJ18_copyOf_2 21 = .ok (.checkcast 110, 3) := dk_192 0 110 (dk_at dksJ18_copyOf_2_0 21 rfl rfl)
theorem dJ18_copyOf_2_24 : decode cJ18_copyOf_2 24 = .ok (.astore_n 3, 1) := dk_78 (dk_at dksJ18_copyOf_2_1 0 rfl rfl)
theorem dJ18_copyOf_2_25 : decode cJ18_copyOf_2 25 = .ok (.aload_n 0, 1) := dk_42 (dk_at dksJ18_copyOf_2_1 1 rfl rfl)
theorem dJ18_copyOf_2_26 : decode cJ18_copyOf_2 26 = .ok (.iconst 0, 1) := dk_3 (dk_at dksJ18_copyOf_2_1 2 rfl rfl)
theorem dJ18_copyOf_2_27 : decode cJ18_copyOf_2 27 = .ok (.aload_n 3, 1) := dk_45 (dk_at dksJ18_copyOf_2_1 3 rfl rfl)
theorem dJ18_copyOf_2_28 : decode cJ18_copyOf_2 28 = .ok (.iconst 0, 1) := dk_3 (dk_at dksJ18_copyOf_2_1 4 rfl rfl)
theorem dJ18_copyOf_2_29 : decode cJ18_copyOf_2 29 = .ok (.aload_n 0, 1) := dk_42 (dk_at dksJ18_copyOf_2_1 5 rfl rfl)
theorem dJ18_copyOf_2_30 : decode cJ18_copyOf_2 30 = .ok (.arraylength, 1) := dk_190 (dk_at dksJ18_copyOf_2_1 6 rfl rfl)
theorem dJ18_copyOf_2_31 : decode cJ18_copyOf_2 31 = .ok (.iload_n 1, 1) := dk_27 (dk_at dksJ18_copyOf_2_1 7 rfl rfl)
theorem dJ18_copyOf_2_32 : decode cJ18_copyOf_2 32 = .ok (.invokestatic 304, 3) := dk_184 1 48 (dk_at dksJ18_copyOf_2_1 8 rfl rfl)
theorem dJ18_copyOf_2_35 : decode cJ18_copyOf_2 35 = .ok (.invokestatic 150, 3) := dk_184 0 150 (dk_at dksJ18_copyOf_2_1 11 rfl rfl)
theorem dJ18_copyOf_2_38 : decode cJ18_copyOf_2 38 = .ok (.aload_n 3, 1) := dk_45 (dk_at dksJ18_copyOf_2_1 14 rfl rfl)
theorem dJ18_copyOf_2_39 : decode cJ18_copyOf_2 39 = .ok (.areturn, 1) := dk_176 (dk_at dksJ18_copyOf_2_1 15 rfl rfl)
abbrev cJ18_copyOf_3 : ByteArray := prog_59_method_121_code
def yJ18_copyOf_3 : MethodName := ⟨RJ18, "copyOf", "([BI)[B"⟩
def dkwJ18_copyOf_3_1 : List UInt8 := [27, 184, 1, 48, 184, 0, 150, 44, 176]
abbrev dktJ18_copyOf_3_1 : List UInt8 := dkwJ18_copyOf_3_1 ++ []
def dkwJ18_copyOf_3_0 : List UInt8 := [27, 42, 190, 160, 0, 11, 42, 182, 1, 54, 192, 1, 55, 176, 27, 188, 8, 77, 42, 3, 44, 3, 42, 190]
abbrev dktJ18_copyOf_3_0 : List UInt8 := dkwJ18_copyOf_3_0 ++ dktJ18_copyOf_3_1
theorem dksJ18_copyOf_3_0 : cJ18_copyOf_3.data.toList.drop 0 = dktJ18_copyOf_3_0 := by decide +kernel
theorem dksJ18_copyOf_3_1 : cJ18_copyOf_3.data.toList.drop 24 = dktJ18_copyOf_3_1 := dk_seg dksJ18_copyOf_3_0 24 rfl rfl
theorem dJ18_copyOf_3_0 : decode cJ18_copyOf_3 0 = .ok (.iload_n 1, 1) := dk_27 (dk_at dksJ18_copyOf_3_0 0 rfl rfl)
theorem dJ18_copyOf_3_1 : decode cJ18_copyOf_3 1 = .ok (.aload_n 0, 1) := dk_42 (dk_at dksJ18_copyOf_3_0 1 rfl rfl)
theorem dJ18_copyOf_3_2 : decode cJ18_copyOf_3 2 = .ok (.arraylength, 1) := dk_190 (dk_at dksJ18_copyOf_3_0 2 rfl rfl)
theorem dJ18_copyOf_3_3 : decode cJ18_copyOf_3 3 = .ok (.if_icmp .ne 11, 3) := dk_160 0 11 (dk_at dksJ18_copyOf_3_0 3 rfl rfl)
theorem dJ18_copyOf_3_6 : decode cJ18_copyOf_3 6 = .ok (.aload_n 0, 1) := dk_42 (dk_at dksJ18_copyOf_3_0 6 rfl rfl)
theorem dJ18_copyOf_3_7 : decode cJ18_copyOf_3 7 = .ok (.invokevirtual 310, 3) := dk_182 1 54 (dk_at dksJ18_copyOf_3_0 7 rfl rfl)
theorem dJ18_copyOf_3_10 : decode cJ18_copyOf_3 10 = .ok (.checkcast 311, 3) := dk_192 1 55 (dk_at dksJ18_copyOf_3_0 10 rfl rfl)
theorem dJ18_copyOf_3_13 : decode cJ18_copyOf_3 13 = .ok (.areturn, 1) := dk_176 (dk_at dksJ18_copyOf_3_0 13 rfl rfl)
theorem dJ18_copyOf_3_14 : decode cJ18_copyOf_3 14 = .ok (.iload_n 1, 1) := dk_27 (dk_at dksJ18_copyOf_3_0 14 rfl rfl)
theorem dJ18_copyOf_3_15 : decode cJ18_copyOf_3 15 = .ok (.newarray .byte, 2) := dk_188_8 (dk_at dksJ18_copyOf_3_0 15 rfl rfl)
theorem dJ18_copyOf_3_17 : decode cJ18_copyOf_3 17 = .ok (.astore_n 2, 1) := dk_77 (dk_at dksJ18_copyOf_3_0 17 rfl rfl)
theorem dJ18_copyOf_3_18 : decode cJ18_copyOf_3 18 = .ok (.aload_n 0, 1) := dk_42 (dk_at dksJ18_copyOf_3_0 18 rfl rfl)
theorem dJ18_copyOf_3_19 : decode cJ18_copyOf_3 19 = .ok (.iconst 0, 1) := dk_3 (dk_at dksJ18_copyOf_3_0 19 rfl rfl)
theorem dJ18_copyOf_3_20 : decode cJ18_copyOf_3 20 = .ok (.aload_n 2, 1) := dk_44 (dk_at dksJ18_copyOf_3_0 20 rfl rfl)
theorem dJ18_copyOf_3_21 : decode cJ18_copyOf_3 21 = .ok (.iconst 0, 1) := dk_3 (dk_at dksJ18_copyOf_3_0 21 rfl rfl)
theorem dJ18_copyOf_3_22 : decode cJ18_copyOf_3 22 = .ok (.aload_n 0, 1) := dk_42 (dk_at dksJ18_copyOf_3_0 22 rfl rfl)
theorem dJ18_copyOf_3_23 : decode cJ18_copyOf_3 23 = .ok (.arraylength, 1) := dk_190 (dk_at dksJ18_copyOf_3_0 23 rfl rfl)
theorem dJ18_copyOf_3_24 : decode cJ18_copyOf_3 24 = .ok (.iload_n 1, 1) := dk_27 (dk_at dksJ18_copyOf_3_1 0 rfl rfl)
theorem dJ18_copyOf_3_25 : decode cJ18_copyOf_3 25 = .ok (.invokestatic 304, 3) := dk_184 1 48 (dk_at dksJ18_copyOf_3_1 1 rfl rfl)
theorem dJ18_copyOf_3_28 : decode cJ18_copyOf_3 28 = .ok (.invokestatic 150, 3) := dk_184 0 150 (dk_at dksJ18_copyOf_3_1 4 rfl rfl)
theorem dJ18_copyOf_3_31 : decode cJ18_copyOf_3 31 = .ok (.aload_n 2, 1) := dk_44 (dk_at dksJ18_copyOf_3_1 7 rfl rfl)
theorem dJ18_copyOf_3_32 : decode cJ18_copyOf_3 32 = .ok (.areturn, 1) := dk_176 (dk_at dksJ18_copyOf_3_1 8 rfl rfl)
abbrev cJ18_fill : ByteArray := prog_59_method_110_code
def yJ18_fill : MethodName := ⟨RJ18, "fill", "([BIIB)V"⟩
def dkwJ18_fill_1 : List UInt8 := [167, 255, 242, 177]
abbrev dktJ18_fill_1 : List UInt8 := dkwJ18_fill_1 ++ []
def dkwJ18_fill_0 : List UInt8 := [42, 190, 27, 28, 184, 0, 13, 27, 54, 4, 21, 4, 28, 162, 0, 14, 42, 21, 4, 29, 84, 132, 4, 1]
abbrev dktJ18_fill_0 : List UInt8 := dkwJ18_fill_0 ++ dktJ18_fill_1
theorem dksJ18_fill_0 : cJ18_fill.data.toList.drop 0 = dktJ18_fill_0 := by decide +kernel
theorem dksJ18_fill_1 : cJ18_fill.data.toList.drop 24 = dktJ18_fill_1 := dk_seg dksJ18_fill_0 24 rfl rfl
theorem dJ18_fill_0 : decode cJ18_fill 0 = .ok (.aload_n 0, 1) := dk_42 (dk_at dksJ18_fill_0 0 rfl rfl)
theorem dJ18_fill_1 : decode cJ18_fill 1 = .ok (.arraylength, 1) := dk_190 (dk_at dksJ18_fill_0 1 rfl rfl)
theorem dJ18_fill_2 : decode cJ18_fill 2 = .ok (.iload_n 1, 1) := dk_27 (dk_at dksJ18_fill_0 2 rfl rfl)
theorem dJ18_fill_3 : decode cJ18_fill 3 = .ok (.iload_n 2, 1) := dk_28 (dk_at dksJ18_fill_0 3 rfl rfl)
theorem dJ18_fill_4 : decode cJ18_fill 4 = .ok (.invokestatic 13, 3) := dk_184 0 13 (dk_at dksJ18_fill_0 4 rfl rfl)
theorem dJ18_fill_7 : decode cJ18_fill 7 = .ok (.iload_n 1, 1) := dk_27 (dk_at dksJ18_fill_0 7 rfl rfl)
theorem dJ18_fill_8 : decode cJ18_fill 8 = .ok (.istore 4, 2) := dk_54 4 (dk_at dksJ18_fill_0 8 rfl rfl)
theorem dJ18_fill_10 : decode cJ18_fill 10 = .ok (.iload 4, 2) := dk_21 4 (dk_at dksJ18_fill_0 10 rfl rfl)
theorem dJ18_fill_12 : decode cJ18_fill 12 = .ok (.iload_n 2, 1) := dk_28 (dk_at dksJ18_fill_0 12 rfl rfl)
theorem dJ18_fill_13 : decode cJ18_fill 13 = .ok (.if_icmp .ge 14, 3) := dk_162 0 14 (dk_at dksJ18_fill_0 13 rfl rfl)
theorem dJ18_fill_16 : decode cJ18_fill 16 = .ok (.aload_n 0, 1) := dk_42 (dk_at dksJ18_fill_0 16 rfl rfl)
theorem dJ18_fill_17 : decode cJ18_fill 17 = .ok (.iload 4, 2) := dk_21 4 (dk_at dksJ18_fill_0 17 rfl rfl)
theorem dJ18_fill_19 : decode cJ18_fill 19 = .ok (.iload_n 3, 1) := dk_29 (dk_at dksJ18_fill_0 19 rfl rfl)
theorem dJ18_fill_20 : decode cJ18_fill 20 = .ok (.bastore, 1) := dk_84 (dk_at dksJ18_fill_0 20 rfl rfl)
theorem dJ18_fill_21 : decode cJ18_fill 21 = .ok (.iinc 4 1, 3) := dk_132 4 1 (dk_at dksJ18_fill_0 21 rfl rfl)
theorem dJ18_fill_24 : decode cJ18_fill 24 = .ok (.goto (-14), 3) := dk_167 255 242 (dk_at dksJ18_fill_1 0 rfl rfl)
theorem dJ18_fill_27 : decode cJ18_fill 27 = .ok (.return_, 1) := dk_177 (dk_at dksJ18_fill_1 3 rfl rfl)
abbrev cJ18_rangeCheck : ByteArray := prog_59_method_30_code
def yJ18_rangeCheck : MethodName := ⟨RJ18, "rangeCheck", "(III)V"⟩
def dkwJ18_rangeCheck_3 : List UInt8 := [183, 0, 70, 191, 177]
abbrev dktJ18_rangeCheck_3 : List UInt8 := dkwJ18_rangeCheck_3 ++ []
def dkwJ18_rangeCheck_2 : List UInt8 := [27, 156, 0, 12, 187, 0, 68, 89, 27, 183, 0, 70, 191, 28, 26, 164, 0, 12, 187, 0, 68, 89, 28]
abbrev dktJ18_rangeCheck_2 : List UInt8 := dkwJ18_rangeCheck_2 ++ dktJ18_rangeCheck_3
def dkwJ18_rangeCheck_1 : List UInt8 := [182, 0, 54, 18, 57, 182, 0, 50, 28, 182, 0, 54, 18, 59, 182, 0, 50, 182, 0, 61, 183, 0, 65, 191]
abbrev dktJ18_rangeCheck_1 : List UInt8 := dkwJ18_rangeCheck_1 ++ dktJ18_rangeCheck_2
def dkwJ18_rangeCheck_0 : List UInt8 := [27, 28, 164, 0, 44, 187, 0, 43, 89, 187, 0, 45, 89, 183, 0, 47, 18, 48, 182, 0, 50, 27]
abbrev dktJ18_rangeCheck_0 : List UInt8 := dkwJ18_rangeCheck_0 ++ dktJ18_rangeCheck_1
theorem dksJ18_rangeCheck_0 : cJ18_rangeCheck.data.toList.drop 0 = dktJ18_rangeCheck_0 := by decide +kernel
theorem dksJ18_rangeCheck_1 : cJ18_rangeCheck.data.toList.drop 22 = dktJ18_rangeCheck_1 := dk_seg dksJ18_rangeCheck_0 22 rfl rfl
theorem dksJ18_rangeCheck_2 : cJ18_rangeCheck.data.toList.drop 46 = dktJ18_rangeCheck_2 := dk_seg dksJ18_rangeCheck_1 24 rfl rfl
theorem dksJ18_rangeCheck_3 : cJ18_rangeCheck.data.toList.drop 69 = dktJ18_rangeCheck_3 := dk_seg dksJ18_rangeCheck_2 23 rfl rfl
theorem dJ18_rangeCheck_0 : decode cJ18_rangeCheck 0 = .ok (.iload_n 1, 1) := dk_27 (dk_at dksJ18_rangeCheck_0 0 rfl rfl)
theorem dJ18_rangeCheck_1 : decode cJ18_rangeCheck 1 = .ok (.iload_n 2, 1) := dk_28 (dk_at dksJ18_rangeCheck_0 1 rfl rfl)
theorem dJ18_rangeCheck_2 : decode cJ18_rangeCheck 2 = .ok (.if_icmp .le 44, 3) := dk_164 0 44 (dk_at dksJ18_rangeCheck_0 2 rfl rfl)
theorem dJ18_rangeCheck_5 : decode cJ18_rangeCheck 5 = .ok (.new 43, 3) := dk_187 0 43 (dk_at dksJ18_rangeCheck_0 5 rfl rfl)
theorem dJ18_rangeCheck_8 : decode cJ18_rangeCheck 8 = .ok (.dup, 1) := dk_89 (dk_at dksJ18_rangeCheck_0 8 rfl rfl)
theorem dJ18_rangeCheck_9 : decode cJ18_rangeCheck 9 = .ok (.new 45, 3) := dk_187 0 45 (dk_at dksJ18_rangeCheck_0 9 rfl rfl)
theorem dJ18_rangeCheck_12 : decode cJ18_rangeCheck 12 = .ok (.dup, 1) := dk_89 (dk_at dksJ18_rangeCheck_0 12 rfl rfl)
theorem dJ18_rangeCheck_13 : decode cJ18_rangeCheck 13 = .ok (.invokespecial 47, 3) := dk_183 0 47 (dk_at dksJ18_rangeCheck_0 13 rfl rfl)
theorem dJ18_rangeCheck_16 : decode cJ18_rangeCheck 16 = .ok (.ldc 48, 2) := dk_18 48 (dk_at dksJ18_rangeCheck_0 16 rfl rfl)
theorem dJ18_rangeCheck_18 : decode cJ18_rangeCheck 18 = .ok (.invokevirtual 50, 3) := dk_182 0 50 (dk_at dksJ18_rangeCheck_0 18 rfl rfl)
theorem dJ18_rangeCheck_21 : decode cJ18_rangeCheck 21 = .ok (.iload_n 1, 1) := dk_27 (dk_at dksJ18_rangeCheck_0 21 rfl rfl)
theorem dJ18_rangeCheck_22 : decode cJ18_rangeCheck 22 = .ok (.invokevirtual 54, 3) := dk_182 0 54 (dk_at dksJ18_rangeCheck_1 0 rfl rfl)
theorem dJ18_rangeCheck_25 : decode cJ18_rangeCheck 25 = .ok (.ldc 57, 2) := dk_18 57 (dk_at dksJ18_rangeCheck_1 3 rfl rfl)
theorem dJ18_rangeCheck_27 : decode cJ18_rangeCheck 27 = .ok (.invokevirtual 50, 3) := dk_182 0 50 (dk_at dksJ18_rangeCheck_1 5 rfl rfl)
theorem dJ18_rangeCheck_30 : decode cJ18_rangeCheck 30 = .ok (.iload_n 2, 1) := dk_28 (dk_at dksJ18_rangeCheck_1 8 rfl rfl)
theorem dJ18_rangeCheck_31 : decode cJ18_rangeCheck 31 = .ok (.invokevirtual 54, 3) := dk_182 0 54 (dk_at dksJ18_rangeCheck_1 9 rfl rfl)
theorem dJ18_rangeCheck_34 : decode cJ18_rangeCheck 34 = .ok (.ldc 59, 2) := dk_18 59 (dk_at dksJ18_rangeCheck_1 12 rfl rfl)
theorem dJ18_rangeCheck_36 : decode cJ18_rangeCheck 36 = .ok (.invokevirtual 50, 3) := dk_182 0 50 (dk_at dksJ18_rangeCheck_1 14 rfl rfl)
theorem dJ18_rangeCheck_39 : decode cJ18_rangeCheck 39 = .ok (.invokevirtual 61, 3) := dk_182 0 61 (dk_at dksJ18_rangeCheck_1 17 rfl rfl)
theorem dJ18_rangeCheck_42 : decode cJ18_rangeCheck 42 = .ok (.invokespecial 65, 3) := dk_183 0 65 (dk_at dksJ18_rangeCheck_1 20 rfl rfl)
theorem dJ18_rangeCheck_45 : decode cJ18_rangeCheck 45 = .ok (.athrow, 1) := dk_191 (dk_at dksJ18_rangeCheck_1 23 rfl rfl)
theorem dJ18_rangeCheck_46 : decode cJ18_rangeCheck 46 = .ok (.iload_n 1, 1) := dk_27 (dk_at dksJ18_rangeCheck_2 0 rfl rfl)
theorem dJ18_rangeCheck_47 : decode cJ18_rangeCheck 47 = .ok (.ifCond .ge 12, 3) := dk_156 0 12 (dk_at dksJ18_rangeCheck_2 1 rfl rfl)
theorem dJ18_rangeCheck_50 : decode cJ18_rangeCheck 50 = .ok (.new 68, 3) := dk_187 0 68 (dk_at dksJ18_rangeCheck_2 4 rfl rfl)
theorem dJ18_rangeCheck_53 : decode cJ18_rangeCheck 53 = .ok (.dup, 1) := dk_89 (dk_at dksJ18_rangeCheck_2 7 rfl rfl)
theorem dJ18_rangeCheck_54 : decode cJ18_rangeCheck 54 = .ok (.iload_n 1, 1) := dk_27 (dk_at dksJ18_rangeCheck_2 8 rfl rfl)
theorem dJ18_rangeCheck_55 : decode cJ18_rangeCheck 55 = .ok (.invokespecial 70, 3) := dk_183 0 70 (dk_at dksJ18_rangeCheck_2 9 rfl rfl)
theorem dJ18_rangeCheck_58 : decode cJ18_rangeCheck 58 = .ok (.athrow, 1) := dk_191 (dk_at dksJ18_rangeCheck_2 12 rfl rfl)
theorem dJ18_rangeCheck_59 : decode cJ18_rangeCheck 59 = .ok (.iload_n 2, 1) := dk_28 (dk_at dksJ18_rangeCheck_2 13 rfl rfl)
theorem dJ18_rangeCheck_60 : decode cJ18_rangeCheck 60 = .ok (.iload_n 0, 1) := dk_26 (dk_at dksJ18_rangeCheck_2 14 rfl rfl)
theorem dJ18_rangeCheck_61 : decode cJ18_rangeCheck 61 = .ok (.if_icmp .le 12, 3) := dk_164 0 12 (dk_at dksJ18_rangeCheck_2 15 rfl rfl)
theorem dJ18_rangeCheck_64 : decode cJ18_rangeCheck 64 = .ok (.new 68, 3) := dk_187 0 68 (dk_at dksJ18_rangeCheck_2 18 rfl rfl)
theorem dJ18_rangeCheck_67 : decode cJ18_rangeCheck 67 = .ok (.dup, 1) := dk_89 (dk_at dksJ18_rangeCheck_2 21 rfl rfl)
theorem dJ18_rangeCheck_68 : decode cJ18_rangeCheck 68 = .ok (.iload_n 2, 1) := dk_28 (dk_at dksJ18_rangeCheck_2 22 rfl rfl)
theorem dJ18_rangeCheck_69 : decode cJ18_rangeCheck 69 = .ok (.invokespecial 70, 3) := dk_183 0 70 (dk_at dksJ18_rangeCheck_3 0 rfl rfl)
theorem dJ18_rangeCheck_72 : decode cJ18_rangeCheck 72 = .ok (.athrow, 1) := dk_191 (dk_at dksJ18_rangeCheck_3 3 rfl rfl)
theorem dJ18_rangeCheck_73 : decode cJ18_rangeCheck 73 = .ok (.return_, 1) := dk_177 (dk_at dksJ18_rangeCheck_3 4 rfl rfl)
abbrev cJ18_copyOfRange : ByteArray := prog_59_method_132_code
def yJ18_copyOfRange : MethodName := ⟨RJ18, "copyOfRange", "([BII)[B"⟩
def dkwJ18_copyOfRange_1 : List UInt8 := [176]
abbrev dktJ18_copyOfRange_1 : List UInt8 := dkwJ18_copyOfRange_1 ++ []
def dkwJ18_copyOfRange_0 : List UInt8 := [27, 154, 0, 9, 28, 42, 190, 159, 0, 10, 42, 27, 28, 184, 1, 83, 176, 42, 182, 1, 54, 192, 1, 55]
abbrev dktJ18_copyOfRange_0 : List UInt8 := dkwJ18_copyOfRange_0 ++ dktJ18_copyOfRange_1
theorem dksJ18_copyOfRange_0 : cJ18_copyOfRange.data.toList.drop 0 = dktJ18_copyOfRange_0 := by decide +kernel
theorem dksJ18_copyOfRange_1 : cJ18_copyOfRange.data.toList.drop 24 = dktJ18_copyOfRange_1 := dk_seg dksJ18_copyOfRange_0 24 rfl rfl
theorem dJ18_copyOfRange_0 : decode cJ18_copyOfRange 0 = .ok (.iload_n 1, 1) := dk_27 (dk_at dksJ18_copyOfRange_0 0 rfl rfl)
theorem dJ18_copyOfRange_1 : decode cJ18_copyOfRange 1 = .ok (.ifCond .ne 9, 3) := dk_154 0 9 (dk_at dksJ18_copyOfRange_0 1 rfl rfl)
theorem dJ18_copyOfRange_4 : decode cJ18_copyOfRange 4 = .ok (.iload_n 2, 1) := dk_28 (dk_at dksJ18_copyOfRange_0 4 rfl rfl)
theorem dJ18_copyOfRange_5 : decode cJ18_copyOfRange 5 = .ok (.aload_n 0, 1) := dk_42 (dk_at dksJ18_copyOfRange_0 5 rfl rfl)
theorem dJ18_copyOfRange_6 : decode cJ18_copyOfRange 6 = .ok (.arraylength, 1) := dk_190 (dk_at dksJ18_copyOfRange_0 6 rfl rfl)
theorem dJ18_copyOfRange_7 : decode cJ18_copyOfRange 7 = .ok (.if_icmp .eq 10, 3) := dk_159 0 10 (dk_at dksJ18_copyOfRange_0 7 rfl rfl)
theorem dJ18_copyOfRange_10 : decode cJ18_copyOfRange 10 = .ok (.aload_n 0, 1) := dk_42 (dk_at dksJ18_copyOfRange_0 10 rfl rfl)
theorem dJ18_copyOfRange_11 : decode cJ18_copyOfRange 11 = .ok (.iload_n 1, 1) := dk_27 (dk_at dksJ18_copyOfRange_0 11 rfl rfl)
theorem dJ18_copyOfRange_12 : decode cJ18_copyOfRange 12 = .ok (.iload_n 2, 1) := dk_28 (dk_at dksJ18_copyOfRange_0 12 rfl rfl)
theorem dJ18_copyOfRange_13 : decode cJ18_copyOfRange 13 = .ok (.invokestatic 339, 3) := dk_184 1 83 (dk_at dksJ18_copyOfRange_0 13 rfl rfl)
theorem dJ18_copyOfRange_16 : decode cJ18_copyOfRange 16 = .ok (.areturn, 1) := dk_176 (dk_at dksJ18_copyOfRange_0 16 rfl rfl)
theorem dJ18_copyOfRange_17 : decode cJ18_copyOfRange 17 = .ok (.aload_n 0, 1) := dk_42 (dk_at dksJ18_copyOfRange_0 17 rfl rfl)
theorem dJ18_copyOfRange_18 : decode cJ18_copyOfRange 18 = .ok (.invokevirtual 310, 3) := dk_182 1 54 (dk_at dksJ18_copyOfRange_0 18 rfl rfl)
theorem dJ18_copyOfRange_21 : decode cJ18_copyOfRange 21 = .ok (.checkcast 311, 3) := dk_192 1 55 (dk_at dksJ18_copyOfRange_0 21 rfl rfl)
theorem dJ18_copyOfRange_24 : decode cJ18_copyOfRange 24 = .ok (.areturn, 1) := dk_176 (dk_at dksJ18_copyOfRange_1 0 rfl rfl)
abbrev cJ18_copyOfRangeByte : ByteArray := prog_59_method_133_code
def yJ18_copyOfRangeByte : MethodName := ⟨RJ18, "copyOfRangeByte", "([BII)[B"⟩
def dkwJ18_copyOfRangeByte_1 : List UInt8 := [184, 1, 48, 184, 0, 150, 25, 4, 176]
abbrev dktJ18_copyOfRangeByte_1 : List UInt8 := dkwJ18_copyOfRangeByte_1 ++ []
def dkwJ18_copyOfRangeByte_0 : List UInt8 := [27, 28, 184, 1, 87, 28, 27, 100, 62, 29, 188, 8, 58, 4, 42, 27, 25, 4, 3, 42, 190, 27, 100, 29]
abbrev dktJ18_copyOfRangeByte_0 : List UInt8 := dkwJ18_copyOfRangeByte_0 ++ dktJ18_copyOfRangeByte_1
theorem dksJ18_copyOfRangeByte_0 : cJ18_copyOfRangeByte.data.toList.drop 0 = dktJ18_copyOfRangeByte_0 := by decide +kernel
theorem dksJ18_copyOfRangeByte_1 : cJ18_copyOfRangeByte.data.toList.drop 24 = dktJ18_copyOfRangeByte_1 := dk_seg dksJ18_copyOfRangeByte_0 24 rfl rfl
theorem dJ18_copyOfRangeByte_0 : decode cJ18_copyOfRangeByte 0 = .ok (.iload_n 1, 1) := dk_27 (dk_at dksJ18_copyOfRangeByte_0 0 rfl rfl)
theorem dJ18_copyOfRangeByte_1 : decode cJ18_copyOfRangeByte 1 = .ok (.iload_n 2, 1) := dk_28 (dk_at dksJ18_copyOfRangeByte_0 1 rfl rfl)
theorem dJ18_copyOfRangeByte_2 : decode cJ18_copyOfRangeByte 2 = .ok (.invokestatic 343, 3) := dk_184 1 87 (dk_at dksJ18_copyOfRangeByte_0 2 rfl rfl)
theorem dJ18_copyOfRangeByte_5 : decode cJ18_copyOfRangeByte 5 = .ok (.iload_n 2, 1) := dk_28 (dk_at dksJ18_copyOfRangeByte_0 5 rfl rfl)
theorem dJ18_copyOfRangeByte_6 : decode cJ18_copyOfRangeByte 6 = .ok (.iload_n 1, 1) := dk_27 (dk_at dksJ18_copyOfRangeByte_0 6 rfl rfl)
theorem dJ18_copyOfRangeByte_7 : decode cJ18_copyOfRangeByte 7 = .ok (.isub, 1) := dk_100 (dk_at dksJ18_copyOfRangeByte_0 7 rfl rfl)
theorem dJ18_copyOfRangeByte_8 : decode cJ18_copyOfRangeByte 8 = .ok (.istore_n 3, 1) := dk_62 (dk_at dksJ18_copyOfRangeByte_0 8 rfl rfl)
theorem dJ18_copyOfRangeByte_9 : decode cJ18_copyOfRangeByte 9 = .ok (.iload_n 3, 1) := dk_29 (dk_at dksJ18_copyOfRangeByte_0 9 rfl rfl)
theorem dJ18_copyOfRangeByte_10 : decode cJ18_copyOfRangeByte 10 = .ok (.newarray .byte, 2) := dk_188_8 (dk_at dksJ18_copyOfRangeByte_0 10 rfl rfl)
theorem dJ18_copyOfRangeByte_12 : decode cJ18_copyOfRangeByte 12 = .ok (.astore 4, 2) := dk_58 4 (dk_at dksJ18_copyOfRangeByte_0 12 rfl rfl)
theorem dJ18_copyOfRangeByte_14 : decode cJ18_copyOfRangeByte 14 = .ok (.aload_n 0, 1) := dk_42 (dk_at dksJ18_copyOfRangeByte_0 14 rfl rfl)
theorem dJ18_copyOfRangeByte_15 : decode cJ18_copyOfRangeByte 15 = .ok (.iload_n 1, 1) := dk_27 (dk_at dksJ18_copyOfRangeByte_0 15 rfl rfl)
theorem dJ18_copyOfRangeByte_16 : decode cJ18_copyOfRangeByte 16 = .ok (.aload 4, 2) := dk_25 4 (dk_at dksJ18_copyOfRangeByte_0 16 rfl rfl)
theorem dJ18_copyOfRangeByte_18 : decode cJ18_copyOfRangeByte 18 = .ok (.iconst 0, 1) := dk_3 (dk_at dksJ18_copyOfRangeByte_0 18 rfl rfl)
theorem dJ18_copyOfRangeByte_19 : decode cJ18_copyOfRangeByte 19 = .ok (.aload_n 0, 1) := dk_42 (dk_at dksJ18_copyOfRangeByte_0 19 rfl rfl)
theorem dJ18_copyOfRangeByte_20 : decode cJ18_copyOfRangeByte 20 = .ok (.arraylength, 1) := dk_190 (dk_at dksJ18_copyOfRangeByte_0 20 rfl rfl)
theorem dJ18_copyOfRangeByte_21 : decode cJ18_copyOfRangeByte 21 = .ok (.iload_n 1, 1) := dk_27 (dk_at dksJ18_copyOfRangeByte_0 21 rfl rfl)
theorem dJ18_copyOfRangeByte_22 : decode cJ18_copyOfRangeByte 22 = .ok (.isub, 1) := dk_100 (dk_at dksJ18_copyOfRangeByte_0 22 rfl rfl)
theorem dJ18_copyOfRangeByte_23 : decode cJ18_copyOfRangeByte 23 = .ok (.iload_n 3, 1) := dk_29 (dk_at dksJ18_copyOfRangeByte_0 23 rfl rfl)
theorem dJ18_copyOfRangeByte_24 : decode cJ18_copyOfRangeByte 24 = .ok (.invokestatic 304, 3) := dk_184 1 48 (dk_at dksJ18_copyOfRangeByte_1 0 rfl rfl)
theorem dJ18_copyOfRangeByte_27 : decode cJ18_copyOfRangeByte 27 = .ok (.invokestatic 150, 3) := dk_184 0 150 (dk_at dksJ18_copyOfRangeByte_1 3 rfl rfl)
theorem dJ18_copyOfRangeByte_30 : decode cJ18_copyOfRangeByte 30 = .ok (.aload 4, 2) := dk_25 4 (dk_at dksJ18_copyOfRangeByte_1 6 rfl rfl)
theorem dJ18_copyOfRangeByte_32 : decode cJ18_copyOfRangeByte 32 = .ok (.areturn, 1) := dk_176 (dk_at dksJ18_copyOfRangeByte_1 8 rfl rfl)
abbrev cJ18_checkLength : ByteArray := prog_59_method_131_code
def yJ18_checkLength : MethodName := ⟨RJ18, "checkLength", "(II)V"⟩
def dkwJ18_checkLength_1 : List UInt8 := [182, 0, 50, 27, 182, 0, 54, 182, 0, 61, 183, 0, 65, 191, 177]
abbrev dktJ18_checkLength_1 : List UInt8 := dkwJ18_checkLength_1 ++ []
def dkwJ18_checkLength_0 : List UInt8 := [27, 26, 162, 0, 35, 187, 0, 43, 89, 187, 0, 45, 89, 183, 0, 47, 26, 182, 0, 54, 19, 1, 81]
abbrev dktJ18_checkLength_0 : List UInt8 := dkwJ18_checkLength_0 ++ dktJ18_checkLength_1
theorem dksJ18_checkLength_0 : cJ18_checkLength.data.toList.drop 0 = dktJ18_checkLength_0 := by decide +kernel
theorem dksJ18_checkLength_1 : cJ18_checkLength.data.toList.drop 23 = dktJ18_checkLength_1 := dk_seg dksJ18_checkLength_0 23 rfl rfl
theorem dJ18_checkLength_0 : decode cJ18_checkLength 0 = .ok (.iload_n 1, 1) := dk_27 (dk_at dksJ18_checkLength_0 0 rfl rfl)
theorem dJ18_checkLength_1 : decode cJ18_checkLength 1 = .ok (.iload_n 0, 1) := dk_26 (dk_at dksJ18_checkLength_0 1 rfl rfl)
theorem dJ18_checkLength_2 : decode cJ18_checkLength 2 = .ok (.if_icmp .ge 35, 3) := dk_162 0 35 (dk_at dksJ18_checkLength_0 2 rfl rfl)
theorem dJ18_checkLength_5 : decode cJ18_checkLength 5 = .ok (.new 43, 3) := dk_187 0 43 (dk_at dksJ18_checkLength_0 5 rfl rfl)
theorem dJ18_checkLength_8 : decode cJ18_checkLength 8 = .ok (.dup, 1) := dk_89 (dk_at dksJ18_checkLength_0 8 rfl rfl)
theorem dJ18_checkLength_9 : decode cJ18_checkLength 9 = .ok (.new 45, 3) := dk_187 0 45 (dk_at dksJ18_checkLength_0 9 rfl rfl)
theorem dJ18_checkLength_12 : decode cJ18_checkLength 12 = .ok (.dup, 1) := dk_89 (dk_at dksJ18_checkLength_0 12 rfl rfl)
theorem dJ18_checkLength_13 : decode cJ18_checkLength 13 = .ok (.invokespecial 47, 3) := dk_183 0 47 (dk_at dksJ18_checkLength_0 13 rfl rfl)
theorem dJ18_checkLength_16 : decode cJ18_checkLength 16 = .ok (.iload_n 0, 1) := dk_26 (dk_at dksJ18_checkLength_0 16 rfl rfl)
theorem dJ18_checkLength_17 : decode cJ18_checkLength 17 = .ok (.invokevirtual 54, 3) := dk_182 0 54 (dk_at dksJ18_checkLength_0 17 rfl rfl)
theorem dJ18_checkLength_20 : decode cJ18_checkLength 20 = .ok (.ldc_w 337, 3) := dk_19 1 81 (dk_at dksJ18_checkLength_0 20 rfl rfl)
theorem dJ18_checkLength_23 : decode cJ18_checkLength 23 = .ok (.invokevirtual 50, 3) := dk_182 0 50 (dk_at dksJ18_checkLength_1 0 rfl rfl)
theorem dJ18_checkLength_26 : decode cJ18_checkLength 26 = .ok (.iload_n 1, 1) := dk_27 (dk_at dksJ18_checkLength_1 3 rfl rfl)
theorem dJ18_checkLength_27 : decode cJ18_checkLength 27 = .ok (.invokevirtual 54, 3) := dk_182 0 54 (dk_at dksJ18_checkLength_1 4 rfl rfl)
theorem dJ18_checkLength_30 : decode cJ18_checkLength 30 = .ok (.invokevirtual 61, 3) := dk_182 0 61 (dk_at dksJ18_checkLength_1 7 rfl rfl)
theorem dJ18_checkLength_33 : decode cJ18_checkLength 33 = .ok (.invokespecial 65, 3) := dk_183 0 65 (dk_at dksJ18_checkLength_1 10 rfl rfl)
theorem dJ18_checkLength_36 : decode cJ18_checkLength 36 = .ok (.athrow, 1) := dk_191 (dk_at dksJ18_checkLength_1 13 rfl rfl)
theorem dJ18_checkLength_37 : decode cJ18_checkLength 37 = .ok (.return_, 1) := dk_177 (dk_at dksJ18_checkLength_1 14 rfl rfl)
theorem q160 : (Jvm.Cond.initialized "java/util/Arrays") ∈ lw_all := lw_g (lw_at lw_m1 36 rfl) rfl
theorem q1081 : (Jvm.Cond.static ({ cls := "java/util/Arrays", name := "copyOf", desc := "([Ljava/lang/Object;I)[Ljava/lang/Object;" } : Jvm.MethodName)) ∈ lw_all := lw_g (lw_at lw_m4 237 rfl) rfl
theorem q1082 : (Jvm.Cond.code ({ cls := "java/util/Arrays", name := "copyOf", desc := "([Ljava/lang/Object;I)[Ljava/lang/Object;" } : Jvm.MethodName) prog_59_method_119_code (2 : Nat) (Option.some (Jvm.ClassFile.FieldType.array (Jvm.ClassFile.FieldType.object "java/lang/Object")))) ∈ lw_all := lw_g (lw_at lw_m4 238 rfl) rfl
theorem q1083 : (Jvm.Cond.methodLink "java/util/Arrays" (86 : Nat) ({ cls := "java/lang/Object", name := "getClass", desc := "()Ljava/lang/Class;" } : Jvm.MethodName)) ∈ lw_all := lw_g (lw_at lw_m4 239 rfl) rfl
theorem q1123 : (Jvm.Cond.methodLink "java/util/Arrays" (300 : Nat) ({ cls := "java/util/Arrays", name := "copyOf", desc := "([Ljava/lang/Object;ILjava/lang/Class;)[Ljava/lang/Object;" } : Jvm.MethodName)) ∈ lw_all := lw_g (lw_at lw_m5 39 rfl) rfl
theorem q1124 : (Jvm.Cond.static ({ cls := "java/util/Arrays", name := "copyOf", desc := "([Ljava/lang/Object;ILjava/lang/Class;)[Ljava/lang/Object;" } : Jvm.MethodName)) ∈ lw_all := lw_g (lw_at lw_m5 40 rfl) rfl
theorem q1125 : (Jvm.Cond.code ({ cls := "java/util/Arrays", name := "copyOf", desc := "([Ljava/lang/Object;ILjava/lang/Class;)[Ljava/lang/Object;" } : Jvm.MethodName) prog_59_method_120_code (4 : Nat) (Option.some (Jvm.ClassFile.FieldType.array (Jvm.ClassFile.FieldType.object "java/lang/Object")))) ∈ lw_all := lw_g (lw_at lw_m5 41 rfl) rfl
theorem q1126 : (Jvm.Cond.classLink "java/util/Arrays" (110 : Nat) "[Ljava/lang/Object;") ∈ lw_all := lw_g (lw_at lw_m5 42 rfl) rfl
theorem q1127 : (Jvm.Cond.classLink "java/util/Arrays" (2 : Nat) "java/lang/Object") ∈ lw_all := lw_g (lw_at lw_m5 43 rfl) rfl
theorem q1128 : (Jvm.Cond.methodLink "java/util/Arrays" (304 : Nat) ({ cls := "java/lang/Math", name := "min", desc := "(II)I" } : Jvm.MethodName)) ∈ lw_all := lw_g (lw_at lw_m5 44 rfl) rfl
theorem q1129 : (Jvm.Cond.methodLink "java/util/Arrays" (150 : Nat) ({ cls := "java/lang/System", name := "arraycopy", desc := "(Ljava/lang/Object;ILjava/lang/Object;II)V" } : Jvm.MethodName)) ∈ lw_all := lw_g (lw_at lw_m5 45 rfl) rfl
theorem q1691 : (Jvm.Cond.static ({ cls := "java/util/Arrays", name := "copyOf", desc := "([BI)[B" } : Jvm.MethodName)) ∈ lw_all := lw_g (lw_at lw_m7 127 rfl) rfl
theorem q1692 : (Jvm.Cond.code ({ cls := "java/util/Arrays", name := "copyOf", desc := "([BI)[B" } : Jvm.MethodName) prog_59_method_121_code (3 : Nat) (Option.some (Jvm.ClassFile.FieldType.array Jvm.ClassFile.FieldType.byte))) ∈ lw_all := lw_g (lw_at lw_m7 128 rfl) rfl
theorem q1693 : (Jvm.Cond.methodLink "java/util/Arrays" (310 : Nat) ({ cls := "[B", name := "clone", desc := "()Ljava/lang/Object;" } : Jvm.MethodName)) ∈ lw_all := lw_g (lw_at lw_m7 129 rfl) rfl
theorem q1699 : (Jvm.Cond.classLink "java/util/Arrays" (311 : Nat) "[B") ∈ lw_all := lw_g (lw_at lw_m7 135 rfl) rfl
theorem q1752 : (Jvm.Cond.static ({ cls := "java/util/Arrays", name := "fill", desc := "([BIIB)V" } : Jvm.MethodName)) ∈ lw_all := lw_g (lw_at lw_m7 188 rfl) rfl
theorem q1753 : (Jvm.Cond.code ({ cls := "java/util/Arrays", name := "fill", desc := "([BIIB)V" } : Jvm.MethodName) prog_59_method_110_code (5 : Nat) (Option.none : Option Jvm.ClassFile.FieldType)) ∈ lw_all := lw_g (lw_at lw_m7 189 rfl) rfl
theorem q1754 : (Jvm.Cond.methodLink "java/util/Arrays" (13 : Nat) ({ cls := "java/util/Arrays", name := "rangeCheck", desc := "(III)V" } : Jvm.MethodName)) ∈ lw_all := lw_g (lw_at lw_m7 190 rfl) rfl
theorem q1755 : (Jvm.Cond.static ({ cls := "java/util/Arrays", name := "rangeCheck", desc := "(III)V" } : Jvm.MethodName)) ∈ lw_all := lw_g (lw_at lw_m7 191 rfl) rfl
theorem q1756 : (Jvm.Cond.code ({ cls := "java/util/Arrays", name := "rangeCheck", desc := "(III)V" } : Jvm.MethodName) prog_59_method_30_code (3 : Nat) (Option.none : Option Jvm.ClassFile.FieldType)) ∈ lw_all := lw_g (lw_at lw_m7 192 rfl) rfl
theorem q1902 : (Jvm.Cond.static ({ cls := "java/util/Arrays", name := "copyOfRange", desc := "([BII)[B" } : Jvm.MethodName)) ∈ lw_all := lw_g (lw_at lw_m8 98 rfl) rfl
theorem q1903 : (Jvm.Cond.code ({ cls := "java/util/Arrays", name := "copyOfRange", desc := "([BII)[B" } : Jvm.MethodName) prog_59_method_132_code (3 : Nat) (Option.some (Jvm.ClassFile.FieldType.array Jvm.ClassFile.FieldType.byte))) ∈ lw_all := lw_g (lw_at lw_m8 99 rfl) rfl
theorem q1904 : (Jvm.Cond.methodLink "java/util/Arrays" (339 : Nat) ({ cls := "java/util/Arrays", name := "copyOfRangeByte", desc := "([BII)[B" } : Jvm.MethodName)) ∈ lw_all := lw_g (lw_at lw_m8 100 rfl) rfl
theorem q1905 : (Jvm.Cond.static ({ cls := "java/util/Arrays", name := "copyOfRangeByte", desc := "([BII)[B" } : Jvm.MethodName)) ∈ lw_all := lw_g (lw_at lw_m8 101 rfl) rfl
theorem q1906 : (Jvm.Cond.code ({ cls := "java/util/Arrays", name := "copyOfRangeByte", desc := "([BII)[B" } : Jvm.MethodName) prog_59_method_133_code (5 : Nat) (Option.some (Jvm.ClassFile.FieldType.array Jvm.ClassFile.FieldType.byte))) ∈ lw_all := lw_g (lw_at lw_m8 102 rfl) rfl
theorem q1907 : (Jvm.Cond.methodLink "java/util/Arrays" (343 : Nat) ({ cls := "java/util/Arrays", name := "checkLength", desc := "(II)V" } : Jvm.MethodName)) ∈ lw_all := lw_g (lw_at lw_m8 103 rfl) rfl
theorem q1908 : (Jvm.Cond.static ({ cls := "java/util/Arrays", name := "checkLength", desc := "(II)V" } : Jvm.MethodName)) ∈ lw_all := lw_g (lw_at lw_m8 104 rfl) rfl
theorem q1909 : (Jvm.Cond.code ({ cls := "java/util/Arrays", name := "checkLength", desc := "(II)V" } : Jvm.MethodName) prog_59_method_131_code (2 : Nat) (Option.none : Option Jvm.ClassFile.FieldType)) ∈ lw_all := lw_g (lw_at lw_m8 105 rfl) rfl
/-! java/util/AbstractQueue -/
set_option maxRecDepth 100000
def RJ19 : String := "java/util/AbstractQueue"
abbrev cJ19_init : ByteArray := prog_54_method_1_code
def yJ19_init : MethodName := ⟨RJ19, "<init>", "()V"⟩
theorem dJ19_init_0 : decode cJ19_init 0 = .ok (.aload_n 0, 1) := by decide +kernel
theorem dJ19_init_1 : decode cJ19_init 1 = .ok (.invokespecial 1, 3) := by decide +kernel
theorem dJ19_init_4 : decode cJ19_init 4 = .ok (.return_, 1) := by decide +kernel
theorem q161 : (Jvm.Cond.initialized "java/util/AbstractQueue") ∈ lw_all := lw_g (lw_at lw_m1 37 rfl) rfl
theorem q1456 : (Jvm.Cond.instanceMethod ({ cls := "java/util/AbstractQueue", name := "<init>", desc := "()V" } : Jvm.MethodName)) ∈ lw_all := lw_g (lw_at lw_m6 132 rfl) rfl
theorem q1457 : (Jvm.Cond.code ({ cls := "java/util/AbstractQueue", name := "<init>", desc := "()V" } : Jvm.MethodName) prog_54_method_1_code (1 : Nat) (Option.none : Option Jvm.ClassFile.FieldType)) ∈ lw_all := lw_g (lw_at lw_m6 133 rfl) rfl
theorem q1458 : (Jvm.Cond.methodLink "java/util/AbstractQueue" (1 : Nat) ({ cls := "java/util/AbstractCollection", name := "<init>", desc := "()V" } : Jvm.MethodName)) ∈ lw_all := lw_g (lw_at lw_m6 134 rfl) rfl
/-! java/util/PriorityQueue -/
set_option maxRecDepth 100000
def RJ20 : String := "java/util/PriorityQueue"
def TJ20 : u_T := fun k => match k with
  | 0 => ("java/util/PriorityQueue", "queue", "[Ljava/lang/Object;", false)
  | 1 => ("java/util/PriorityQueue", "size", "I", false)
  | 2 => ("java/util/PriorityQueue", "comparator", "Ljava/util/Comparator;", true)
  | _ => ("java/util/PriorityQueue", "modCount", "I", false)
def tyJ20 : Nat → FieldType := fun k => match k with
  | 0 => .array (.object "java/lang/Object")
  | 1 => .int
  | 2 => .object "java/util/Comparator"
  | _ => .int
abbrev wsJ200 : List Cond := u_ws RJ20 TJ20 4
theorem nmJ20 : ∀ a, a < 4 → ∀ b, b < 4 → a ≠ b → (TJ20 a).2.1 ≠ (TJ20 b).2.1 := by decide +kernel
theorem tyJ20_ok : ∀ k, k < 4 → parseFieldDescriptor (TJ20 k).2.2.1 = some (tyJ20 k) := by decide +kernel
abbrev cJ20_init : ByteArray := prog_69_method_3_code
def yJ20_init : MethodName := ⟨RJ20, "<init>", "(Ljava/util/Comparator;)V"⟩
def dkwJ20_init_0 : List UInt8 := [42, 16, 11, 43, 183, 0, 3, 177]
abbrev dktJ20_init_0 : List UInt8 := dkwJ20_init_0 ++ []
theorem dksJ20_init_0 : cJ20_init.data.toList.drop 0 = dktJ20_init_0 := by decide +kernel
theorem dJ20_init_0 : decode cJ20_init 0 = .ok (.aload_n 0, 1) := dk_42 (dk_at dksJ20_init_0 0 rfl rfl)
theorem dJ20_init_1 : decode cJ20_init 1 = .ok (.bipush 11, 2) := dk_16 11 (dk_at dksJ20_init_0 1 rfl rfl)
theorem dJ20_init_3 : decode cJ20_init 3 = .ok (.aload_n 1, 1) := dk_43 (dk_at dksJ20_init_0 3 rfl rfl)
theorem dJ20_init_4 : decode cJ20_init 4 = .ok (.invokespecial 3, 3) := dk_183 0 3 (dk_at dksJ20_init_0 4 rfl rfl)
theorem dJ20_init_7 : decode cJ20_init 7 = .ok (.return_, 1) := dk_177 (dk_at dksJ20_init_0 7 rfl rfl)
abbrev cJ20_init_2 : ByteArray := prog_69_method_4_code
def yJ20_init_2 : MethodName := ⟨RJ20, "<init>", "(ILjava/util/Comparator;)V"⟩
def dkwJ20_init_2_1 : List UInt8 := [181, 0, 17, 42, 44, 181, 0, 21, 177]
abbrev dktJ20_init_2_1 : List UInt8 := dkwJ20_init_2_1 ++ []
def dkwJ20_init_2_0 : List UInt8 := [42, 183, 0, 7, 27, 4, 162, 0, 11, 187, 0, 12, 89, 183, 0, 14, 191, 42, 27, 189, 0, 15]
abbrev dktJ20_init_2_0 : List UInt8 := dkwJ20_init_2_0 ++ dktJ20_init_2_1
theorem dksJ20_init_2_0 : cJ20_init_2.data.toList.drop 0 = dktJ20_init_2_0 := by decide +kernel
theorem dksJ20_init_2_1 : cJ20_init_2.data.toList.drop 22 = dktJ20_init_2_1 := dk_seg dksJ20_init_2_0 22 rfl rfl
theorem dJ20_init_2_0 : decode cJ20_init_2 0 = .ok (.aload_n 0, 1) := dk_42 (dk_at dksJ20_init_2_0 0 rfl rfl)
theorem dJ20_init_2_1 : decode cJ20_init_2 1 = .ok (.invokespecial 7, 3) := dk_183 0 7 (dk_at dksJ20_init_2_0 1 rfl rfl)
theorem dJ20_init_2_4 : decode cJ20_init_2 4 = .ok (.iload_n 1, 1) := dk_27 (dk_at dksJ20_init_2_0 4 rfl rfl)
theorem dJ20_init_2_5 : decode cJ20_init_2 5 = .ok (.iconst 1, 1) := dk_4 (dk_at dksJ20_init_2_0 5 rfl rfl)
theorem dJ20_init_2_6 : decode cJ20_init_2 6 = .ok (.if_icmp .ge 11, 3) := dk_162 0 11 (dk_at dksJ20_init_2_0 6 rfl rfl)
theorem dJ20_init_2_9 : decode cJ20_init_2 9 = .ok (.new 12, 3) := dk_187 0 12 (dk_at dksJ20_init_2_0 9 rfl rfl)
theorem dJ20_init_2_12 : decode cJ20_init_2 12 = .ok (.dup, 1) := dk_89 (dk_at dksJ20_init_2_0 12 rfl rfl)
theorem dJ20_init_2_13 : decode cJ20_init_2 13 = .ok (.invokespecial 14, 3) := dk_183 0 14 (dk_at dksJ20_init_2_0 13 rfl rfl)
theorem dJ20_init_2_16 : decode cJ20_init_2 16 = .ok (.athrow, 1) := dk_191 (dk_at dksJ20_init_2_0 16 rfl rfl)
theorem dJ20_init_2_17 : decode cJ20_init_2 17 = .ok (.aload_n 0, 1) := dk_42 (dk_at dksJ20_init_2_0 17 rfl rfl)
theorem dJ20_init_2_18 : decode cJ20_init_2 18 = .ok (.iload_n 1, 1) := dk_27 (dk_at dksJ20_init_2_0 18 rfl rfl)
theorem dJ20_init_2_19 : decode cJ20_init_2 19 = .ok (.anewarray 15, 3) := dk_189 0 15 (dk_at dksJ20_init_2_0 19 rfl rfl)
theorem dJ20_init_2_22 : decode cJ20_init_2 22 = .ok (.putfield 17, 3) := dk_181 0 17 (dk_at dksJ20_init_2_1 0 rfl rfl)
theorem dJ20_init_2_25 : decode cJ20_init_2 25 = .ok (.aload_n 0, 1) := dk_42 (dk_at dksJ20_init_2_1 3 rfl rfl)
theorem dJ20_init_2_26 : decode cJ20_init_2 26 = .ok (.aload_n 2, 1) := dk_44 (dk_at dksJ20_init_2_1 4 rfl rfl)
theorem dJ20_init_2_27 : decode cJ20_init_2 27 = .ok (.putfield 21, 3) := dk_181 0 21 (dk_at dksJ20_init_2_1 5 rfl rfl)
theorem dJ20_init_2_30 : decode cJ20_init_2 30 = .ok (.return_, 1) := dk_177 (dk_at dksJ20_init_2_1 8 rfl rfl)
abbrev cJ20_add : ByteArray := prog_69_method_13_code
def yJ20_add : MethodName := ⟨RJ20, "add", "(Ljava/lang/Object;)Z"⟩
def dkwJ20_add_0 : List UInt8 := [42, 43, 182, 0, 89, 172]
abbrev dktJ20_add_0 : List UInt8 := dkwJ20_add_0 ++ []
theorem dksJ20_add_0 : cJ20_add.data.toList.drop 0 = dktJ20_add_0 := by decide +kernel
theorem dJ20_add_0 : decode cJ20_add 0 = .ok (.aload_n 0, 1) := dk_42 (dk_at dksJ20_add_0 0 rfl rfl)
theorem dJ20_add_1 : decode cJ20_add 1 = .ok (.aload_n 1, 1) := dk_43 (dk_at dksJ20_add_0 1 rfl rfl)
theorem dJ20_add_2 : decode cJ20_add 2 = .ok (.invokevirtual 89, 3) := dk_182 0 89 (dk_at dksJ20_add_0 2 rfl rfl)
theorem dJ20_add_5 : decode cJ20_add 5 = .ok (.ireturn, 1) := dk_172 (dk_at dksJ20_add_0 5 rfl rfl)
abbrev cJ20_offer : ByteArray := prog_69_method_14_code
def yJ20_offer : MethodName := ⟨RJ20, "offer", "(Ljava/lang/Object;)Z"⟩
def dkwJ20_offer_2 : List UInt8 := [182, 0, 100, 42, 28, 4, 96, 181, 0, 58, 4, 172]
abbrev dktJ20_offer_2 : List UInt8 := dkwJ20_offer_2 ++ []
def dkwJ20_offer_1 : List UInt8 := [180, 0, 58, 61, 28, 42, 180, 0, 17, 190, 161, 0, 10, 42, 28, 4, 96, 182, 0, 96, 42, 28, 43]
abbrev dktJ20_offer_1 : List UInt8 := dkwJ20_offer_1 ++ dktJ20_offer_2
def dkwJ20_offer_0 : List UInt8 := [43, 199, 0, 11, 187, 0, 74, 89, 183, 0, 76, 191, 42, 89, 180, 0, 93, 4, 96, 181, 0, 93, 42]
abbrev dktJ20_offer_0 : List UInt8 := dkwJ20_offer_0 ++ dktJ20_offer_1
theorem dksJ20_offer_0 : cJ20_offer.data.toList.drop 0 = dktJ20_offer_0 := by decide +kernel
theorem dksJ20_offer_1 : cJ20_offer.data.toList.drop 23 = dktJ20_offer_1 := dk_seg dksJ20_offer_0 23 rfl rfl
theorem dksJ20_offer_2 : cJ20_offer.data.toList.drop 46 = dktJ20_offer_2 := dk_seg dksJ20_offer_1 23 rfl rfl
theorem dJ20_offer_0 : decode cJ20_offer 0 = .ok (.aload_n 1, 1) := dk_43 (dk_at dksJ20_offer_0 0 rfl rfl)
theorem dJ20_offer_1 : decode cJ20_offer 1 = .ok (.ifnonnull 11, 3) := dk_199 0 11 (dk_at dksJ20_offer_0 1 rfl rfl)
theorem dJ20_offer_4 : decode cJ20_offer 4 = .ok (.new 74, 3) := dk_187 0 74 (dk_at dksJ20_offer_0 4 rfl rfl)
theorem dJ20_offer_7 : decode cJ20_offer 7 = .ok (.dup, 1) := dk_89 (dk_at dksJ20_offer_0 7 rfl rfl)
theorem dJ20_offer_8 : decode cJ20_offer 8 = .ok (.invokespecial 76, 3) := dk_183 0 76 (dk_at dksJ20_offer_0 8 rfl rfl)
theorem dJ20_offer_11 : decode cJ20_offer 11 = .ok (.athrow, 1) := dk_191 (dk_at dksJ20_offer_0 11 rfl rfl)
theorem dJ20_offer_12 : decode cJ20_offer 12 = .ok (.aload_n 0, 1) := dk_42 (dk_at dksJ20_offer_0 12 rfl rfl)
theorem dJ20_offer_13 : decode cJ20_offer 13 = .ok (.dup, 1) := dk_89 (dk_at dksJ20_offer_0 13 rfl rfl)
theorem dJ20_offer_14 : decode cJ20_offer 14 = .ok (.getfield 93, 3) := dk_180 0 93 (dk_at dksJ20_offer_0 14 rfl rfl)
theorem dJ20_offer_17 : decode cJ20_offer 17 = .ok (.iconst 1, 1) := dk_4 (dk_at dksJ20_offer_0 17 rfl rfl)
theorem dJ20_offer_18 : decode cJ20_offer 18 = .ok (.iadd, 1) := dk_96 (dk_at dksJ20_offer_0 18 rfl rfl)
theorem dJ20_offer_19 : decode cJ20_offer 19 = .ok (.putfield 93, 3) := dk_181 0 93 (dk_at dksJ20_offer_0 19 rfl rfl)
theorem dJ20_offer_22 : decode cJ20_offer 22 = .ok (.aload_n 0, 1) := dk_42 (dk_at dksJ20_offer_0 22 rfl rfl)
theorem dJ20_offer_23 : decode cJ20_offer 23 = .ok (.getfield 58, 3) := dk_180 0 58 (dk_at dksJ20_offer_1 0 rfl rfl)
theorem dJ20_offer_26 : decode cJ20_offer 26 = .ok (.istore_n 2, 1) := dk_61 (dk_at dksJ20_offer_1 3 rfl rfl)
theorem dJ20_offer_27 : decode cJ20_offer 27 = .ok (.iload_n 2, 1) := dk_28 (dk_at dksJ20_offer_1 4 rfl rfl)
theorem dJ20_offer_28 : decode cJ20_offer 28 = .ok (.aload_n 0, 1) := dk_42 (dk_at dksJ20_offer_1 5 rfl rfl)
theorem dJ20_offer_29 : decode cJ20_offer 29 = .ok (.getfield 17, 3) := dk_180 0 17 (dk_at dksJ20_offer_1 6 rfl rfl)
theorem dJ20_offer_32 : decode cJ20_offer 32 = .ok (.arraylength, 1) := dk_190 (dk_at dksJ20_offer_1 9 rfl rfl)
theorem dJ20_offer_33 : decode cJ20_offer 33 = .ok (.if_icmp .lt 10, 3) := dk_161 0 10 (dk_at dksJ20_offer_1 10 rfl rfl)
theorem dJ20_offer_36 : decode cJ20_offer 36 = .ok (.aload_n 0, 1) := dk_42 (dk_at dksJ20_offer_1 13 rfl rfl)
theorem dJ20_offer_37 : decode cJ20_offer 37 = .ok (.iload_n 2, 1) := dk_28 (dk_at dksJ20_offer_1 14 rfl rfl)
theorem dJ20_offer_38 : decode cJ20_offer 38 = .ok (.iconst 1, 1) := dk_4 (dk_at dksJ20_offer_1 15 rfl rfl)
theorem dJ20_offer_39 : decode cJ20_offer 39 = .ok (.iadd, 1) := dk_96 (dk_at dksJ20_offer_1 16 rfl rfl)
theorem dJ20_offer_40 : decode cJ20_offer 40 = .ok (.invokevirtual 96, 3) := dk_182 0 96 (dk_at dksJ20_offer_1 17 rfl rfl)
theorem dJ20_offer_43 : decode cJ20_offer 43 = .ok (.aload_n 0, 1) := dk_42 (dk_at dksJ20_offer_1 20 rfl rfl)
theorem dJ20_offer_44 : decode cJ20_offer 44 = .ok (.iload_n 2, 1) := dk_28 (dk_at dksJ20_offer_1 21 rfl rfl)
theorem dJ20_offer_45 : decode cJ20_offer 45 = .ok (.aload_n 1, 1) := dk_43 (dk_at dksJ20_offer_1 22 rfl rfl)
theorem dJ20_offer_46 : decode cJ20_offer 46 = .ok (.invokevirtual 100, 3) := dk_182 0 100 (dk_at dksJ20_offer_2 0 rfl rfl)
theorem dJ20_offer_49 : decode cJ20_offer 49 = .ok (.aload_n 0, 1) := dk_42 (dk_at dksJ20_offer_2 3 rfl rfl)
theorem dJ20_offer_50 : decode cJ20_offer 50 = .ok (.iload_n 2, 1) := dk_28 (dk_at dksJ20_offer_2 4 rfl rfl)
theorem dJ20_offer_51 : decode cJ20_offer 51 = .ok (.iconst 1, 1) := dk_4 (dk_at dksJ20_offer_2 5 rfl rfl)
theorem dJ20_offer_52 : decode cJ20_offer 52 = .ok (.iadd, 1) := dk_96 (dk_at dksJ20_offer_2 6 rfl rfl)
theorem dJ20_offer_53 : decode cJ20_offer 53 = .ok (.putfield 58, 3) := dk_181 0 58 (dk_at dksJ20_offer_2 7 rfl rfl)
theorem dJ20_offer_56 : decode cJ20_offer 56 = .ok (.iconst 1, 1) := dk_4 (dk_at dksJ20_offer_2 10 rfl rfl)
theorem dJ20_offer_57 : decode cJ20_offer 57 = .ok (.ireturn, 1) := dk_172 (dk_at dksJ20_offer_2 11 rfl rfl)
abbrev cJ20_grow : ByteArray := prog_69_method_12_code
def yJ20_grow : MethodName := ⟨RJ20, "grow", "(I)V"⟩
def dkwJ20_grow_1 : List UInt8 := [122, 184, 0, 80, 62, 42, 42, 180, 0, 17, 29, 184, 0, 86, 181, 0, 17, 177]
abbrev dktJ20_grow_1 : List UInt8 := dkwJ20_grow_1 ++ []
def dkwJ20_grow_0 : List UInt8 := [42, 180, 0, 17, 190, 61, 28, 27, 28, 100, 28, 16, 64, 162, 0, 9, 28, 5, 96, 167, 0, 6, 28, 4]
abbrev dktJ20_grow_0 : List UInt8 := dkwJ20_grow_0 ++ dktJ20_grow_1
theorem dksJ20_grow_0 : cJ20_grow.data.toList.drop 0 = dktJ20_grow_0 := by decide +kernel
theorem dksJ20_grow_1 : cJ20_grow.data.toList.drop 24 = dktJ20_grow_1 := dk_seg dksJ20_grow_0 24 rfl rfl
theorem dJ20_grow_0 : decode cJ20_grow 0 = .ok (.aload_n 0, 1) := dk_42 (dk_at dksJ20_grow_0 0 rfl rfl)
theorem dJ20_grow_1 : decode cJ20_grow 1 = .ok (.getfield 17, 3) := dk_180 0 17 (dk_at dksJ20_grow_0 1 rfl rfl)
theorem dJ20_grow_4 : decode cJ20_grow 4 = .ok (.arraylength, 1) := dk_190 (dk_at dksJ20_grow_0 4 rfl rfl)
theorem dJ20_grow_5 : decode cJ20_grow 5 = .ok (.istore_n 2, 1) := dk_61 (dk_at dksJ20_grow_0 5 rfl rfl)
theorem dJ20_grow_6 : decode cJ20_grow 6 = .ok (.iload_n 2, 1) := dk_28 (dk_at dksJ20_grow_0 6 rfl rfl)
theorem dJ20_grow_7 : decode cJ20_grow 7 = .ok (.iload_n 1, 1) := dk_27 (dk_at dksJ20_grow_0 7 rfl rfl)
theorem dJ20_grow_8 : decode cJ20_grow 8 = .ok (.iload_n 2, 1) := dk_28 (dk_at dksJ20_grow_0 8 rfl rfl)
theorem dJ20_grow_9 : decode cJ20_grow 9 = .ok (.isub, 1) := dk_100 (dk_at dksJ20_grow_0 9 rfl rfl)
theorem dJ20_grow_10 : decode cJ20_grow 10 = .ok (.iload_n 2, 1) := dk_28 (dk_at dksJ20_grow_0 10 rfl rfl)
theorem dJ20_grow_11 : decode cJ20_grow 11 = .ok (.bipush 64, 2) := dk_16 64 (dk_at dksJ20_grow_0 11 rfl rfl)
theorem dJ20_grow_13 : decode cJ20_grow 13 = .ok (.if_icmp .ge 9, 3) := dk_162 0 9 (dk_at dksJ20_grow_0 13 rfl rfl)
theorem dJ20_grow_16 : decode cJ20_grow 16 = .ok (.iload_n 2, 1) := dk_28 (dk_at dksJ20_grow_0 16 rfl rfl)
theorem dJ20_grow_17 : decode cJ20_grow 17 = .ok (.iconst 2, 1) := dk_5 (dk_at dksJ20_grow_0 17 rfl rfl)
theorem dJ20_grow_18 : decode cJ20_grow 18 = .ok (.iadd, 1) := dk_96 (dk_at dksJ20_grow_0 18 rfl rfl)
theorem dJ20_grow_19 : decode cJ20_grow 19 = .ok (.goto 6, 3) := dk_167 0 6 (dk_at dksJ20_grow_0 19 rfl rfl)
theorem dJ20_grow_22 : decode cJ20_grow 22 = .ok (.iload_n 2, 1) := dk_28 (dk_at dksJ20_grow_0 22 rfl rfl)
theorem dJ20_grow_23 : decode cJ20_grow 23 = .ok (.iconst 1, 1) := dk_4 (dk_at dksJ20_grow_0 23 rfl rfl)
theorem dJ20_grow_24 : decode cJ20_grow 24 = .ok (.ishr, 1) := dk_122 (dk_at dksJ20_grow_1 0 rfl rfl)
theorem dJ20_grow_25 : decode cJ20_grow 25 = .ok (.invokestatic 80, 3) := dk_184 0 80 (dk_at dksJ20_grow_1 1 rfl rfl)
theorem dJ20_grow_28 : decode cJ20_grow 28 = .ok (.istore_n 3, 1) := dk_62 (dk_at dksJ20_grow_1 4 rfl rfl)
theorem dJ20_grow_29 : decode cJ20_grow 29 = .ok (.aload_n 0, 1) := dk_42 (dk_at dksJ20_grow_1 5 rfl rfl)
theorem dJ20_grow_30 : decode cJ20_grow 30 = .ok (.aload_n 0, 1) := dk_42 (dk_at dksJ20_grow_1 6 rfl rfl)
theorem dJ20_grow_31 : decode cJ20_grow 31 = .ok (.getfield 17, 3) := dk_180 0 17 (dk_at dksJ20_grow_1 7 rfl rfl)
theorem dJ20_grow_34 : decode cJ20_grow 34 = .ok (.iload_n 3, 1) := dk_29 (dk_at dksJ20_grow_1 10 rfl rfl)
theorem dJ20_grow_35 : decode cJ20_grow 35 = .ok (.invokestatic 86, 3) := dk_184 0 86 (dk_at dksJ20_grow_1 11 rfl rfl)
theorem dJ20_grow_38 : decode cJ20_grow 38 = .ok (.putfield 17, 3) := dk_181 0 17 (dk_at dksJ20_grow_1 14 rfl rfl)
theorem dJ20_grow_41 : decode cJ20_grow 41 = .ok (.return_, 1) := dk_177 (dk_at dksJ20_grow_1 17 rfl rfl)
abbrev cJ20_siftUp : ByteArray := prog_69_method_27_code
def yJ20_siftUp : MethodName := ⟨RJ20, "siftUp", "(ILjava/lang/Object;)V"⟩
def dkwJ20_siftUp_1 : List UInt8 := [44, 42, 180, 0, 17, 184, 0, 140, 177]
abbrev dktJ20_siftUp_1 : List UInt8 := dkwJ20_siftUp_1 ++ []
def dkwJ20_siftUp_0 : List UInt8 := [42, 180, 0, 21, 198, 0, 19, 27, 44, 42, 180, 0, 17, 42, 180, 0, 21, 184, 0, 136, 167, 0, 12, 27]
abbrev dktJ20_siftUp_0 : List UInt8 := dkwJ20_siftUp_0 ++ dktJ20_siftUp_1
theorem dksJ20_siftUp_0 : cJ20_siftUp.data.toList.drop 0 = dktJ20_siftUp_0 := by decide +kernel
theorem dksJ20_siftUp_1 : cJ20_siftUp.data.toList.drop 24 = dktJ20_siftUp_1 := dk_seg dksJ20_siftUp_0 24 rfl rfl
theorem dJ20_siftUp_0 : decode cJ20_siftUp 0 = .ok (.aload_n 0, 1) := dk_42 (dk_at dksJ20_siftUp_0 0 rfl rfl)
theorem dJ20_siftUp_1 : decode cJ20_siftUp 1 = .ok (.getfield 21, 3) := dk_180 0 21 (dk_at dksJ20_siftUp_0 1 rfl rfl)
theorem dJ20_siftUp_4 : decode cJ20_siftUp 4 = .ok (.ifnull 19, 3) := dk_198 0 19 (dk_at dksJ20_siftUp_0 4 rfl rfl)
theorem dJ20_siftUp_7 : decode cJ20_siftUp 7 = .ok (.iload_n 1, 1) := dk_27 (dk_at dksJ20_siftUp_0 7 rfl rfl)
theorem dJ20_siftUp_8 : decode cJ20_siftUp 8 = .ok (.aload_n 2, 1) := dk_44 (dk_at dksJ20_siftUp_0 8 rfl rfl)
theorem dJ20_siftUp_9 : decode cJ20_siftUp 9 = .ok (.aload_n 0, 1) := dk_42 (dk_at dksJ20_siftUp_0 9 rfl rfl)
theorem dJ20_siftUp_10 : decode cJ20_siftUp 10 = .ok (.getfield 17, 3) := dk_180 0 17 (dk_at dksJ20_siftUp_0 10 rfl rfl)
theorem dJ20_siftUp_13 : decode cJ20_siftUp 13 = .ok (.aload_n 0, 1) := dk_42 (dk_at dksJ20_siftUp_0 13 rfl rfl)
theorem dJ20_siftUp_14 : decode cJ20_siftUp 14 = .ok (.getfield 21, 3) := dk_180 0 21 (dk_at dksJ20_siftUp_0 14 rfl rfl)
theorem dJ20_siftUp_17 : decode cJ20_siftUp 17 = .ok (.invokestatic 136, 3) := dk_184 0 136 (dk_at dksJ20_siftUp_0 17 rfl rfl)
theorem dJ20_siftUp_20 : decode cJ20_siftUp 20 = .ok (.goto 12, 3) := dk_167 0 12 (dk_at dksJ20_siftUp_0 20 rfl rfl)
theorem dJ20_siftUp_23 : decode cJ20_siftUp 23 = .ok (.iload_n 1, 1) := dk_27 (dk_at dksJ20_siftUp_0 23 rfl rfl)
theorem dJ20_siftUp_24 : decode cJ20_siftUp 24 = .ok (.aload_n 2, 1) := dk_44 (dk_at dksJ20_siftUp_1 0 rfl rfl)
theorem dJ20_siftUp_25 : decode cJ20_siftUp 25 = .ok (.aload_n 0, 1) := dk_42 (dk_at dksJ20_siftUp_1 1 rfl rfl)
theorem dJ20_siftUp_26 : decode cJ20_siftUp 26 = .ok (.getfield 17, 3) := dk_180 0 17 (dk_at dksJ20_siftUp_1 2 rfl rfl)
theorem dJ20_siftUp_29 : decode cJ20_siftUp 29 = .ok (.invokestatic 140, 3) := dk_184 0 140 (dk_at dksJ20_siftUp_1 5 rfl rfl)
theorem dJ20_siftUp_32 : decode cJ20_siftUp 32 = .ok (.return_, 1) := dk_177 (dk_at dksJ20_siftUp_1 8 rfl rfl)
abbrev cJ20_siftUpUsingComparator : ByteArray := prog_69_method_29_code
def yJ20_siftUpUsingComparator : MethodName := ⟨RJ20, "siftUpUsingComparator", "(ILjava/lang/Object;[Ljava/lang/Object;Ljava/util/Comparator;)V"⟩
def dkwJ20_siftUpUsingComparator_2 : List UInt8 := [43, 83, 177]
abbrev dktJ20_siftUpUsingComparator_2 : List UInt8 := dkwJ20_siftUpUsingComparator_2 ++ []
def dkwJ20_siftUpUsingComparator_1 : List UInt8 := [185, 0, 149, 3, 0, 155, 0, 6, 167, 0, 14, 44, 26, 25, 5, 83, 21, 4, 59, 167, 255, 216, 44, 26]
abbrev dktJ20_siftUpUsingComparator_1 : List UInt8 := dkwJ20_siftUpUsingComparator_1 ++ dktJ20_siftUpUsingComparator_2
def dkwJ20_siftUpUsingComparator_0 : List UInt8 := [26, 158, 0, 42, 26, 4, 100, 4, 124, 54, 4, 44, 21, 4, 50, 58, 5, 45, 43, 25, 5]
abbrev dktJ20_siftUpUsingComparator_0 : List UInt8 := dkwJ20_siftUpUsingComparator_0 ++ dktJ20_siftUpUsingComparator_1
theorem dksJ20_siftUpUsingComparator_0 : cJ20_siftUpUsingComparator.data.toList.drop 0 = dktJ20_siftUpUsingComparator_0 := by decide +kernel
theorem dksJ20_siftUpUsingComparator_1 : cJ20_siftUpUsingComparator.data.toList.drop 21 = dktJ20_siftUpUsingComparator_1 := dk_seg dksJ20_siftUpUsingComparator_0 21 rfl rfl
theorem dksJ20_siftUpUsingComparator_2 : cJ20_siftUpUsingComparator.data.toList.drop 45 = dktJ20_siftUpUsingComparator_2 := dk_seg dksJ20_siftUpUsingComparator_1 24 rfl rfl
theorem dJ20_siftUpUsingComparator_0 : decode cJ20_siftUpUsingComparator 0 = .ok (.iload_n 0, 1) := dk_26 (dk_at dksJ20_siftUpUsingComparator_0 0 rfl rfl)
theorem dJ20_siftUpUsingComparator_1 : decode cJ20_siftUpUsingComparator 1 = .ok (.ifCond .le 42, 3) := dk_158 0 42 (dk_at dksJ20_siftUpUsingComparator_0 1 rfl rfl)
theorem dJ20_siftUpUsingComparator_4 : decode cJ20_siftUpUsingComparator 4 = .ok (.iload_n 0, 1) := dk_26 (dk_at dksJ20_siftUpUsingComparator_0 4 rfl rfl)
theorem dJ20_siftUpUsingComparator_5 : decode cJ20_siftUpUsingComparator 5 = .ok (.iconst 1, 1) := dk_4 (dk_at dksJ20_siftUpUsingComparator_0 5 rfl rfl)
theorem dJ20_siftUpUsingComparator_6 : decode cJ20_siftUpUsingComparator 6 = .ok (.isub, 1) := dk_100 (dk_at dksJ20_siftUpUsingComparator_0 6 rfl rfl)
theorem dJ20_siftUpUsingComparator_7 : decode cJ20_siftUpUsingComparator 7 = .ok (.iconst 1, 1) := dk_4 (dk_at dksJ20_siftUpUsingComparator_0 7 rfl rfl)
theorem dJ20_siftUpUsingComparator_8 : decode cJ20_siftUpUsingComparator 8 = .ok (.iushr, 1) := dk_124 (dk_at dksJ20_siftUpUsingComparator_0 8 rfl rfl)
theorem dJ20_siftUpUsingComparator_9 : decode cJ20_siftUpUsingComparator 9 = .ok (.istore 4, 2) := dk_54 4 (dk_at dksJ20_siftUpUsingComparator_0 9 rfl rfl)
theorem dJ20_siftUpUsingComparator_11 : decode cJ20_siftUpUsingComparator 11 = .ok (.aload_n 2, 1) := dk_44 (dk_at dksJ20_siftUpUsingComparator_0 11 rfl rfl)
theorem dJ20_siftUpUsingComparator_12 : decode cJ20_siftUpUsingComparator 12 = .ok (.iload 4, 2) := dk_21 4 (dk_at dksJ20_siftUpUsingComparator_0 12 rfl rfl)
theorem dJ20_siftUpUsingComparator_14 : decode cJ20_siftUpUsingComparator 14 = .ok (.aaload, 1) := dk_50 (dk_at dksJ20_siftUpUsingComparator_0 14 rfl rfl)
theorem dJ20_siftUpUsingComparator_15 : decode cJ20_siftUpUsingComparator 15 = .ok (.astore 5, 2) := dk_58 5 (dk_at dksJ20_siftUpUsingComparator_0 15 rfl rfl)
theorem dJ20_siftUpUsingComparator_17 : decode cJ20_siftUpUsingComparator 17 = .ok (.aload_n 3, 1) := dk_45 (dk_at dksJ20_siftUpUsingComparator_0 17 rfl rfl)
theorem dJ20_siftUpUsingComparator_18 : decode cJ20_siftUpUsingComparator 18 = .ok (.aload_n 1, 1) := dk_43 (dk_at dksJ20_siftUpUsingComparator_0 18 rfl rfl)
theorem dJ20_siftUpUsingComparator_19 : decode cJ20_siftUpUsingComparator 19 = .ok (.aload 5, 2) := dk_25 5 (dk_at dksJ20_siftUpUsingComparator_0 19 rfl rfl)
theorem dJ20_siftUpUsingComparator_21 : decode cJ20_siftUpUsingComparator 21 = .ok (.invokeinterface 149 3, 5) := by decide +kernel
theorem dJ20_siftUpUsingComparator_26 : decode cJ20_siftUpUsingComparator 26 = .ok (.ifCond .lt 6, 3) := dk_155 0 6 (dk_at dksJ20_siftUpUsingComparator_1 5 rfl rfl)
theorem dJ20_siftUpUsingComparator_29 : decode cJ20_siftUpUsingComparator 29 = .ok (.goto 14, 3) := dk_167 0 14 (dk_at dksJ20_siftUpUsingComparator_1 8 rfl rfl)
theorem dJ20_siftUpUsingComparator_32 : decode cJ20_siftUpUsingComparator 32 = .ok (.aload_n 2, 1) := dk_44 (dk_at dksJ20_siftUpUsingComparator_1 11 rfl rfl)
theorem dJ20_siftUpUsingComparator_33 : decode cJ20_siftUpUsingComparator 33 = .ok (.iload_n 0, 1) := dk_26 (dk_at dksJ20_siftUpUsingComparator_1 12 rfl rfl)
theorem dJ20_siftUpUsingComparator_34 : decode cJ20_siftUpUsingComparator 34 = .ok (.aload 5, 2) := dk_25 5 (dk_at dksJ20_siftUpUsingComparator_1 13 rfl rfl)
theorem dJ20_siftUpUsingComparator_36 : decode cJ20_siftUpUsingComparator 36 = .ok (.aastore, 1) := dk_83 (dk_at dksJ20_siftUpUsingComparator_1 15 rfl rfl)
theorem dJ20_siftUpUsingComparator_37 : decode cJ20_siftUpUsingComparator 37 = .ok (.iload 4, 2) := dk_21 4 (dk_at dksJ20_siftUpUsingComparator_1 16 rfl rfl)
theorem dJ20_siftUpUsingComparator_39 : decode cJ20_siftUpUsingComparator 39 = .ok (.istore_n 0, 1) := dk_59 (dk_at dksJ20_siftUpUsingComparator_1 18 rfl rfl)
theorem dJ20_siftUpUsingComparator_40 : decode cJ20_siftUpUsingComparator 40 = .ok (.goto (-40), 3) := dk_167 255 216 (dk_at dksJ20_siftUpUsingComparator_1 19 rfl rfl)
theorem dJ20_siftUpUsingComparator_43 : decode cJ20_siftUpUsingComparator 43 = .ok (.aload_n 2, 1) := dk_44 (dk_at dksJ20_siftUpUsingComparator_1 22 rfl rfl)
theorem dJ20_siftUpUsingComparator_44 : decode cJ20_siftUpUsingComparator 44 = .ok (.iload_n 0, 1) := dk_26 (dk_at dksJ20_siftUpUsingComparator_1 23 rfl rfl)
theorem dJ20_siftUpUsingComparator_45 : decode cJ20_siftUpUsingComparator 45 = .ok (.aload_n 1, 1) := dk_43 (dk_at dksJ20_siftUpUsingComparator_2 0 rfl rfl)
theorem dJ20_siftUpUsingComparator_46 : decode cJ20_siftUpUsingComparator 46 = .ok (.aastore, 1) := dk_83 (dk_at dksJ20_siftUpUsingComparator_2 1 rfl rfl)
theorem dJ20_siftUpUsingComparator_47 : decode cJ20_siftUpUsingComparator 47 = .ok (.return_, 1) := dk_177 (dk_at dksJ20_siftUpUsingComparator_2 2 rfl rfl)
abbrev cJ20_siftUpComparable : ByteArray := prog_69_method_28_code
def yJ20_siftUpComparable : MethodName := ⟨RJ20, "siftUpComparable", "(ILjava/lang/Object;[Ljava/lang/Object;)V"⟩
def dkwJ20_siftUpComparable_2 : List UInt8 := [44, 26, 45, 83, 177]
abbrev dktJ20_siftUpComparable_2 : List UInt8 := dkwJ20_siftUpComparable_2 ++ []
def dkwJ20_siftUpComparable_1 : List UInt8 := [25, 5, 185, 0, 146, 2, 0, 155, 0, 6, 167, 0, 14, 44, 26, 25, 5, 83, 21, 4, 59, 167, 255, 217]
abbrev dktJ20_siftUpComparable_1 : List UInt8 := dkwJ20_siftUpComparable_1 ++ dktJ20_siftUpComparable_2
def dkwJ20_siftUpComparable_0 : List UInt8 := [43, 192, 0, 144, 78, 26, 158, 0, 41, 26, 4, 100, 4, 124, 54, 4, 44, 21, 4, 50, 58, 5, 45]
abbrev dktJ20_siftUpComparable_0 : List UInt8 := dkwJ20_siftUpComparable_0 ++ dktJ20_siftUpComparable_1
theorem dksJ20_siftUpComparable_0 : cJ20_siftUpComparable.data.toList.drop 0 = dktJ20_siftUpComparable_0 := by decide +kernel
theorem dksJ20_siftUpComparable_1 : cJ20_siftUpComparable.data.toList.drop 23 = dktJ20_siftUpComparable_1 := dk_seg dksJ20_siftUpComparable_0 23 rfl rfl
theorem dksJ20_siftUpComparable_2 : cJ20_siftUpComparable.data.toList.drop 47 = dktJ20_siftUpComparable_2 := dk_seg dksJ20_siftUpComparable_1 24 rfl rfl
theorem dJ20_siftUpComparable_0 : decode cJ20_siftUpComparable 0 = .ok (.aload_n 1, 1) := dk_43 (dk_at dksJ20_siftUpComparable_0 0 rfl rfl)
theorem dJ20_siftUpComparable_1 : decode cJ20_siftUpComparable 1 = .ok (.checkcast 144, 3) := dk_192 0 144 (dk_at dksJ20_siftUpComparable_0 1 rfl rfl)
theorem dJ20_siftUpComparable_4 : decode cJ20_siftUpComparable 4 = .ok (.astore_n 3, 1) := dk_78 (dk_at dksJ20_siftUpComparable_0 4 rfl rfl)
theorem dJ20_siftUpComparable_5 : decode cJ20_siftUpComparable 5 = .ok (.iload_n 0, 1) := dk_26 (dk_at dksJ20_siftUpComparable_0 5 rfl rfl)
theorem dJ20_siftUpComparable_6 : decode cJ20_siftUpComparable 6 = .ok (.ifCond .le 41, 3) := dk_158 0 41 (dk_at dksJ20_siftUpComparable_0 6 rfl rfl)
theorem dJ20_siftUpComparable_9 : decode cJ20_siftUpComparable 9 = .ok (.iload_n 0, 1) := dk_26 (dk_at dksJ20_siftUpComparable_0 9 rfl rfl)
theorem dJ20_siftUpComparable_10 : decode cJ20_siftUpComparable 10 = .ok (.iconst 1, 1) := dk_4 (dk_at dksJ20_siftUpComparable_0 10 rfl rfl)
theorem dJ20_siftUpComparable_11 : decode cJ20_siftUpComparable 11 = .ok (.isub, 1) := dk_100 (dk_at dksJ20_siftUpComparable_0 11 rfl rfl)
theorem dJ20_siftUpComparable_12 : decode cJ20_siftUpComparable 12 = .ok (.iconst 1, 1) := dk_4 (dk_at dksJ20_siftUpComparable_0 12 rfl rfl)
theorem dJ20_siftUpComparable_13 : decode cJ20_siftUpComparable 13 = .ok (.iushr, 1) := dk_124 (dk_at dksJ20_siftUpComparable_0 13 rfl rfl)
theorem dJ20_siftUpComparable_14 : decode cJ20_siftUpComparable 14 = .ok (.istore 4, 2) := dk_54 4 (dk_at dksJ20_siftUpComparable_0 14 rfl rfl)
theorem dJ20_siftUpComparable_16 : decode cJ20_siftUpComparable 16 = .ok (.aload_n 2, 1) := dk_44 (dk_at dksJ20_siftUpComparable_0 16 rfl rfl)
theorem dJ20_siftUpComparable_17 : decode cJ20_siftUpComparable 17 = .ok (.iload 4, 2) := dk_21 4 (dk_at dksJ20_siftUpComparable_0 17 rfl rfl)
theorem dJ20_siftUpComparable_19 : decode cJ20_siftUpComparable 19 = .ok (.aaload, 1) := dk_50 (dk_at dksJ20_siftUpComparable_0 19 rfl rfl)
theorem dJ20_siftUpComparable_20 : decode cJ20_siftUpComparable 20 = .ok (.astore 5, 2) := dk_58 5 (dk_at dksJ20_siftUpComparable_0 20 rfl rfl)
theorem dJ20_siftUpComparable_22 : decode cJ20_siftUpComparable 22 = .ok (.aload_n 3, 1) := dk_45 (dk_at dksJ20_siftUpComparable_0 22 rfl rfl)
theorem dJ20_siftUpComparable_23 : decode cJ20_siftUpComparable 23 = .ok (.aload 5, 2) := dk_25 5 (dk_at dksJ20_siftUpComparable_1 0 rfl rfl)
theorem dJ20_siftUpComparable_25 : decode cJ20_siftUpComparable 25 = .ok (.invokeinterface 146 2, 5) := by decide +kernel
theorem dJ20_siftUpComparable_30 : decode cJ20_siftUpComparable 30 = .ok (.ifCond .lt 6, 3) := dk_155 0 6 (dk_at dksJ20_siftUpComparable_1 7 rfl rfl)
theorem dJ20_siftUpComparable_33 : decode cJ20_siftUpComparable 33 = .ok (.goto 14, 3) := dk_167 0 14 (dk_at dksJ20_siftUpComparable_1 10 rfl rfl)
theorem dJ20_siftUpComparable_36 : decode cJ20_siftUpComparable 36 = .ok (.aload_n 2, 1) := dk_44 (dk_at dksJ20_siftUpComparable_1 13 rfl rfl)
theorem dJ20_siftUpComparable_37 : decode cJ20_siftUpComparable 37 = .ok (.iload_n 0, 1) := dk_26 (dk_at dksJ20_siftUpComparable_1 14 rfl rfl)
theorem dJ20_siftUpComparable_38 : decode cJ20_siftUpComparable 38 = .ok (.aload 5, 2) := dk_25 5 (dk_at dksJ20_siftUpComparable_1 15 rfl rfl)
theorem dJ20_siftUpComparable_40 : decode cJ20_siftUpComparable 40 = .ok (.aastore, 1) := dk_83 (dk_at dksJ20_siftUpComparable_1 17 rfl rfl)
theorem dJ20_siftUpComparable_41 : decode cJ20_siftUpComparable 41 = .ok (.iload 4, 2) := dk_21 4 (dk_at dksJ20_siftUpComparable_1 18 rfl rfl)
theorem dJ20_siftUpComparable_43 : decode cJ20_siftUpComparable 43 = .ok (.istore_n 0, 1) := dk_59 (dk_at dksJ20_siftUpComparable_1 20 rfl rfl)
theorem dJ20_siftUpComparable_44 : decode cJ20_siftUpComparable 44 = .ok (.goto (-39), 3) := dk_167 255 217 (dk_at dksJ20_siftUpComparable_1 21 rfl rfl)
theorem dJ20_siftUpComparable_47 : decode cJ20_siftUpComparable 47 = .ok (.aload_n 2, 1) := dk_44 (dk_at dksJ20_siftUpComparable_2 0 rfl rfl)
theorem dJ20_siftUpComparable_48 : decode cJ20_siftUpComparable 48 = .ok (.iload_n 0, 1) := dk_26 (dk_at dksJ20_siftUpComparable_2 1 rfl rfl)
theorem dJ20_siftUpComparable_49 : decode cJ20_siftUpComparable 49 = .ok (.aload_n 3, 1) := dk_45 (dk_at dksJ20_siftUpComparable_2 2 rfl rfl)
theorem dJ20_siftUpComparable_50 : decode cJ20_siftUpComparable 50 = .ok (.aastore, 1) := dk_83 (dk_at dksJ20_siftUpComparable_2 3 rfl rfl)
theorem dJ20_siftUpComparable_51 : decode cJ20_siftUpComparable 51 = .ok (.return_, 1) := dk_177 (dk_at dksJ20_siftUpComparable_2 4 rfl rfl)
abbrev cJ20_size : ByteArray := prog_69_method_23_code
def yJ20_size : MethodName := ⟨RJ20, "size", "()I"⟩
theorem dJ20_size_0 : decode cJ20_size 0 = .ok (.aload_n 0, 1) := by decide +kernel
theorem dJ20_size_1 : decode cJ20_size 1 = .ok (.getfield 58, 3) := by decide +kernel
theorem dJ20_size_4 : decode cJ20_size 4 = .ok (.ireturn, 1) := by decide +kernel
abbrev cJ20_poll : ByteArray := prog_69_method_25_code
def yJ20_poll : MethodName := ⟨RJ20, "poll", "()Ljava/lang/Object;"⟩
def dkwJ20_poll_3 : List UInt8 := [43, 29, 25, 5, 184, 0, 129, 44, 176]
abbrev dktJ20_poll_3 : List UInt8 := dkwJ20_poll_3 ++ []
def dkwJ20_poll_2 : List UInt8 := [42, 180, 0, 21, 89, 58, 5, 199, 0, 14, 3, 25, 4, 43, 29, 184, 0, 125, 167, 0, 13, 3, 25, 4]
abbrev dktJ20_poll_2 : List UInt8 := dkwJ20_poll_2 ++ dktJ20_poll_3
def dkwJ20_poll_1 : List UInt8 := [42, 89, 180, 0, 58, 4, 100, 90, 181, 0, 58, 89, 62, 50, 58, 4, 43, 29, 1, 83, 29, 158, 0, 34]
abbrev dktJ20_poll_1 : List UInt8 := dkwJ20_poll_1 ++ dktJ20_poll_2
def dkwJ20_poll_0 : List UInt8 := [42, 180, 0, 17, 89, 76, 3, 50, 89, 77, 198, 0, 69, 42, 89, 180, 0, 93, 4, 96, 181, 0, 93, 43]
abbrev dktJ20_poll_0 : List UInt8 := dkwJ20_poll_0 ++ dktJ20_poll_1
theorem dksJ20_poll_0 : cJ20_poll.data.toList.drop 0 = dktJ20_poll_0 := by decide +kernel
theorem dksJ20_poll_1 : cJ20_poll.data.toList.drop 24 = dktJ20_poll_1 := dk_seg dksJ20_poll_0 24 rfl rfl
theorem dksJ20_poll_2 : cJ20_poll.data.toList.drop 48 = dktJ20_poll_2 := dk_seg dksJ20_poll_1 24 rfl rfl
theorem dksJ20_poll_3 : cJ20_poll.data.toList.drop 72 = dktJ20_poll_3 := dk_seg dksJ20_poll_2 24 rfl rfl
theorem dJ20_poll_0 : decode cJ20_poll 0 = .ok (.aload_n 0, 1) := dk_42 (dk_at dksJ20_poll_0 0 rfl rfl)
theorem dJ20_poll_1 : decode cJ20_poll 1 = .ok (.getfield 17, 3) := dk_180 0 17 (dk_at dksJ20_poll_0 1 rfl rfl)
theorem dJ20_poll_4 : decode cJ20_poll 4 = .ok (.dup, 1) := dk_89 (dk_at dksJ20_poll_0 4 rfl rfl)
theorem dJ20_poll_5 : decode cJ20_poll 5 = .ok (.astore_n 1, 1) := dk_76 (dk_at dksJ20_poll_0 5 rfl rfl)
theorem dJ20_poll_6 : decode cJ20_poll 6 = .ok (.iconst 0, 1) := dk_3 (dk_at dksJ20_poll_0 6 rfl rfl)
theorem dJ20_poll_7 : decode cJ20_poll 7 = .ok (.aaload, 1) := dk_50 (dk_at dksJ20_poll_0 7 rfl rfl)
theorem dJ20_poll_8 : decode cJ20_poll 8 = .ok (.dup, 1) := dk_89 (dk_at dksJ20_poll_0 8 rfl rfl)
theorem dJ20_poll_9 : decode cJ20_poll 9 = .ok (.astore_n 2, 1) := dk_77 (dk_at dksJ20_poll_0 9 rfl rfl)
theorem dJ20_poll_10 : decode cJ20_poll 10 = .ok (.ifnull 69, 3) := dk_198 0 69 (dk_at dksJ20_poll_0 10 rfl rfl)
theorem dJ20_poll_13 : decode cJ20_poll 13 = .ok (.aload_n 0, 1) := dk_42 (dk_at dksJ20_poll_0 13 rfl rfl)
theorem dJ20_poll_14 : decode cJ20_poll 14 = .ok (.dup, 1) := dk_89 (dk_at dksJ20_poll_0 14 rfl rfl)
theorem dJ20_poll_15 : decode cJ20_poll 15 = .ok (.getfield 93, 3) := dk_180 0 93 (dk_at dksJ20_poll_0 15 rfl rfl)
theorem dJ20_poll_18 : decode cJ20_poll 18 = .ok (.iconst 1, 1) := dk_4 (dk_at dksJ20_poll_0 18 rfl rfl)
theorem dJ20_poll_19 : decode cJ20_poll 19 = .ok (.iadd, 1) := dk_96 (dk_at dksJ20_poll_0 19 rfl rfl)
theorem dJ20_poll_20 : decode cJ20_poll 20 = .ok (.putfield 93, 3) := dk_181 0 93 (dk_at dksJ20_poll_0 20 rfl rfl)
theorem dJ20_poll_23 : decode cJ20_poll 23 = .ok (.aload_n 1, 1) := dk_43 (dk_at dksJ20_poll_0 23 rfl rfl)
theorem dJ20_poll_24 : decode cJ20_poll 24 = .ok (.aload_n 0, 1) := dk_42 (dk_at dksJ20_poll_1 0 rfl rfl)
theorem dJ20_poll_25 : decode cJ20_poll 25 = .ok (.dup, 1) := dk_89 (dk_at dksJ20_poll_1 1 rfl rfl)
theorem dJ20_poll_26 : decode cJ20_poll 26 = .ok (.getfield 58, 3) := dk_180 0 58 (dk_at dksJ20_poll_1 2 rfl rfl)
theorem dJ20_poll_29 : decode cJ20_poll 29 = .ok (.iconst 1, 1) := dk_4 (dk_at dksJ20_poll_1 5 rfl rfl)
theorem dJ20_poll_30 : decode cJ20_poll 30 = .ok (.isub, 1) := dk_100 (dk_at dksJ20_poll_1 6 rfl rfl)
theorem dJ20_poll_31 : decode cJ20_poll 31 = .ok (.dup_x1, 1) := dk_90 (dk_at dksJ20_poll_1 7 rfl rfl)
theorem dJ20_poll_32 : decode cJ20_poll 32 = .ok (.putfield 58, 3) := dk_181 0 58 (dk_at dksJ20_poll_1 8 rfl rfl)
theorem dJ20_poll_35 : decode cJ20_poll 35 = .ok (.dup, 1) := dk_89 (dk_at dksJ20_poll_1 11 rfl rfl)
theorem dJ20_poll_36 : decode cJ20_poll 36 = .ok (.istore_n 3, 1) := dk_62 (dk_at dksJ20_poll_1 12 rfl rfl)
theorem dJ20_poll_37 : decode cJ20_poll 37 = .ok (.aaload, 1) := dk_50 (dk_at dksJ20_poll_1 13 rfl rfl)
theorem dJ20_poll_38 : decode cJ20_poll 38 = .ok (.astore 4, 2) := dk_58 4 (dk_at dksJ20_poll_1 14 rfl rfl)
theorem dJ20_poll_40 : decode cJ20_poll 40 = .ok (.aload_n 1, 1) := dk_43 (dk_at dksJ20_poll_1 16 rfl rfl)
theorem dJ20_poll_41 : decode cJ20_poll 41 = .ok (.iload_n 3, 1) := dk_29 (dk_at dksJ20_poll_1 17 rfl rfl)
theorem dJ20_poll_42 : decode cJ20_poll 42 = .ok (.aconst_null, 1) := dk_1 (dk_at dksJ20_poll_1 18 rfl rfl)
theorem dJ20_poll_43 : decode cJ20_poll 43 = .ok (.aastore, 1) := dk_83 (dk_at dksJ20_poll_1 19 rfl rfl)
theorem dJ20_poll_44 : decode cJ20_poll 44 = .ok (.iload_n 3, 1) := dk_29 (dk_at dksJ20_poll_1 20 rfl rfl)
theorem dJ20_poll_45 : decode cJ20_poll 45 = .ok (.ifCond .le 34, 3) := dk_158 0 34 (dk_at dksJ20_poll_1 21 rfl rfl)
theorem dJ20_poll_48 : decode cJ20_poll 48 = .ok (.aload_n 0, 1) := dk_42 (dk_at dksJ20_poll_2 0 rfl rfl)
theorem dJ20_poll_49 : decode cJ20_poll 49 = .ok (.getfield 21, 3) := dk_180 0 21 (dk_at dksJ20_poll_2 1 rfl rfl)
theorem dJ20_poll_52 : decode cJ20_poll 52 = .ok (.dup, 1) := dk_89 (dk_at dksJ20_poll_2 4 rfl rfl)
theorem dJ20_poll_53 : decode cJ20_poll 53 = .ok (.astore 5, 2) := dk_58 5 (dk_at dksJ20_poll_2 5 rfl rfl)
theorem dJ20_poll_55 : decode cJ20_poll 55 = .ok (.ifnonnull 14, 3) := dk_199 0 14 (dk_at dksJ20_poll_2 7 rfl rfl)
theorem dJ20_poll_58 : decode cJ20_poll 58 = .ok (.iconst 0, 1) := dk_3 (dk_at dksJ20_poll_2 10 rfl rfl)
theorem dJ20_poll_59 : decode cJ20_poll 59 = .ok (.aload 4, 2) := dk_25 4 (dk_at dksJ20_poll_2 11 rfl rfl)
theorem dJ20_poll_61 : decode cJ20_poll 61 = .ok (.aload_n 1, 1) := dk_43 (dk_at dksJ20_poll_2 13 rfl rfl)
theorem dJ20_poll_62 : decode cJ20_poll 62 = .ok (.iload_n 3, 1) := dk_29 (dk_at dksJ20_poll_2 14 rfl rfl)
theorem dJ20_poll_63 : decode cJ20_poll 63 = .ok (.invokestatic 125, 3) := dk_184 0 125 (dk_at dksJ20_poll_2 15 rfl rfl)
theorem dJ20_poll_66 : decode cJ20_poll 66 = .ok (.goto 13, 3) := dk_167 0 13 (dk_at dksJ20_poll_2 18 rfl rfl)
theorem dJ20_poll_69 : decode cJ20_poll 69 = .ok (.iconst 0, 1) := dk_3 (dk_at dksJ20_poll_2 21 rfl rfl)
theorem dJ20_poll_70 : decode cJ20_poll 70 = .ok (.aload 4, 2) := dk_25 4 (dk_at dksJ20_poll_2 22 rfl rfl)
theorem dJ20_poll_72 : decode cJ20_poll 72 = .ok (.aload_n 1, 1) := dk_43 (dk_at dksJ20_poll_3 0 rfl rfl)
theorem dJ20_poll_73 : decode cJ20_poll 73 = .ok (.iload_n 3, 1) := dk_29 (dk_at dksJ20_poll_3 1 rfl rfl)
theorem dJ20_poll_74 : decode cJ20_poll 74 = .ok (.aload 5, 2) := dk_25 5 (dk_at dksJ20_poll_3 2 rfl rfl)
theorem dJ20_poll_76 : decode cJ20_poll 76 = .ok (.invokestatic 129, 3) := dk_184 0 129 (dk_at dksJ20_poll_3 4 rfl rfl)
theorem dJ20_poll_79 : decode cJ20_poll 79 = .ok (.aload_n 2, 1) := dk_44 (dk_at dksJ20_poll_3 7 rfl rfl)
theorem dJ20_poll_80 : decode cJ20_poll 80 = .ok (.areturn, 1) := dk_176 (dk_at dksJ20_poll_3 8 rfl rfl)
abbrev cJ20_siftDownComparable : ByteArray := prog_69_method_31_code
def yJ20_siftDownComparable : MethodName := ⟨RJ20, "siftDownComparable", "(ILjava/lang/Object;[Ljava/lang/Object;I)V"⟩
def dkwJ20_siftDownComparable_4 : List UInt8 := [25, 4, 83, 177]
abbrev dktJ20_siftDownComparable_4 : List UInt8 := dkwJ20_siftDownComparable_4 ++ []
def dkwJ20_siftDownComparable_3 : List UInt8 := [185, 0, 146, 2, 0, 157, 0, 6, 167, 0, 14, 44, 26, 25, 7, 83, 21, 6, 59, 167, 255, 176, 44, 26]
abbrev dktJ20_siftDownComparable_3 : List UInt8 := dkwJ20_siftDownComparable_3 ++ dktJ20_siftDownComparable_4
def dkwJ20_siftDownComparable_2 : List UInt8 := [21, 8, 50, 185, 0, 146, 2, 0, 158, 0, 12, 44, 21, 8, 89, 54, 6, 50, 58, 7, 25, 4, 25, 7]
abbrev dktJ20_siftDownComparable_2 : List UInt8 := dkwJ20_siftDownComparable_2 ++ dktJ20_siftDownComparable_3
def dkwJ20_siftDownComparable_1 : List UInt8 := [44, 21, 6, 50, 58, 7, 21, 6, 4, 96, 54, 8, 21, 8, 29, 162, 0, 29, 25, 7, 192, 0, 144, 44]
abbrev dktJ20_siftDownComparable_1 : List UInt8 := dkwJ20_siftDownComparable_1 ++ dktJ20_siftDownComparable_2
def dkwJ20_siftDownComparable_0 : List UInt8 := [43, 192, 0, 144, 58, 4, 29, 4, 124, 54, 5, 26, 21, 5, 162, 0, 80, 26, 4, 120, 4, 96, 54, 6]
abbrev dktJ20_siftDownComparable_0 : List UInt8 := dkwJ20_siftDownComparable_0 ++ dktJ20_siftDownComparable_1
theorem dksJ20_siftDownComparable_0 : cJ20_siftDownComparable.data.toList.drop 0 = dktJ20_siftDownComparable_0 := by decide +kernel
theorem dksJ20_siftDownComparable_1 : cJ20_siftDownComparable.data.toList.drop 24 = dktJ20_siftDownComparable_1 := dk_seg dksJ20_siftDownComparable_0 24 rfl rfl
theorem dksJ20_siftDownComparable_2 : cJ20_siftDownComparable.data.toList.drop 48 = dktJ20_siftDownComparable_2 := dk_seg dksJ20_siftDownComparable_1 24 rfl rfl
theorem dksJ20_siftDownComparable_3 : cJ20_siftDownComparable.data.toList.drop 72 = dktJ20_siftDownComparable_3 := dk_seg dksJ20_siftDownComparable_2 24 rfl rfl
theorem dksJ20_siftDownComparable_4 : cJ20_siftDownComparable.data.toList.drop 96 = dktJ20_siftDownComparable_4 := dk_seg dksJ20_siftDownComparable_3 24 rfl rfl
theorem dJ20_siftDownComparable_0 : decode cJ20_siftDownComparable 0 = .ok (.aload_n 1, 1) := dk_43 (dk_at dksJ20_siftDownComparable_0 0 rfl rfl)
theorem dJ20_siftDownComparable_1 : decode cJ20_siftDownComparable 1 = .ok (.checkcast 144, 3) := dk_192 0 144 (dk_at dksJ20_siftDownComparable_0 1 rfl rfl)
theorem dJ20_siftDownComparable_4 : decode cJ20_siftDownComparable 4 = .ok (.astore 4, 2) := dk_58 4 (dk_at dksJ20_siftDownComparable_0 4 rfl rfl)
theorem dJ20_siftDownComparable_6 : decode cJ20_siftDownComparable 6 = .ok (.iload_n 3, 1) := dk_29 (dk_at dksJ20_siftDownComparable_0 6 rfl rfl)
theorem dJ20_siftDownComparable_7 : decode cJ20_siftDownComparable 7 = .ok (.iconst 1, 1) := dk_4 (dk_at dksJ20_siftDownComparable_0 7 rfl rfl)
theorem dJ20_siftDownComparable_8 : decode cJ20_siftDownComparable 8 = .ok (.iushr, 1) := dk_124 (dk_at dksJ20_siftDownComparable_0 8 rfl rfl)
theorem dJ20_siftDownComparable_9 : decode cJ20_siftDownComparable 9 = .ok (.istore 5, 2) := dk_54 5 (dk_at dksJ20_siftDownComparable_0 9 rfl rfl)
theorem dJ20_siftDownComparable_11 : decode cJ20_siftDownComparable 11 = .ok (.iload_n 0, 1) := dk_26 (dk_at dksJ20_siftDownComparable_0 11 rfl rfl)
theorem dJ20_siftDownComparable_12 : decode cJ20_siftDownComparable 12 = .ok (.iload 5, 2) := dk_21 5 (dk_at dksJ20_siftDownComparable_0 12 rfl rfl)
theorem dJ20_siftDownComparable_14 : decode cJ20_siftDownComparable 14 = .ok (.if_icmp .ge 80, 3) := dk_162 0 80 (dk_at dksJ20_siftDownComparable_0 14 rfl rfl)
theorem dJ20_siftDownComparable_17 : decode cJ20_siftDownComparable 17 = .ok (.iload_n 0, 1) := dk_26 (dk_at dksJ20_siftDownComparable_0 17 rfl rfl)
theorem dJ20_siftDownComparable_18 : decode cJ20_siftDownComparable 18 = .ok (.iconst 1, 1) := dk_4 (dk_at dksJ20_siftDownComparable_0 18 rfl rfl)
theorem dJ20_siftDownComparable_19 : decode cJ20_siftDownComparable 19 = .ok (.ishl, 1) := dk_120 (dk_at dksJ20_siftDownComparable_0 19 rfl rfl)
theorem dJ20_siftDownComparable_20 : decode cJ20_siftDownComparable 20 = .ok (.iconst 1, 1) := dk_4 (dk_at dksJ20_siftDownComparable_0 20 rfl rfl)
theorem dJ20_siftDownComparable_21 : decode cJ20_siftDownComparable 21 = .ok (.iadd, 1) := dk_96 (dk_at dksJ20_siftDownComparable_0 21 rfl rfl)
theorem dJ20_siftDownComparable_22 : decode cJ20_siftDownComparable 22 = .ok (.istore 6, 2) := dk_54 6 (dk_at dksJ20_siftDownComparable_0 22 rfl rfl)
theorem dJ20_siftDownComparable_24 : decode cJ20_siftDownComparable 24 = .ok (.aload_n 2, 1) := dk_44 (dk_at dksJ20_siftDownComparable_1 0 rfl rfl)
theorem dJ20_siftDownComparable_25 : decode cJ20_siftDownComparable 25 = .ok (.iload 6, 2) := dk_21 6 (dk_at dksJ20_siftDownComparable_1 1 rfl rfl)
theorem dJ20_siftDownComparable_27 : decode cJ20_siftDownComparable 27 = .ok (.aaload, 1) := dk_50 (dk_at dksJ20_siftDownComparable_1 3 rfl rfl)
theorem dJ20_siftDownComparable_28 : decode cJ20_siftDownComparable 28 = .ok (.astore 7, 2) := dk_58 7 (dk_at dksJ20_siftDownComparable_1 4 rfl rfl)
theorem dJ20_siftDownComparable_30 : decode cJ20_siftDownComparable 30 = .ok (.iload 6, 2) := dk_21 6 (dk_at dksJ20_siftDownComparable_1 6 rfl rfl)
theorem dJ20_siftDownComparable_32 : decode cJ20_siftDownComparable 32 = .ok (.iconst 1, 1) := dk_4 (dk_at dksJ20_siftDownComparable_1 8 rfl rfl)
theorem dJ20_siftDownComparable_33 : decode cJ20_siftDownComparable 33 = .ok (.iadd, 1) := dk_96 (dk_at dksJ20_siftDownComparable_1 9 rfl rfl)
theorem dJ20_siftDownComparable_34 : decode cJ20_siftDownComparable 34 = .ok (.istore 8, 2) := dk_54 8 (dk_at dksJ20_siftDownComparable_1 10 rfl rfl)
theorem dJ20_siftDownComparable_36 : decode cJ20_siftDownComparable 36 = .ok (.iload 8, 2) := dk_21 8 (dk_at dksJ20_siftDownComparable_1 12 rfl rfl)
theorem dJ20_siftDownComparable_38 : decode cJ20_siftDownComparable 38 = .ok (.iload_n 3, 1) := dk_29 (dk_at dksJ20_siftDownComparable_1 14 rfl rfl)
theorem dJ20_siftDownComparable_39 : decode cJ20_siftDownComparable 39 = .ok (.if_icmp .ge 29, 3) := dk_162 0 29 (dk_at dksJ20_siftDownComparable_1 15 rfl rfl)
theorem dJ20_siftDownComparable_42 : decode cJ20_siftDownComparable 42 = .ok (.aload 7, 2) := dk_25 7 (dk_at dksJ20_siftDownComparable_1 18 rfl rfl)
theorem dJ20_siftDownComparable_44 : decode cJ20_siftDownComparable 44 = .ok (.checkcast 144, 3) := dk_192 0 144 (dk_at dksJ20_siftDownComparable_1 20 rfl rfl)
theorem dJ20_siftDownComparable_47 : decode cJ20_siftDownComparable 47 = .ok (.aload_n 2, 1) := dk_44 (dk_at dksJ20_siftDownComparable_1 23 rfl rfl)
theorem dJ20_siftDownComparable_48 : decode cJ20_siftDownComparable 48 = .ok (.iload 8, 2) := dk_21 8 (dk_at dksJ20_siftDownComparable_2 0 rfl rfl)
theorem dJ20_siftDownComparable_50 : decode cJ20_siftDownComparable 50 = .ok (.aaload, 1) := dk_50 (dk_at dksJ20_siftDownComparable_2 2 rfl rfl)
theorem dJ20_siftDownComparable_51 : decode cJ20_siftDownComparable 51 = .ok (.invokeinterface 146 2, 5) := by decide +kernel
theorem dJ20_siftDownComparable_56 : decode cJ20_siftDownComparable 56 = .ok (.ifCond .le 12, 3) := dk_158 0 12 (dk_at dksJ20_siftDownComparable_2 8 rfl rfl)
theorem dJ20_siftDownComparable_59 : decode cJ20_siftDownComparable 59 = .ok (.aload_n 2, 1) := dk_44 (dk_at dksJ20_siftDownComparable_2 11 rfl rfl)
theorem dJ20_siftDownComparable_60 : decode cJ20_siftDownComparable 60 = .ok (.iload 8, 2) := dk_21 8 (dk_at dksJ20_siftDownComparable_2 12 rfl rfl)
theorem dJ20_siftDownComparable_62 : decode cJ20_siftDownComparable 62 = .ok (.dup, 1) := dk_89 (dk_at dksJ20_siftDownComparable_2 14 rfl rfl)
theorem dJ20_siftDownComparable_63 : decode cJ20_siftDownComparable 63 = .ok (.istore 6, 2) := dk_54 6 (dk_at dksJ20_siftDownComparable_2 15 rfl rfl)
theorem dJ20_siftDownComparable_65 : decode cJ20_siftDownComparable 65 = .ok (.aaload, 1) := dk_50 (dk_at dksJ20_siftDownComparable_2 17 rfl rfl)
theorem dJ20_siftDownComparable_66 : decode cJ20_siftDownComparable 66 = .ok (.astore 7, 2) := dk_58 7 (dk_at dksJ20_siftDownComparable_2 18 rfl rfl)
theorem dJ20_siftDownComparable_68 : decode cJ20_siftDownComparable 68 = .ok (.aload 4, 2) := dk_25 4 (dk_at dksJ20_siftDownComparable_2 20 rfl rfl)
theorem dJ20_siftDownComparable_70 : decode cJ20_siftDownComparable 70 = .ok (.aload 7, 2) := dk_25 7 (dk_at dksJ20_siftDownComparable_2 22 rfl rfl)
theorem dJ20_siftDownComparable_72 : decode cJ20_siftDownComparable 72 = .ok (.invokeinterface 146 2, 5) := by decide +kernel
theorem dJ20_siftDownComparable_77 : decode cJ20_siftDownComparable 77 = .ok (.ifCond .gt 6, 3) := dk_157 0 6 (dk_at dksJ20_siftDownComparable_3 5 rfl rfl)
theorem dJ20_siftDownComparable_80 : decode cJ20_siftDownComparable 80 = .ok (.goto 14, 3) := dk_167 0 14 (dk_at dksJ20_siftDownComparable_3 8 rfl rfl)
theorem dJ20_siftDownComparable_83 : decode cJ20_siftDownComparable 83 = .ok (.aload_n 2, 1) := dk_44 (dk_at dksJ20_siftDownComparable_3 11 rfl rfl)
theorem dJ20_siftDownComparable_84 : decode cJ20_siftDownComparable 84 = .ok (.iload_n 0, 1) := dk_26 (dk_at dksJ20_siftDownComparable_3 12 rfl rfl)
theorem dJ20_siftDownComparable_85 : decode cJ20_siftDownComparable 85 = .ok (.aload 7, 2) := dk_25 7 (dk_at dksJ20_siftDownComparable_3 13 rfl rfl)
theorem dJ20_siftDownComparable_87 : decode cJ20_siftDownComparable 87 = .ok (.aastore, 1) := dk_83 (dk_at dksJ20_siftDownComparable_3 15 rfl rfl)
theorem dJ20_siftDownComparable_88 : decode cJ20_siftDownComparable 88 = .ok (.iload 6, 2) := dk_21 6 (dk_at dksJ20_siftDownComparable_3 16 rfl rfl)
theorem dJ20_siftDownComparable_90 : decode cJ20_siftDownComparable 90 = .ok (.istore_n 0, 1) := dk_59 (dk_at dksJ20_siftDownComparable_3 18 rfl rfl)
theorem dJ20_siftDownComparable_91 : decode cJ20_siftDownComparable 91 = .ok (.goto (-80), 3) := dk_167 255 176 (dk_at dksJ20_siftDownComparable_3 19 rfl rfl)
theorem dJ20_siftDownComparable_94 : decode cJ20_siftDownComparable 94 = .ok (.aload_n 2, 1) := dk_44 (dk_at dksJ20_siftDownComparable_3 22 rfl rfl)
theorem dJ20_siftDownComparable_95 : decode cJ20_siftDownComparable 95 = .ok (.iload_n 0, 1) := dk_26 (dk_at dksJ20_siftDownComparable_3 23 rfl rfl)
theorem dJ20_siftDownComparable_96 : decode cJ20_siftDownComparable 96 = .ok (.aload 4, 2) := dk_25 4 (dk_at dksJ20_siftDownComparable_4 0 rfl rfl)
theorem dJ20_siftDownComparable_98 : decode cJ20_siftDownComparable 98 = .ok (.aastore, 1) := dk_83 (dk_at dksJ20_siftDownComparable_4 2 rfl rfl)
theorem dJ20_siftDownComparable_99 : decode cJ20_siftDownComparable 99 = .ok (.return_, 1) := dk_177 (dk_at dksJ20_siftDownComparable_4 3 rfl rfl)
abbrev cJ20_siftDownUsingComparator : ByteArray := prog_69_method_32_code
def yJ20_siftDownUsingComparator : MethodName := ⟨RJ20, "siftDownUsingComparator", "(ILjava/lang/Object;[Ljava/lang/Object;ILjava/util/Comparator;)V"⟩
def dkwJ20_siftDownUsingComparator_4 : List UInt8 := [43, 83, 177]
abbrev dktJ20_siftDownUsingComparator_4 : List UInt8 := dkwJ20_siftDownUsingComparator_4 ++ []
def dkwJ20_siftDownUsingComparator_3 : List UInt8 := [185, 0, 149, 3, 0, 157, 0, 6, 167, 0, 14, 44, 26, 25, 7, 83, 21, 6, 59, 167, 255, 176, 44, 26]
abbrev dktJ20_siftDownUsingComparator_3 : List UInt8 := dkwJ20_siftDownUsingComparator_3 ++ dktJ20_siftDownUsingComparator_4
def dkwJ20_siftDownUsingComparator_2 : List UInt8 := [185, 0, 149, 3, 0, 158, 0, 12, 44, 21, 8, 89, 54, 6, 50, 58, 7, 25, 4, 43, 25, 7]
abbrev dktJ20_siftDownUsingComparator_2 : List UInt8 := dkwJ20_siftDownUsingComparator_2 ++ dktJ20_siftDownUsingComparator_3
def dkwJ20_siftDownUsingComparator_1 : List UInt8 := [21, 6, 4, 96, 54, 8, 21, 8, 29, 162, 0, 28, 25, 4, 25, 7, 44, 21, 8, 50]
abbrev dktJ20_siftDownUsingComparator_1 : List UInt8 := dkwJ20_siftDownUsingComparator_1 ++ dktJ20_siftDownUsingComparator_2
def dkwJ20_siftDownUsingComparator_0 : List UInt8 := [29, 4, 124, 54, 5, 26, 21, 5, 162, 0, 80, 26, 4, 120, 4, 96, 54, 6, 44, 21, 6, 50, 58, 7]
abbrev dktJ20_siftDownUsingComparator_0 : List UInt8 := dkwJ20_siftDownUsingComparator_0 ++ dktJ20_siftDownUsingComparator_1
theorem dksJ20_siftDownUsingComparator_0 : cJ20_siftDownUsingComparator.data.toList.drop 0 = dktJ20_siftDownUsingComparator_0 := by decide +kernel
theorem dksJ20_siftDownUsingComparator_1 : cJ20_siftDownUsingComparator.data.toList.drop 24 = dktJ20_siftDownUsingComparator_1 := dk_seg dksJ20_siftDownUsingComparator_0 24 rfl rfl
theorem dksJ20_siftDownUsingComparator_2 : cJ20_siftDownUsingComparator.data.toList.drop 44 = dktJ20_siftDownUsingComparator_2 := dk_seg dksJ20_siftDownUsingComparator_1 20 rfl rfl
theorem dksJ20_siftDownUsingComparator_3 : cJ20_siftDownUsingComparator.data.toList.drop 66 = dktJ20_siftDownUsingComparator_3 := dk_seg dksJ20_siftDownUsingComparator_2 22 rfl rfl
theorem dksJ20_siftDownUsingComparator_4 : cJ20_siftDownUsingComparator.data.toList.drop 90 = dktJ20_siftDownUsingComparator_4 := dk_seg dksJ20_siftDownUsingComparator_3 24 rfl rfl
theorem dJ20_siftDownUsingComparator_0 : decode cJ20_siftDownUsingComparator 0 = .ok (.iload_n 3, 1) := dk_29 (dk_at dksJ20_siftDownUsingComparator_0 0 rfl rfl)
theorem dJ20_siftDownUsingComparator_1 : decode cJ20_siftDownUsingComparator 1 = .ok (.iconst 1, 1) := dk_4 (dk_at dksJ20_siftDownUsingComparator_0 1 rfl rfl)
theorem dJ20_siftDownUsingComparator_2 : decode cJ20_siftDownUsingComparator 2 = .ok (.iushr, 1) := dk_124 (dk_at dksJ20_siftDownUsingComparator_0 2 rfl rfl)
theorem dJ20_siftDownUsingComparator_3 : decode cJ20_siftDownUsingComparator 3 = .ok (.istore 5, 2) := dk_54 5 (dk_at dksJ20_siftDownUsingComparator_0 3 rfl rfl)
theorem dJ20_siftDownUsingComparator_5 : decode cJ20_siftDownUsingComparator 5 = .ok (.iload_n 0, 1) := dk_26 (dk_at dksJ20_siftDownUsingComparator_0 5 rfl rfl)
theorem dJ20_siftDownUsingComparator_6 : decode cJ20_siftDownUsingComparator 6 = .ok (.iload 5, 2) := dk_21 5 (dk_at dksJ20_siftDownUsingComparator_0 6 rfl rfl)
theorem dJ20_siftDownUsingComparator_8 : decode cJ20_siftDownUsingComparator 8 = .ok (.if_icmp .ge 80, 3) := dk_162 0 80 (dk_at dksJ20_siftDownUsingComparator_0 8 rfl rfl)
theorem dJ20_siftDownUsingComparator_11 : decode cJ20_siftDownUsingComparator 11 = .ok (.iload_n 0, 1) := dk_26 (dk_at dksJ20_siftDownUsingComparator_0 11 rfl rfl)
theorem dJ20_siftDownUsingComparator_12 : decode cJ20_siftDownUsingComparator 12 = .ok (.iconst 1, 1) := dk_4 (dk_at dksJ20_siftDownUsingComparator_0 12 rfl rfl)
theorem dJ20_siftDownUsingComparator_13 : decode cJ20_siftDownUsingComparator 13 = .ok (.ishl, 1) := dk_120 (dk_at dksJ20_siftDownUsingComparator_0 13 rfl rfl)
theorem dJ20_siftDownUsingComparator_14 : decode cJ20_siftDownUsingComparator 14 = .ok (.iconst 1, 1) := dk_4 (dk_at dksJ20_siftDownUsingComparator_0 14 rfl rfl)
theorem dJ20_siftDownUsingComparator_15 : decode cJ20_siftDownUsingComparator 15 = .ok (.iadd, 1) := dk_96 (dk_at dksJ20_siftDownUsingComparator_0 15 rfl rfl)
theorem dJ20_siftDownUsingComparator_16 : decode cJ20_siftDownUsingComparator 16 = .ok (.istore 6, 2) := dk_54 6 (dk_at dksJ20_siftDownUsingComparator_0 16 rfl rfl)
theorem dJ20_siftDownUsingComparator_18 : decode cJ20_siftDownUsingComparator 18 = .ok (.aload_n 2, 1) := dk_44 (dk_at dksJ20_siftDownUsingComparator_0 18 rfl rfl)
theorem dJ20_siftDownUsingComparator_19 : decode cJ20_siftDownUsingComparator 19 = .ok (.iload 6, 2) := dk_21 6 (dk_at dksJ20_siftDownUsingComparator_0 19 rfl rfl)
theorem dJ20_siftDownUsingComparator_21 : decode cJ20_siftDownUsingComparator 21 = .ok (.aaload, 1) := dk_50 (dk_at dksJ20_siftDownUsingComparator_0 21 rfl rfl)
theorem dJ20_siftDownUsingComparator_22 : decode cJ20_siftDownUsingComparator 22 = .ok (.astore 7, 2) := dk_58 7 (dk_at dksJ20_siftDownUsingComparator_0 22 rfl rfl)
theorem dJ20_siftDownUsingComparator_24 : decode cJ20_siftDownUsingComparator 24 = .ok (.iload 6, 2) := dk_21 6 (dk_at dksJ20_siftDownUsingComparator_1 0 rfl rfl)
theorem dJ20_siftDownUsingComparator_26 : decode cJ20_siftDownUsingComparator 26 = .ok (.iconst 1, 1) := dk_4 (dk_at dksJ20_siftDownUsingComparator_1 2 rfl rfl)
theorem dJ20_siftDownUsingComparator_27 : decode cJ20_siftDownUsingComparator 27 = .ok (.iadd, 1) := dk_96 (dk_at dksJ20_siftDownUsingComparator_1 3 rfl rfl)
theorem dJ20_siftDownUsingComparator_28 : decode cJ20_siftDownUsingComparator 28 = .ok (.istore 8, 2) := dk_54 8 (dk_at dksJ20_siftDownUsingComparator_1 4 rfl rfl)
theorem dJ20_siftDownUsingComparator_30 : decode cJ20_siftDownUsingComparator 30 = .ok (.iload 8, 2) := dk_21 8 (dk_at dksJ20_siftDownUsingComparator_1 6 rfl rfl)
theorem dJ20_siftDownUsingComparator_32 : decode cJ20_siftDownUsingComparator 32 = .ok (.iload_n 3, 1) := dk_29 (dk_at dksJ20_siftDownUsingComparator_1 8 rfl rfl)
theorem dJ20_siftDownUsingComparator_33 : decode cJ20_siftDownUsingComparator 33 = .ok (.if_icmp .ge 28, 3) := dk_162 0 28 (dk_at dksJ20_siftDownUsingComparator_1 9 rfl rfl)
theorem dJ20_siftDownUsingComparator_36 : decode cJ20_siftDownUsingComparator 36 = .ok (.aload 4, 2) := dk_25 4 (dk_at dksJ20_siftDownUsingComparator_1 12 rfl rfl)
theorem dJ20_siftDownUsingComparator_38 : decode cJ20_siftDownUsingComparator 38 = .ok (.aload 7, 2) := dk_25 7 (dk_at dksJ20_siftDownUsingComparator_1 14 rfl rfl)
theorem dJ20_siftDownUsingComparator_40 : decode cJ20_siftDownUsingComparator 40 = .ok (.aload_n 2, 1) := dk_44 (dk_at dksJ20_siftDownUsingComparator_1 16 rfl rfl)
theorem dJ20_siftDownUsingComparator_41 : decode cJ20_siftDownUsingComparator 41 = .ok (.iload 8, 2) := dk_21 8 (dk_at dksJ20_siftDownUsingComparator_1 17 rfl rfl)
theorem dJ20_siftDownUsingComparator_43 : decode cJ20_siftDownUsingComparator 43 = .ok (.aaload, 1) := dk_50 (dk_at dksJ20_siftDownUsingComparator_1 19 rfl rfl)
theorem dJ20_siftDownUsingComparator_44 : decode cJ20_siftDownUsingComparator 44 = .ok (.invokeinterface 149 3, 5) := by decide +kernel
theorem dJ20_siftDownUsingComparator_49 : decode cJ20_siftDownUsingComparator 49 = .ok (.ifCond .le 12, 3) := dk_158 0 12 (dk_at dksJ20_siftDownUsingComparator_2 5 rfl rfl)
theorem dJ20_siftDownUsingComparator_52 : decode cJ20_siftDownUsingComparator 52 = .ok (.aload_n 2, 1) := dk_44 (dk_at dksJ20_siftDownUsingComparator_2 8 rfl rfl)
theorem dJ20_siftDownUsingComparator_53 : decode cJ20_siftDownUsingComparator 53 = .ok (.iload 8, 2) := dk_21 8 (dk_at dksJ20_siftDownUsingComparator_2 9 rfl rfl)
theorem dJ20_siftDownUsingComparator_55 : decode cJ20_siftDownUsingComparator 55 = .ok (.dup, 1) := dk_89 (dk_at dksJ20_siftDownUsingComparator_2 11 rfl rfl)
theorem dJ20_siftDownUsingComparator_56 : decode cJ20_siftDownUsingComparator 56 = .ok (.istore 6, 2) := dk_54 6 (dk_at dksJ20_siftDownUsingComparator_2 12 rfl rfl)
theorem dJ20_siftDownUsingComparator_58 : decode cJ20_siftDownUsingComparator 58 = .ok (.aaload, 1) := dk_50 (dk_at dksJ20_siftDownUsingComparator_2 14 rfl rfl)
theorem dJ20_siftDownUsingComparator_59 : decode cJ20_siftDownUsingComparator 59 = .ok (.astore 7, 2) := dk_58 7 (dk_at dksJ20_siftDownUsingComparator_2 15 rfl rfl)
theorem dJ20_siftDownUsingComparator_61 : decode cJ20_siftDownUsingComparator 61 = .ok (.aload 4, 2) := dk_25 4 (dk_at dksJ20_siftDownUsingComparator_2 17 rfl rfl)
theorem dJ20_siftDownUsingComparator_63 : decode cJ20_siftDownUsingComparator 63 = .ok (.aload_n 1, 1) := dk_43 (dk_at dksJ20_siftDownUsingComparator_2 19 rfl rfl)
theorem dJ20_siftDownUsingComparator_64 : decode cJ20_siftDownUsingComparator 64 = .ok (.aload 7, 2) := dk_25 7 (dk_at dksJ20_siftDownUsingComparator_2 20 rfl rfl)
theorem dJ20_siftDownUsingComparator_66 : decode cJ20_siftDownUsingComparator 66 = .ok (.invokeinterface 149 3, 5) := by decide +kernel
theorem dJ20_siftDownUsingComparator_71 : decode cJ20_siftDownUsingComparator 71 = .ok (.ifCond .gt 6, 3) := dk_157 0 6 (dk_at dksJ20_siftDownUsingComparator_3 5 rfl rfl)
theorem dJ20_siftDownUsingComparator_74 : decode cJ20_siftDownUsingComparator 74 = .ok (.goto 14, 3) := dk_167 0 14 (dk_at dksJ20_siftDownUsingComparator_3 8 rfl rfl)
theorem dJ20_siftDownUsingComparator_77 : decode cJ20_siftDownUsingComparator 77 = .ok (.aload_n 2, 1) := dk_44 (dk_at dksJ20_siftDownUsingComparator_3 11 rfl rfl)
theorem dJ20_siftDownUsingComparator_78 : decode cJ20_siftDownUsingComparator 78 = .ok (.iload_n 0, 1) := dk_26 (dk_at dksJ20_siftDownUsingComparator_3 12 rfl rfl)
theorem dJ20_siftDownUsingComparator_79 : decode cJ20_siftDownUsingComparator 79 = .ok (.aload 7, 2) := dk_25 7 (dk_at dksJ20_siftDownUsingComparator_3 13 rfl rfl)
theorem dJ20_siftDownUsingComparator_81 : decode cJ20_siftDownUsingComparator 81 = .ok (.aastore, 1) := dk_83 (dk_at dksJ20_siftDownUsingComparator_3 15 rfl rfl)
theorem dJ20_siftDownUsingComparator_82 : decode cJ20_siftDownUsingComparator 82 = .ok (.iload 6, 2) := dk_21 6 (dk_at dksJ20_siftDownUsingComparator_3 16 rfl rfl)
theorem dJ20_siftDownUsingComparator_84 : decode cJ20_siftDownUsingComparator 84 = .ok (.istore_n 0, 1) := dk_59 (dk_at dksJ20_siftDownUsingComparator_3 18 rfl rfl)
theorem dJ20_siftDownUsingComparator_85 : decode cJ20_siftDownUsingComparator 85 = .ok (.goto (-80), 3) := dk_167 255 176 (dk_at dksJ20_siftDownUsingComparator_3 19 rfl rfl)
theorem dJ20_siftDownUsingComparator_88 : decode cJ20_siftDownUsingComparator 88 = .ok (.aload_n 2, 1) := dk_44 (dk_at dksJ20_siftDownUsingComparator_3 22 rfl rfl)
theorem dJ20_siftDownUsingComparator_89 : decode cJ20_siftDownUsingComparator 89 = .ok (.iload_n 0, 1) := dk_26 (dk_at dksJ20_siftDownUsingComparator_3 23 rfl rfl)
theorem dJ20_siftDownUsingComparator_90 : decode cJ20_siftDownUsingComparator 90 = .ok (.aload_n 1, 1) := dk_43 (dk_at dksJ20_siftDownUsingComparator_4 0 rfl rfl)
theorem dJ20_siftDownUsingComparator_91 : decode cJ20_siftDownUsingComparator 91 = .ok (.aastore, 1) := dk_83 (dk_at dksJ20_siftDownUsingComparator_4 1 rfl rfl)
theorem dJ20_siftDownUsingComparator_92 : decode cJ20_siftDownUsingComparator 92 = .ok (.return_, 1) := dk_177 (dk_at dksJ20_siftDownUsingComparator_4 2 rfl rfl)
theorem q162 : (Jvm.Cond.initialized "java/util/PriorityQueue") ∈ lw_all := lw_g (lw_at lw_m1 38 rfl) rfl
theorem q1117 : (Jvm.Cond.selects "java/util/PriorityQueue" ({ cls := "java/lang/Object", name := "getClass", desc := "()Ljava/lang/Class;" } : Jvm.MethodName) ({ cls := "java/lang/Object", name := "getClass", desc := "()Ljava/lang/Class;" } : Jvm.MethodName)) ∈ lw_all := lw_g (lw_at lw_m5 33 rfl) rfl
theorem q1424 : (Jvm.Cond.instantiable "java/util/PriorityQueue" (4 : Nat)) ∈ lw_all := lw_g (lw_at lw_m6 100 rfl) rfl
theorem q1450 : (Jvm.Cond.instanceMethod ({ cls := "java/util/PriorityQueue", name := "<init>", desc := "(Ljava/util/Comparator;)V" } : Jvm.MethodName)) ∈ lw_all := lw_g (lw_at lw_m6 126 rfl) rfl
theorem q1451 : (Jvm.Cond.code ({ cls := "java/util/PriorityQueue", name := "<init>", desc := "(Ljava/util/Comparator;)V" } : Jvm.MethodName) prog_69_method_3_code (2 : Nat) (Option.none : Option Jvm.ClassFile.FieldType)) ∈ lw_all := lw_g (lw_at lw_m6 127 rfl) rfl
theorem q1452 : (Jvm.Cond.methodLink "java/util/PriorityQueue" (3 : Nat) ({ cls := "java/util/PriorityQueue", name := "<init>", desc := "(ILjava/util/Comparator;)V" } : Jvm.MethodName)) ∈ lw_all := lw_g (lw_at lw_m6 128 rfl) rfl
theorem q1453 : (Jvm.Cond.instanceMethod ({ cls := "java/util/PriorityQueue", name := "<init>", desc := "(ILjava/util/Comparator;)V" } : Jvm.MethodName)) ∈ lw_all := lw_g (lw_at lw_m6 129 rfl) rfl
theorem q1454 : (Jvm.Cond.code ({ cls := "java/util/PriorityQueue", name := "<init>", desc := "(ILjava/util/Comparator;)V" } : Jvm.MethodName) prog_69_method_4_code (3 : Nat) (Option.none : Option Jvm.ClassFile.FieldType)) ∈ lw_all := lw_g (lw_at lw_m6 130 rfl) rfl
theorem q1455 : (Jvm.Cond.methodLink "java/util/PriorityQueue" (7 : Nat) ({ cls := "java/util/AbstractQueue", name := "<init>", desc := "()V" } : Jvm.MethodName)) ∈ lw_all := lw_g (lw_at lw_m6 131 rfl) rfl
theorem q1459 : (Jvm.Cond.classLink "java/util/PriorityQueue" (15 : Nat) "java/lang/Object") ∈ lw_all := lw_g (lw_at lw_m6 135 rfl) rfl
theorem q1460 : (Jvm.Cond.fieldLink "java/util/PriorityQueue" (17 : Nat) "java/util/PriorityQueue" "queue" "[Ljava/lang/Object;") ∈ lw_all := lw_g (lw_at lw_m6 136 rfl) rfl
theorem q1461 : (Jvm.Cond.fieldLink "java/util/PriorityQueue" (58 : Nat) "java/util/PriorityQueue" "size" "I") ∈ lw_all := lw_g (lw_at lw_m6 137 rfl) rfl
theorem q1462 : (Jvm.Cond.fieldLink "java/util/PriorityQueue" (21 : Nat) "java/util/PriorityQueue" "comparator" "Ljava/util/Comparator;") ∈ lw_all := lw_g (lw_at lw_m6 138 rfl) rfl
theorem q1463 : (Jvm.Cond.fieldLink "java/util/PriorityQueue" (93 : Nat) "java/util/PriorityQueue" "modCount" "I") ∈ lw_all := lw_g (lw_at lw_m6 139 rfl) rfl
theorem q1464 : (Jvm.Cond.lays "java/util/PriorityQueue" "java/util/PriorityQueue" "queue" "[Ljava/lang/Object;") ∈ lw_all := lw_g (lw_at lw_m6 140 rfl) rfl
theorem q1465 : (Jvm.Cond.soleField "java/util/PriorityQueue" "queue") ∈ lw_all := lw_g (lw_at lw_m6 141 rfl) rfl
theorem q1466 : (Jvm.Cond.lays "java/util/PriorityQueue" "java/util/PriorityQueue" "size" "I") ∈ lw_all := lw_g (lw_at lw_m6 142 rfl) rfl
theorem q1467 : (Jvm.Cond.soleField "java/util/PriorityQueue" "size") ∈ lw_all := lw_g (lw_at lw_m6 143 rfl) rfl
theorem q1468 : (Jvm.Cond.laysFinal "java/util/PriorityQueue" "java/util/PriorityQueue" "comparator" "Ljava/util/Comparator;") ∈ lw_all := lw_g (lw_at lw_m6 144 rfl) rfl
theorem q1469 : (Jvm.Cond.soleField "java/util/PriorityQueue" "comparator") ∈ lw_all := lw_g (lw_at lw_m6 145 rfl) rfl
theorem q1470 : (Jvm.Cond.lays "java/util/PriorityQueue" "java/util/PriorityQueue" "modCount" "I") ∈ lw_all := lw_g (lw_at lw_m6 146 rfl) rfl
theorem q1471 : (Jvm.Cond.soleField "java/util/PriorityQueue" "modCount") ∈ lw_all := lw_g (lw_at lw_m6 147 rfl) rfl
theorem q1472 : (Jvm.Cond.superclass "java/util/PriorityQueue" "java/util/AbstractQueue") ∈ lw_all := lw_g (lw_at lw_m6 148 rfl) rfl
theorem q1499 : (Jvm.Cond.instanceMethod ({ cls := "java/util/PriorityQueue", name := "add", desc := "(Ljava/lang/Object;)Z" } : Jvm.MethodName)) ∈ lw_all := lw_g (lw_at lw_m6 175 rfl) rfl
theorem q1500 : (Jvm.Cond.selects "java/util/PriorityQueue" ({ cls := "java/util/PriorityQueue", name := "add", desc := "(Ljava/lang/Object;)Z" } : Jvm.MethodName) ({ cls := "java/util/PriorityQueue", name := "add", desc := "(Ljava/lang/Object;)Z" } : Jvm.MethodName)) ∈ lw_all := lw_g (lw_at lw_m6 176 rfl) rfl
theorem q1501 : (Jvm.Cond.code ({ cls := "java/util/PriorityQueue", name := "add", desc := "(Ljava/lang/Object;)Z" } : Jvm.MethodName) prog_69_method_13_code (2 : Nat) (Option.some Jvm.ClassFile.FieldType.boolean)) ∈ lw_all := lw_g (lw_at lw_m6 177 rfl) rfl
theorem q1502 : (Jvm.Cond.methodLink "java/util/PriorityQueue" (89 : Nat) ({ cls := "java/util/PriorityQueue", name := "offer", desc := "(Ljava/lang/Object;)Z" } : Jvm.MethodName)) ∈ lw_all := lw_g (lw_at lw_m6 178 rfl) rfl
theorem q1503 : (Jvm.Cond.instanceMethod ({ cls := "java/util/PriorityQueue", name := "offer", desc := "(Ljava/lang/Object;)Z" } : Jvm.MethodName)) ∈ lw_all := lw_g (lw_at lw_m6 179 rfl) rfl
theorem q1504 : (Jvm.Cond.selects "java/util/PriorityQueue" ({ cls := "java/util/PriorityQueue", name := "offer", desc := "(Ljava/lang/Object;)Z" } : Jvm.MethodName) ({ cls := "java/util/PriorityQueue", name := "offer", desc := "(Ljava/lang/Object;)Z" } : Jvm.MethodName)) ∈ lw_all := lw_g (lw_at lw_m6 180 rfl) rfl
theorem q1505 : (Jvm.Cond.code ({ cls := "java/util/PriorityQueue", name := "offer", desc := "(Ljava/lang/Object;)Z" } : Jvm.MethodName) prog_69_method_14_code (3 : Nat) (Option.some Jvm.ClassFile.FieldType.boolean)) ∈ lw_all := lw_g (lw_at lw_m6 181 rfl) rfl
theorem q1506 : (Jvm.Cond.methodLink "java/util/PriorityQueue" (96 : Nat) ({ cls := "java/util/PriorityQueue", name := "grow", desc := "(I)V" } : Jvm.MethodName)) ∈ lw_all := lw_g (lw_at lw_m6 182 rfl) rfl
theorem q1507 : (Jvm.Cond.privateMethod ({ cls := "java/util/PriorityQueue", name := "grow", desc := "(I)V" } : Jvm.MethodName)) ∈ lw_tbl := lw_at lw_m6 183 rfl
theorem q1508 : (Jvm.Cond.instanceMethod ({ cls := "java/util/PriorityQueue", name := "grow", desc := "(I)V" } : Jvm.MethodName)) ∈ lw_all := lw_g (lw_at lw_m6 184 rfl) rfl
theorem q1509 : (Jvm.Cond.code ({ cls := "java/util/PriorityQueue", name := "grow", desc := "(I)V" } : Jvm.MethodName) prog_69_method_12_code (4 : Nat) (Option.none : Option Jvm.ClassFile.FieldType)) ∈ lw_all := lw_g (lw_at lw_m6 185 rfl) rfl
theorem q1510 : (Jvm.Cond.methodLink "java/util/PriorityQueue" (80 : Nat) ({ cls := "jdk/internal/util/ArraysSupport", name := "newLength", desc := "(III)I" } : Jvm.MethodName)) ∈ lw_all := lw_g (lw_at lw_m6 186 rfl) rfl
theorem q1520 : (Jvm.Cond.methodLink "java/util/PriorityQueue" (86 : Nat) ({ cls := "java/util/Arrays", name := "copyOf", desc := "([Ljava/lang/Object;I)[Ljava/lang/Object;" } : Jvm.MethodName)) ∈ lw_all := lw_g (lw_at lw_m6 196 rfl) rfl
theorem q1521 : (Jvm.Cond.methodLink "java/util/PriorityQueue" (100 : Nat) ({ cls := "java/util/PriorityQueue", name := "siftUp", desc := "(ILjava/lang/Object;)V" } : Jvm.MethodName)) ∈ lw_all := lw_g (lw_at lw_m6 197 rfl) rfl
theorem q1522 : (Jvm.Cond.privateMethod ({ cls := "java/util/PriorityQueue", name := "siftUp", desc := "(ILjava/lang/Object;)V" } : Jvm.MethodName)) ∈ lw_tbl := lw_at lw_m6 198 rfl
theorem q1523 : (Jvm.Cond.instanceMethod ({ cls := "java/util/PriorityQueue", name := "siftUp", desc := "(ILjava/lang/Object;)V" } : Jvm.MethodName)) ∈ lw_all := lw_g (lw_at lw_m6 199 rfl) rfl
theorem q1524 : (Jvm.Cond.code ({ cls := "java/util/PriorityQueue", name := "siftUp", desc := "(ILjava/lang/Object;)V" } : Jvm.MethodName) prog_69_method_27_code (3 : Nat) (Option.none : Option Jvm.ClassFile.FieldType)) ∈ lw_all := lw_g (lw_at lw_m6 200 rfl) rfl
theorem q1525 : (Jvm.Cond.methodLink "java/util/PriorityQueue" (136 : Nat) ({ cls := "java/util/PriorityQueue", name := "siftUpUsingComparator", desc := "(ILjava/lang/Object;[Ljava/lang/Object;Ljava/util/Comparator;)V" } : Jvm.MethodName)) ∈ lw_all := lw_g (lw_at lw_m6 201 rfl) rfl
theorem q1526 : (Jvm.Cond.static ({ cls := "java/util/PriorityQueue", name := "siftUpUsingComparator", desc := "(ILjava/lang/Object;[Ljava/lang/Object;Ljava/util/Comparator;)V" } : Jvm.MethodName)) ∈ lw_all := lw_g (lw_at lw_m6 202 rfl) rfl
theorem q1527 : (Jvm.Cond.code ({ cls := "java/util/PriorityQueue", name := "siftUpUsingComparator", desc := "(ILjava/lang/Object;[Ljava/lang/Object;Ljava/util/Comparator;)V" } : Jvm.MethodName) prog_69_method_29_code (6 : Nat) (Option.none : Option Jvm.ClassFile.FieldType)) ∈ lw_all := lw_g (lw_at lw_m6 203 rfl) rfl
theorem q1528 : (Jvm.Cond.interfaceEntry "java/util/PriorityQueue" (149 : Nat)) ∈ lw_tbl := lw_at lw_m6 204 rfl
theorem q1529 : (Jvm.Cond.methodLink "java/util/PriorityQueue" (149 : Nat) ({ cls := "java/util/Comparator", name := "compare", desc := "(Ljava/lang/Object;Ljava/lang/Object;)I" } : Jvm.MethodName)) ∈ lw_all := lw_g (lw_at lw_m6 205 rfl) rfl
theorem q1530 : (Jvm.Cond.methodLink "java/util/PriorityQueue" (140 : Nat) ({ cls := "java/util/PriorityQueue", name := "siftUpComparable", desc := "(ILjava/lang/Object;[Ljava/lang/Object;)V" } : Jvm.MethodName)) ∈ lw_all := lw_g (lw_at lw_m6 206 rfl) rfl
theorem q1531 : (Jvm.Cond.static ({ cls := "java/util/PriorityQueue", name := "siftUpComparable", desc := "(ILjava/lang/Object;[Ljava/lang/Object;)V" } : Jvm.MethodName)) ∈ lw_all := lw_g (lw_at lw_m6 207 rfl) rfl
theorem q1532 : (Jvm.Cond.code ({ cls := "java/util/PriorityQueue", name := "siftUpComparable", desc := "(ILjava/lang/Object;[Ljava/lang/Object;)V" } : Jvm.MethodName) prog_69_method_28_code (6 : Nat) (Option.none : Option Jvm.ClassFile.FieldType)) ∈ lw_all := lw_g (lw_at lw_m6 208 rfl) rfl
theorem q1533 : (Jvm.Cond.classLink "java/util/PriorityQueue" (144 : Nat) "java/lang/Comparable") ∈ lw_all := lw_g (lw_at lw_m6 209 rfl) rfl
theorem q1534 : (Jvm.Cond.interfaceEntry "java/util/PriorityQueue" (146 : Nat)) ∈ lw_tbl := lw_at lw_m6 210 rfl
theorem q1535 : (Jvm.Cond.methodLink "java/util/PriorityQueue" (146 : Nat) ({ cls := "java/lang/Comparable", name := "compareTo", desc := "(Ljava/lang/Object;)I" } : Jvm.MethodName)) ∈ lw_all := lw_g (lw_at lw_m6 211 rfl) rfl
theorem q1537 : (Jvm.Cond.sameMethod "java/util/PriorityQueue" "java/util/AbstractCollection" "isEmpty" "()Z") ∈ lw_all := lw_g (lw_at lw_m6 213 rfl) rfl
theorem q1539 : (Jvm.Cond.selects "java/util/PriorityQueue" ({ cls := "java/util/PriorityQueue", name := "isEmpty", desc := "()Z" } : Jvm.MethodName) ({ cls := "java/util/AbstractCollection", name := "isEmpty", desc := "()Z" } : Jvm.MethodName)) ∈ lw_all := lw_g (lw_at lw_m6 215 rfl) rfl
theorem q1549 : (Jvm.Cond.selects "java/util/PriorityQueue" ({ cls := "java/util/AbstractCollection", name := "size", desc := "()I" } : Jvm.MethodName) ({ cls := "java/util/PriorityQueue", name := "size", desc := "()I" } : Jvm.MethodName)) ∈ lw_all := lw_g (lw_at lw_m6 225 rfl) rfl
theorem q1550 : (Jvm.Cond.instanceMethod ({ cls := "java/util/PriorityQueue", name := "size", desc := "()I" } : Jvm.MethodName)) ∈ lw_all := lw_g (lw_at lw_m6 226 rfl) rfl
theorem q1551 : (Jvm.Cond.code ({ cls := "java/util/PriorityQueue", name := "size", desc := "()I" } : Jvm.MethodName) prog_69_method_23_code (1 : Nat) (Option.some Jvm.ClassFile.FieldType.int)) ∈ lw_all := lw_g (lw_at lw_m6 227 rfl) rfl
theorem q1557 : (Jvm.Cond.instanceMethod ({ cls := "java/util/PriorityQueue", name := "poll", desc := "()Ljava/lang/Object;" } : Jvm.MethodName)) ∈ lw_all := lw_g (lw_at lw_m6 233 rfl) rfl
theorem q1558 : (Jvm.Cond.selects "java/util/PriorityQueue" ({ cls := "java/util/PriorityQueue", name := "poll", desc := "()Ljava/lang/Object;" } : Jvm.MethodName) ({ cls := "java/util/PriorityQueue", name := "poll", desc := "()Ljava/lang/Object;" } : Jvm.MethodName)) ∈ lw_all := lw_g (lw_at lw_m6 234 rfl) rfl
theorem q1559 : (Jvm.Cond.code ({ cls := "java/util/PriorityQueue", name := "poll", desc := "()Ljava/lang/Object;" } : Jvm.MethodName) prog_69_method_25_code (6 : Nat) (Option.some (Jvm.ClassFile.FieldType.object "java/lang/Object"))) ∈ lw_all := lw_g (lw_at lw_m6 235 rfl) rfl
theorem q1560 : (Jvm.Cond.methodLink "java/util/PriorityQueue" (125 : Nat) ({ cls := "java/util/PriorityQueue", name := "siftDownComparable", desc := "(ILjava/lang/Object;[Ljava/lang/Object;I)V" } : Jvm.MethodName)) ∈ lw_all := lw_g (lw_at lw_m6 236 rfl) rfl
theorem q1561 : (Jvm.Cond.static ({ cls := "java/util/PriorityQueue", name := "siftDownComparable", desc := "(ILjava/lang/Object;[Ljava/lang/Object;I)V" } : Jvm.MethodName)) ∈ lw_all := lw_g (lw_at lw_m6 237 rfl) rfl
theorem q1562 : (Jvm.Cond.code ({ cls := "java/util/PriorityQueue", name := "siftDownComparable", desc := "(ILjava/lang/Object;[Ljava/lang/Object;I)V" } : Jvm.MethodName) prog_69_method_31_code (9 : Nat) (Option.none : Option Jvm.ClassFile.FieldType)) ∈ lw_all := lw_g (lw_at lw_m6 238 rfl) rfl
theorem q1563 : (Jvm.Cond.methodLink "java/util/PriorityQueue" (129 : Nat) ({ cls := "java/util/PriorityQueue", name := "siftDownUsingComparator", desc := "(ILjava/lang/Object;[Ljava/lang/Object;ILjava/util/Comparator;)V" } : Jvm.MethodName)) ∈ lw_all := lw_g (lw_at lw_m6 239 rfl) rfl
theorem q1564 : (Jvm.Cond.static ({ cls := "java/util/PriorityQueue", name := "siftDownUsingComparator", desc := "(ILjava/lang/Object;[Ljava/lang/Object;ILjava/util/Comparator;)V" } : Jvm.MethodName)) ∈ lw_all := lw_g (lw_at lw_m7 0 rfl) rfl
theorem q1565 : (Jvm.Cond.code ({ cls := "java/util/PriorityQueue", name := "siftDownUsingComparator", desc := "(ILjava/lang/Object;[Ljava/lang/Object;ILjava/util/Comparator;)V" } : Jvm.MethodName) prog_69_method_32_code (9 : Nat) (Option.none : Option Jvm.ClassFile.FieldType)) ∈ lw_all := lw_g (lw_at lw_m7 1 rfl) rfl
theorem q3209 : (Jvm.Cond.castable "java/util/PriorityQueue" "java/lang/Object") ∈ lw_tbl := lw_at lw_m13 205 rfl
theorem in_J20 : ∀ w ∈ wsJ200, w ∈ lw_all := lw_in wsJ200 [1464, 1466, 1468, 1470] (by decide +kernel) (by decide +kernel)
/-! java/lang/Throwable -/
set_option maxRecDepth 100000
def RJ21 : String := "java/lang/Throwable"
def TJ21 : u_T := fun k => match k with
  | 0 => ("java/lang/Throwable", "cause", "Ljava/lang/Throwable;", false)
  | 1 => ("java/lang/Throwable", "stackTrace", "[Ljava/lang/StackTraceElement;", false)
  | 2 => ("java/lang/Throwable", "suppressedExceptions", "Ljava/util/List;", false)
  | 3 => ("java/lang/Throwable", "detailMessage", "Ljava/lang/String;", false)
  | _ => ("java/lang/Throwable", "backtrace", "Ljava/lang/Object;", false)
def tyJ21 : Nat → FieldType := fun k => match k with
  | 0 => .object "java/lang/Throwable"
  | 1 => .array (.object "java/lang/StackTraceElement")
  | 2 => .object "java/util/List"
  | 3 => .object "java/lang/String"
  | _ => .object "java/lang/Object"
abbrev wsJ210 : List Cond := u_ws RJ21 TJ21 5
theorem nmJ21 : ∀ a, a < 5 → ∀ b, b < 5 → a ≠ b → (TJ21 a).2.1 ≠ (TJ21 b).2.1 := by decide +kernel
theorem tyJ21_ok : ∀ k, k < 5 → parseFieldDescriptor (TJ21 k).2.2.1 = some (tyJ21 k) := by decide +kernel
abbrev cJ21_init : ByteArray := prog_48_method_1_code
def yJ21_init : MethodName := ⟨RJ21, "<init>", "()V"⟩
def dkwJ21_init_1 : List UInt8 := [182, 0, 27, 87, 177]
abbrev dktJ21_init_1 : List UInt8 := dkwJ21_init_1 ++ []
def dkwJ21_init_0 : List UInt8 := [42, 183, 0, 1, 42, 42, 181, 0, 7, 42, 178, 0, 13, 181, 0, 17, 42, 178, 0, 20, 181, 0, 24, 42]
abbrev dktJ21_init_0 : List UInt8 := dkwJ21_init_0 ++ dktJ21_init_1
theorem dksJ21_init_0 : cJ21_init.data.toList.drop 0 = dktJ21_init_0 := by decide +kernel
theorem dksJ21_init_1 : cJ21_init.data.toList.drop 24 = dktJ21_init_1 := dk_seg dksJ21_init_0 24 rfl rfl
theorem dJ21_init_0 : decode cJ21_init 0 = .ok (.aload_n 0, 1) := dk_42 (dk_at dksJ21_init_0 0 rfl rfl)
theorem dJ21_init_1 : decode cJ21_init 1 = .ok (.invokespecial 1, 3) := dk_183 0 1 (dk_at dksJ21_init_0 1 rfl rfl)
theorem dJ21_init_4 : decode cJ21_init 4 = .ok (.aload_n 0, 1) := dk_42 (dk_at dksJ21_init_0 4 rfl rfl)
theorem dJ21_init_5 : decode cJ21_init 5 = .ok (.aload_n 0, 1) := dk_42 (dk_at dksJ21_init_0 5 rfl rfl)
theorem dJ21_init_6 : decode cJ21_init 6 = .ok (.putfield 7, 3) := dk_181 0 7 (dk_at dksJ21_init_0 6 rfl rfl)
theorem dJ21_init_9 : decode cJ21_init 9 = .ok (.aload_n 0, 1) := dk_42 (dk_at dksJ21_init_0 9 rfl rfl)
theorem dJ21_init_10 : decode cJ21_init 10 = .ok (.getstatic 13, 3) := dk_178 0 13 (dk_at dksJ21_init_0 10 rfl rfl)
theorem dJ21_init_13 : decode cJ21_init 13 = .ok (.putfield 17, 3) := dk_181 0 17 (dk_at dksJ21_init_0 13 rfl rfl)
theorem dJ21_init_16 : decode cJ21_init 16 = .ok (.aload_n 0, 1) := dk_42 (dk_at dksJ21_init_0 16 rfl rfl)
theorem dJ21_init_17 : decode cJ21_init 17 = .ok (.getstatic 20, 3) := dk_178 0 20 (dk_at dksJ21_init_0 17 rfl rfl)
theorem dJ21_init_20 : decode cJ21_init 20 = .ok (.putfield 24, 3) := dk_181 0 24 (dk_at dksJ21_init_0 20 rfl rfl)
theorem dJ21_init_23 : decode cJ21_init 23 = .ok (.aload_n 0, 1) := dk_42 (dk_at dksJ21_init_0 23 rfl rfl)
theorem dJ21_init_24 : decode cJ21_init 24 = .ok (.invokevirtual 27, 3) := dk_182 0 27 (dk_at dksJ21_init_1 0 rfl rfl)
theorem dJ21_init_27 : decode cJ21_init 27 = .ok (.pop, 1) := dk_87 (dk_at dksJ21_init_1 3 rfl rfl)
theorem dJ21_init_28 : decode cJ21_init 28 = .ok (.return_, 1) := dk_177 (dk_at dksJ21_init_1 4 rfl rfl)
abbrev cJ21_init_2 : ByteArray := prog_48_method_2_code
def yJ21_init_2 : MethodName := ⟨RJ21, "<init>", "(Ljava/lang/String;)V"⟩
def dkwJ21_init_2_1 : List UInt8 := [182, 0, 27, 87, 42, 43, 181, 0, 31, 177]
abbrev dktJ21_init_2_1 : List UInt8 := dkwJ21_init_2_1 ++ []
def dkwJ21_init_2_0 : List UInt8 := [42, 183, 0, 1, 42, 42, 181, 0, 7, 42, 178, 0, 13, 181, 0, 17, 42, 178, 0, 20, 181, 0, 24, 42]
abbrev dktJ21_init_2_0 : List UInt8 := dkwJ21_init_2_0 ++ dktJ21_init_2_1
theorem dksJ21_init_2_0 : cJ21_init_2.data.toList.drop 0 = dktJ21_init_2_0 := by decide +kernel
theorem dksJ21_init_2_1 : cJ21_init_2.data.toList.drop 24 = dktJ21_init_2_1 := dk_seg dksJ21_init_2_0 24 rfl rfl
theorem dJ21_init_2_0 : decode cJ21_init_2 0 = .ok (.aload_n 0, 1) := dk_42 (dk_at dksJ21_init_2_0 0 rfl rfl)
theorem dJ21_init_2_1 : decode cJ21_init_2 1 = .ok (.invokespecial 1, 3) := dk_183 0 1 (dk_at dksJ21_init_2_0 1 rfl rfl)
theorem dJ21_init_2_4 : decode cJ21_init_2 4 = .ok (.aload_n 0, 1) := dk_42 (dk_at dksJ21_init_2_0 4 rfl rfl)
theorem dJ21_init_2_5 : decode cJ21_init_2 5 = .ok (.aload_n 0, 1) := dk_42 (dk_at dksJ21_init_2_0 5 rfl rfl)
theorem dJ21_init_2_6 : decode cJ21_init_2 6 = .ok (.putfield 7, 3) := dk_181 0 7 (dk_at dksJ21_init_2_0 6 rfl rfl)
theorem dJ21_init_2_9 : decode cJ21_init_2 9 = .ok (.aload_n 0, 1) := dk_42 (dk_at dksJ21_init_2_0 9 rfl rfl)
theorem dJ21_init_2_10 : decode cJ21_init_2 10 = .ok (.getstatic 13, 3) := dk_178 0 13 (dk_at dksJ21_init_2_0 10 rfl rfl)
theorem dJ21_init_2_13 : decode cJ21_init_2 13 = .ok (.putfield 17, 3) := dk_181 0 17 (dk_at dksJ21_init_2_0 13 rfl rfl)
theorem dJ21_init_2_16 : decode cJ21_init_2 16 = .ok (.aload_n 0, 1) := dk_42 (dk_at dksJ21_init_2_0 16 rfl rfl)
theorem dJ21_init_2_17 : decode cJ21_init_2 17 = .ok (.getstatic 20, 3) := dk_178 0 20 (dk_at dksJ21_init_2_0 17 rfl rfl)
theorem dJ21_init_2_20 : decode cJ21_init_2 20 = .ok (.putfield 24, 3) := dk_181 0 24 (dk_at dksJ21_init_2_0 20 rfl rfl)
theorem dJ21_init_2_23 : decode cJ21_init_2 23 = .ok (.aload_n 0, 1) := dk_42 (dk_at dksJ21_init_2_0 23 rfl rfl)
theorem dJ21_init_2_24 : decode cJ21_init_2 24 = .ok (.invokevirtual 27, 3) := dk_182 0 27 (dk_at dksJ21_init_2_1 0 rfl rfl)
theorem dJ21_init_2_27 : decode cJ21_init_2 27 = .ok (.pop, 1) := dk_87 (dk_at dksJ21_init_2_1 3 rfl rfl)
theorem dJ21_init_2_28 : decode cJ21_init_2 28 = .ok (.aload_n 0, 1) := dk_42 (dk_at dksJ21_init_2_1 4 rfl rfl)
theorem dJ21_init_2_29 : decode cJ21_init_2 29 = .ok (.aload_n 1, 1) := dk_43 (dk_at dksJ21_init_2_1 5 rfl rfl)
theorem dJ21_init_2_30 : decode cJ21_init_2 30 = .ok (.putfield 31, 3) := dk_181 0 31 (dk_at dksJ21_init_2_1 6 rfl rfl)
theorem dJ21_init_2_33 : decode cJ21_init_2 33 = .ok (.return_, 1) := dk_177 (dk_at dksJ21_init_2_1 9 rfl rfl)
theorem q170 : (Jvm.Cond.initialized "java/lang/Throwable") ∈ lw_all := lw_g (lw_at lw_m1 46 rfl) rfl
theorem q1966 : (Jvm.Cond.declares ({ cls := "java/lang/Throwable", name := "<init>", desc := "()V" } : Jvm.MethodName)) ∈ lw_tbl := lw_at lw_m8 162 rfl
theorem q1967 : (Jvm.Cond.declares ({ cls := "java/lang/Throwable", name := "<init>", desc := "(Ljava/lang/String;)V" } : Jvm.MethodName)) ∈ lw_tbl := lw_at lw_m8 163 rfl
theorem q1971 : (Jvm.Cond.lays "java/lang/Throwable" "java/lang/Throwable" "cause" "Ljava/lang/Throwable;") ∈ lw_all := lw_g (lw_at lw_m8 167 rfl) rfl
theorem q1973 : (Jvm.Cond.lays "java/lang/Throwable" "java/lang/Throwable" "stackTrace" "[Ljava/lang/StackTraceElement;") ∈ lw_all := lw_g (lw_at lw_m8 169 rfl) rfl
theorem q1975 : (Jvm.Cond.lays "java/lang/Throwable" "java/lang/Throwable" "suppressedExceptions" "Ljava/util/List;") ∈ lw_all := lw_g (lw_at lw_m8 171 rfl) rfl
theorem q1977 : (Jvm.Cond.lays "java/lang/Throwable" "java/lang/Throwable" "detailMessage" "Ljava/lang/String;") ∈ lw_all := lw_g (lw_at lw_m8 173 rfl) rfl
theorem q1979 : (Jvm.Cond.lays "java/lang/Throwable" "java/lang/Throwable" "backtrace" "Ljava/lang/Object;") ∈ lw_all := lw_g (lw_at lw_m8 175 rfl) rfl
theorem q1980 : (Jvm.Cond.fieldLink "java/lang/Throwable" (198 : Nat) "java/lang/Throwable" "backtrace" "Ljava/lang/Object;") ∈ lw_all := lw_g (lw_at lw_m8 176 rfl) rfl
theorem q1981 : (Jvm.Cond.superclass "java/lang/Throwable" "java/lang/Object") ∈ lw_all := lw_g (lw_at lw_m8 177 rfl) rfl
theorem q1982 : (Jvm.Cond.instanceMethod ({ cls := "java/lang/Throwable", name := "<init>", desc := "()V" } : Jvm.MethodName)) ∈ lw_all := lw_g (lw_at lw_m8 178 rfl) rfl
theorem q1983 : (Jvm.Cond.code ({ cls := "java/lang/Throwable", name := "<init>", desc := "()V" } : Jvm.MethodName) prog_48_method_1_code (1 : Nat) (Option.none : Option Jvm.ClassFile.FieldType)) ∈ lw_all := lw_g (lw_at lw_m8 179 rfl) rfl
theorem q1984 : (Jvm.Cond.methodLink "java/lang/Throwable" (1 : Nat) ({ cls := "java/lang/Object", name := "<init>", desc := "()V" } : Jvm.MethodName)) ∈ lw_all := lw_g (lw_at lw_m8 180 rfl) rfl
theorem q1985 : (Jvm.Cond.fieldLink "java/lang/Throwable" (13 : Nat) "java/lang/Throwable" "UNASSIGNED_STACK" "[Ljava/lang/StackTraceElement;") ∈ lw_all := lw_g (lw_at lw_m8 181 rfl) rfl
theorem q1986 : (Jvm.Cond.laysStatic "java/lang/Throwable" "UNASSIGNED_STACK" "[Ljava/lang/StackTraceElement;") ∈ lw_tbl := lw_at lw_m8 182 rfl
theorem q1987 : (Jvm.Cond.fieldLink "java/lang/Throwable" (20 : Nat) "java/lang/Throwable" "SUPPRESSED_SENTINEL" "Ljava/util/List;") ∈ lw_all := lw_g (lw_at lw_m8 183 rfl) rfl
theorem q1988 : (Jvm.Cond.laysStatic "java/lang/Throwable" "SUPPRESSED_SENTINEL" "Ljava/util/List;") ∈ lw_tbl := lw_at lw_m8 184 rfl
theorem q1989 : (Jvm.Cond.methodLink "java/lang/Throwable" (27 : Nat) ({ cls := "java/lang/Throwable", name := "fillInStackTrace", desc := "()Ljava/lang/Throwable;" } : Jvm.MethodName)) ∈ lw_all := lw_g (lw_at lw_m8 185 rfl) rfl
theorem q1990 : (Jvm.Cond.instanceMethod ({ cls := "java/lang/Throwable", name := "fillInStackTrace", desc := "()Ljava/lang/Throwable;" } : Jvm.MethodName)) ∈ lw_all := lw_g (lw_at lw_m8 186 rfl) rfl
theorem q1991 : (Jvm.Cond.sameMethod "java/lang/Throwable" "java/lang/Throwable" "fillInStackTrace" "()Ljava/lang/Throwable;") ∈ lw_all := lw_g (lw_at lw_m8 187 rfl) rfl
theorem q1992 : (Jvm.Cond.codeSync ({ cls := "java/lang/Throwable", name := "fillInStackTrace", desc := "()Ljava/lang/Throwable;" } : Jvm.MethodName) prog_48_method_18_code (1 : Nat) (Option.some (Jvm.ClassFile.FieldType.object "java/lang/Throwable"))) ∈ lw_all := lw_g (lw_at lw_m8 188 rfl) rfl
theorem q1993 : (Jvm.Cond.methodLink "java/lang/Throwable" (202 : Nat) ({ cls := "java/lang/Throwable", name := "fillInStackTrace", desc := "(I)Ljava/lang/Throwable;" } : Jvm.MethodName)) ∈ lw_all := lw_g (lw_at lw_m8 189 rfl) rfl
theorem q1994 : (Jvm.Cond.privateMethod ({ cls := "java/lang/Throwable", name := "fillInStackTrace", desc := "(I)Ljava/lang/Throwable;" } : Jvm.MethodName)) ∈ lw_tbl := lw_at lw_m8 190 rfl
theorem q1995 : (Jvm.Cond.instanceMethod ({ cls := "java/lang/Throwable", name := "fillInStackTrace", desc := "(I)Ljava/lang/Throwable;" } : Jvm.MethodName)) ∈ lw_all := lw_g (lw_at lw_m8 191 rfl) rfl
theorem q1996 : (Jvm.Cond.instantiable "java/lang/Throwable" (6 : Nat)) ∈ lw_all := lw_g (lw_at lw_m8 192 rfl) rfl
theorem q1997 : (Jvm.Cond.native ({ cls := "java/lang/Throwable", name := "fillInStackTrace", desc := "(I)Ljava/lang/Throwable;" } : Jvm.MethodName)) ∈ lw_all := lw_g (lw_at lw_m8 193 rfl) rfl
theorem q2006 : (Jvm.Cond.instanceMethod ({ cls := "java/lang/Throwable", name := "<init>", desc := "(Ljava/lang/String;)V" } : Jvm.MethodName)) ∈ lw_all := lw_g (lw_at lw_m8 202 rfl) rfl
theorem q2007 : (Jvm.Cond.code ({ cls := "java/lang/Throwable", name := "<init>", desc := "(Ljava/lang/String;)V" } : Jvm.MethodName) prog_48_method_2_code (2 : Nat) (Option.none : Option Jvm.ClassFile.FieldType)) ∈ lw_all := lw_g (lw_at lw_m8 203 rfl) rfl
theorem q2010 : (Jvm.Cond.fieldLink "java/lang/Throwable" (198 : Nat) "java/lang/Throwable" "backtrace" "Ljava/lang/Object;") ∈ lw_all := lw_g (lw_at lw_m8 206 rfl) rfl
theorem q2011 : (Jvm.Cond.fieldLink "java/lang/Throwable" (31 : Nat) "java/lang/Throwable" "detailMessage" "Ljava/lang/String;") ∈ lw_all := lw_g (lw_at lw_m8 207 rfl) rfl
theorem q2012 : (Jvm.Cond.fieldLink "java/lang/Throwable" (7 : Nat) "java/lang/Throwable" "cause" "Ljava/lang/Throwable;") ∈ lw_all := lw_g (lw_at lw_m8 208 rfl) rfl
theorem q2013 : (Jvm.Cond.fieldLink "java/lang/Throwable" (17 : Nat) "java/lang/Throwable" "stackTrace" "[Ljava/lang/StackTraceElement;") ∈ lw_all := lw_g (lw_at lw_m8 209 rfl) rfl
theorem q2014 : (Jvm.Cond.fieldLink "java/lang/Throwable" (24 : Nat) "java/lang/Throwable" "suppressedExceptions" "Ljava/util/List;") ∈ lw_all := lw_g (lw_at lw_m8 210 rfl) rfl
theorem q2017 : (Jvm.Cond.soleField "java/lang/Throwable" "backtrace") ∈ lw_all := lw_g (lw_at lw_m8 213 rfl) rfl
theorem q2018 : (Jvm.Cond.soleField "java/lang/Throwable" "detailMessage") ∈ lw_all := lw_g (lw_at lw_m8 214 rfl) rfl
theorem q2019 : (Jvm.Cond.soleField "java/lang/Throwable" "cause") ∈ lw_all := lw_g (lw_at lw_m8 215 rfl) rfl
theorem q2020 : (Jvm.Cond.soleField "java/lang/Throwable" "stackTrace") ∈ lw_all := lw_g (lw_at lw_m8 216 rfl) rfl
theorem q2022 : (Jvm.Cond.soleField "java/lang/Throwable" "depth") ∈ lw_all := lw_g (lw_at lw_m8 218 rfl) rfl
theorem q2023 : (Jvm.Cond.soleField "java/lang/Throwable" "suppressedExceptions") ∈ lw_all := lw_g (lw_at lw_m8 219 rfl) rfl
theorem q3181 : (Jvm.Cond.sameMethod "java/lang/Throwable" "java/lang/Throwable" "fillInStackTrace" "(I)Ljava/lang/Throwable;") ∈ lw_all := lw_g (lw_at lw_m13 177 rfl) rfl
theorem q3226 : (Jvm.Cond.castable "java/lang/Throwable" "java/lang/Object") ∈ lw_tbl := lw_at lw_m13 222 rfl
theorem in_J21 : ∀ w ∈ wsJ210, w ∈ lw_all := lw_in wsJ210 [1971, 1973, 1975, 1977, 1979] (by decide +kernel) (by decide +kernel)
/-! java/lang/Exception -/
set_option maxRecDepth 100000
def RJ22 : String := "java/lang/Exception"
abbrev cJ22_init : ByteArray := prog_35_method_2_code
def yJ22_init : MethodName := ⟨RJ22, "<init>", "(Ljava/lang/String;)V"⟩
def dkwJ22_init_0 : List UInt8 := [42, 43, 183, 0, 7, 177]
abbrev dktJ22_init_0 : List UInt8 := dkwJ22_init_0 ++ []
theorem dksJ22_init_0 : cJ22_init.data.toList.drop 0 = dktJ22_init_0 := by decide +kernel
theorem dJ22_init_0 : decode cJ22_init 0 = .ok (.aload_n 0, 1) := dk_42 (dk_at dksJ22_init_0 0 rfl rfl)
theorem dJ22_init_1 : decode cJ22_init 1 = .ok (.aload_n 1, 1) := dk_43 (dk_at dksJ22_init_0 1 rfl rfl)
theorem dJ22_init_2 : decode cJ22_init 2 = .ok (.invokespecial 7, 3) := dk_183 0 7 (dk_at dksJ22_init_0 2 rfl rfl)
theorem dJ22_init_5 : decode cJ22_init 5 = .ok (.return_, 1) := dk_177 (dk_at dksJ22_init_0 5 rfl rfl)
theorem q171 : (Jvm.Cond.initialized "java/lang/Exception") ∈ lw_all := lw_g (lw_at lw_m1 47 rfl) rfl
theorem q1964 : (Jvm.Cond.declares ({ cls := "java/lang/Exception", name := "<init>", desc := "()V" } : Jvm.MethodName)) ∈ lw_tbl := lw_at lw_m8 160 rfl
theorem q1965 : (Jvm.Cond.declares ({ cls := "java/lang/Exception", name := "<init>", desc := "(Ljava/lang/String;)V" } : Jvm.MethodName)) ∈ lw_tbl := lw_at lw_m8 161 rfl
theorem q2003 : (Jvm.Cond.instanceMethod ({ cls := "java/lang/Exception", name := "<init>", desc := "(Ljava/lang/String;)V" } : Jvm.MethodName)) ∈ lw_all := lw_g (lw_at lw_m8 199 rfl) rfl
theorem q2004 : (Jvm.Cond.code ({ cls := "java/lang/Exception", name := "<init>", desc := "(Ljava/lang/String;)V" } : Jvm.MethodName) prog_35_method_2_code (2 : Nat) (Option.none : Option Jvm.ClassFile.FieldType)) ∈ lw_all := lw_g (lw_at lw_m8 200 rfl) rfl
theorem q2005 : (Jvm.Cond.methodLink "java/lang/Exception" (7 : Nat) ({ cls := "java/lang/Throwable", name := "<init>", desc := "(Ljava/lang/String;)V" } : Jvm.MethodName)) ∈ lw_all := lw_g (lw_at lw_m8 201 rfl) rfl
/-! java/util/AbstractList -/
set_option maxRecDepth 100000
def RJ23 : String := "java/util/AbstractList"
abbrev cJ23_init : ByteArray := prog_52_method_1_code
def yJ23_init : MethodName := ⟨RJ23, "<init>", "()V"⟩
def dkwJ23_init_0 : List UInt8 := [42, 183, 0, 1, 42, 3, 181, 0, 7, 177]
abbrev dktJ23_init_0 : List UInt8 := dkwJ23_init_0 ++ []
theorem dksJ23_init_0 : cJ23_init.data.toList.drop 0 = dktJ23_init_0 := by decide +kernel
theorem dJ23_init_0 : decode cJ23_init 0 = .ok (.aload_n 0, 1) := dk_42 (dk_at dksJ23_init_0 0 rfl rfl)
theorem dJ23_init_1 : decode cJ23_init 1 = .ok (.invokespecial 1, 3) := dk_183 0 1 (dk_at dksJ23_init_0 1 rfl rfl)
theorem dJ23_init_4 : decode cJ23_init 4 = .ok (.aload_n 0, 1) := dk_42 (dk_at dksJ23_init_0 4 rfl rfl)
theorem dJ23_init_5 : decode cJ23_init 5 = .ok (.iconst 0, 1) := dk_3 (dk_at dksJ23_init_0 5 rfl rfl)
theorem dJ23_init_6 : decode cJ23_init 6 = .ok (.putfield 7, 3) := dk_181 0 7 (dk_at dksJ23_init_0 6 rfl rfl)
theorem dJ23_init_9 : decode cJ23_init 9 = .ok (.return_, 1) := dk_177 (dk_at dksJ23_init_0 9 rfl rfl)
theorem q173 : (Jvm.Cond.initialized "java/util/AbstractList") ∈ lw_all := lw_g (lw_at lw_m1 49 rfl) rfl
theorem q2035 : (Jvm.Cond.instanceMethod ({ cls := "java/util/AbstractList", name := "<init>", desc := "()V" } : Jvm.MethodName)) ∈ lw_all := lw_g (lw_at lw_m8 231 rfl) rfl
theorem q2036 : (Jvm.Cond.code ({ cls := "java/util/AbstractList", name := "<init>", desc := "()V" } : Jvm.MethodName) prog_52_method_1_code (1 : Nat) (Option.none : Option Jvm.ClassFile.FieldType)) ∈ lw_all := lw_g (lw_at lw_m8 232 rfl) rfl
theorem q2037 : (Jvm.Cond.methodLink "java/util/AbstractList" (1 : Nat) ({ cls := "java/util/AbstractCollection", name := "<init>", desc := "()V" } : Jvm.MethodName)) ∈ lw_all := lw_g (lw_at lw_m8 233 rfl) rfl
theorem q2044 : (Jvm.Cond.fieldLink "java/util/AbstractList" (7 : Nat) "java/util/AbstractList" "modCount" "I") ∈ lw_all := lw_g (lw_at lw_m9 0 rfl) rfl
theorem q2053 : (Jvm.Cond.soleField "java/util/AbstractList" "modCount") ∈ lw_all := lw_g (lw_at lw_m9 9 rfl) rfl
/-! java/util/ArrayList -/
set_option maxRecDepth 100000
def RJ24 : String := "java/util/ArrayList"
def TJ24 : u_T := fun k => match k with
  | 0 => ("java/util/AbstractList", "modCount", "I", false)
  | 1 => ("java/util/ArrayList", "elementData", "[Ljava/lang/Object;", false)
  | _ => ("java/util/ArrayList", "size", "I", false)
def tyJ24 : Nat → FieldType := fun k => match k with
  | 0 => .int
  | 1 => .array (.object "java/lang/Object")
  | _ => .int
abbrev wsJ240 : List Cond := u_ws RJ24 TJ24 3
theorem nmJ24 : ∀ a, a < 3 → ∀ b, b < 3 → a ≠ b → (TJ24 a).2.1 ≠ (TJ24 b).2.1 := by decide +kernel
theorem tyJ24_ok : ∀ k, k < 3 → parseFieldDescriptor (TJ24 k).2.2.1 = some (tyJ24 k) := by decide +kernel
abbrev cJ24_size : ByteArray := prog_57_method_8_code
def yJ24_size : MethodName := ⟨RJ24, "size", "()I"⟩
theorem dJ24_size_0 : decode cJ24_size 0 = .ok (.aload_n 0, 1) := by decide +kernel
theorem dJ24_size_1 : decode cJ24_size 1 = .ok (.getfield 48, 3) := by decide +kernel
theorem dJ24_size_4 : decode cJ24_size 4 = .ok (.ireturn, 1) := by decide +kernel
abbrev cJ24_init : ByteArray := prog_57_method_2_code
def yJ24_init : MethodName := ⟨RJ24, "<init>", "()V"⟩
def dkwJ24_init_0 : List UInt8 := [42, 183, 0, 1, 42, 178, 0, 39, 181, 0, 9, 177]
abbrev dktJ24_init_0 : List UInt8 := dkwJ24_init_0 ++ []
theorem dksJ24_init_0 : cJ24_init.data.toList.drop 0 = dktJ24_init_0 := by decide +kernel
theorem dJ24_init_0 : decode cJ24_init 0 = .ok (.aload_n 0, 1) := dk_42 (dk_at dksJ24_init_0 0 rfl rfl)
theorem dJ24_init_1 : decode cJ24_init 1 = .ok (.invokespecial 1, 3) := dk_183 0 1 (dk_at dksJ24_init_0 1 rfl rfl)
theorem dJ24_init_4 : decode cJ24_init 4 = .ok (.aload_n 0, 1) := dk_42 (dk_at dksJ24_init_0 4 rfl rfl)
theorem dJ24_init_5 : decode cJ24_init 5 = .ok (.getstatic 39, 3) := dk_178 0 39 (dk_at dksJ24_init_0 5 rfl rfl)
theorem dJ24_init_8 : decode cJ24_init 8 = .ok (.putfield 9, 3) := dk_181 0 9 (dk_at dksJ24_init_0 8 rfl rfl)
theorem dJ24_init_11 : decode cJ24_init 11 = .ok (.return_, 1) := dk_177 (dk_at dksJ24_init_0 11 rfl rfl)
abbrev cJ24_isEmpty : ByteArray := prog_57_method_9_code
def yJ24_isEmpty : MethodName := ⟨RJ24, "isEmpty", "()Z"⟩
def dkwJ24_isEmpty_0 : List UInt8 := [42, 180, 0, 48, 154, 0, 7, 4, 167, 0, 4, 3, 172]
abbrev dktJ24_isEmpty_0 : List UInt8 := dkwJ24_isEmpty_0 ++ []
theorem dksJ24_isEmpty_0 : cJ24_isEmpty.data.toList.drop 0 = dktJ24_isEmpty_0 := by decide +kernel
theorem dJ24_isEmpty_0 : decode cJ24_isEmpty 0 = .ok (.aload_n 0, 1) := dk_42 (dk_at dksJ24_isEmpty_0 0 rfl rfl)
theorem dJ24_isEmpty_1 : decode cJ24_isEmpty 1 = .ok (.getfield 48, 3) := dk_180 0 48 (dk_at dksJ24_isEmpty_0 1 rfl rfl)
theorem dJ24_isEmpty_4 : decode cJ24_isEmpty 4 = .ok (.ifCond .ne 7, 3) := dk_154 0 7 (dk_at dksJ24_isEmpty_0 4 rfl rfl)
theorem dJ24_isEmpty_7 : decode cJ24_isEmpty 7 = .ok (.iconst 1, 1) := dk_4 (dk_at dksJ24_isEmpty_0 7 rfl rfl)
theorem dJ24_isEmpty_8 : decode cJ24_isEmpty 8 = .ok (.goto 4, 3) := dk_167 0 4 (dk_at dksJ24_isEmpty_0 8 rfl rfl)
theorem dJ24_isEmpty_11 : decode cJ24_isEmpty 11 = .ok (.iconst 0, 1) := dk_3 (dk_at dksJ24_isEmpty_0 11 rfl rfl)
theorem dJ24_isEmpty_12 : decode cJ24_isEmpty 12 = .ok (.ireturn, 1) := dk_172 (dk_at dksJ24_isEmpty_0 12 rfl rfl)
abbrev cJ24_get : ByteArray := prog_57_method_20_code
def yJ24_get : MethodName := ⟨RJ24, "get", "(I)Ljava/lang/Object;"⟩
def dkwJ24_get_0 : List UInt8 := [27, 42, 180, 0, 48, 184, 0, 118, 87, 42, 27, 182, 0, 123, 176]
abbrev dktJ24_get_0 : List UInt8 := dkwJ24_get_0 ++ []
theorem dksJ24_get_0 : cJ24_get.data.toList.drop 0 = dktJ24_get_0 := by decide +kernel
theorem dJ24_get_0 : decode cJ24_get 0 = .ok (.iload_n 1, 1) := dk_27 (dk_at dksJ24_get_0 0 rfl rfl)
theorem dJ24_get_1 : decode cJ24_get 1 = .ok (.aload_n 0, 1) := dk_42 (dk_at dksJ24_get_0 1 rfl rfl)
theorem dJ24_get_2 : decode cJ24_get 2 = .ok (.getfield 48, 3) := dk_180 0 48 (dk_at dksJ24_get_0 2 rfl rfl)
theorem dJ24_get_5 : decode cJ24_get 5 = .ok (.invokestatic 118, 3) := dk_184 0 118 (dk_at dksJ24_get_0 5 rfl rfl)
theorem dJ24_get_8 : decode cJ24_get 8 = .ok (.pop, 1) := dk_87 (dk_at dksJ24_get_0 8 rfl rfl)
theorem dJ24_get_9 : decode cJ24_get 9 = .ok (.aload_n 0, 1) := dk_42 (dk_at dksJ24_get_0 9 rfl rfl)
theorem dJ24_get_10 : decode cJ24_get 10 = .ok (.iload_n 1, 1) := dk_27 (dk_at dksJ24_get_0 10 rfl rfl)
theorem dJ24_get_11 : decode cJ24_get 11 = .ok (.invokevirtual 123, 3) := dk_182 0 123 (dk_at dksJ24_get_0 11 rfl rfl)
theorem dJ24_get_14 : decode cJ24_get 14 = .ok (.areturn, 1) := dk_176 (dk_at dksJ24_get_0 14 rfl rfl)
abbrev cJ24_elementData : ByteArray := prog_57_method_18_code
def yJ24_elementData : MethodName := ⟨RJ24, "elementData", "(I)Ljava/lang/Object;"⟩
def dkwJ24_elementData_0 : List UInt8 := [42, 180, 0, 9, 27, 50, 176]
abbrev dktJ24_elementData_0 : List UInt8 := dkwJ24_elementData_0 ++ []
theorem dksJ24_elementData_0 : cJ24_elementData.data.toList.drop 0 = dktJ24_elementData_0 := by decide +kernel
theorem dJ24_elementData_0 : decode cJ24_elementData 0 = .ok (.aload_n 0, 1) := dk_42 (dk_at dksJ24_elementData_0 0 rfl rfl)
theorem dJ24_elementData_1 : decode cJ24_elementData 1 = .ok (.getfield 9, 3) := dk_180 0 9 (dk_at dksJ24_elementData_0 1 rfl rfl)
theorem dJ24_elementData_4 : decode cJ24_elementData 4 = .ok (.iload_n 1, 1) := dk_27 (dk_at dksJ24_elementData_0 4 rfl rfl)
theorem dJ24_elementData_5 : decode cJ24_elementData 5 = .ok (.aaload, 1) := dk_50 (dk_at dksJ24_elementData_0 5 rfl rfl)
theorem dJ24_elementData_6 : decode cJ24_elementData 6 = .ok (.areturn, 1) := dk_176 (dk_at dksJ24_elementData_0 6 rfl rfl)
abbrev cJ24_add : ByteArray := prog_57_method_25_code
def yJ24_add : MethodName := ⟨RJ24, "add", "(Ljava/lang/Object;)Z"⟩
def dkwJ24_add_1 : List UInt8 := [172]
abbrev dktJ24_add_1 : List UInt8 := dkwJ24_add_1 ++ []
def dkwJ24_add_0 : List UInt8 := [42, 89, 180, 0, 63, 4, 96, 181, 0, 63, 42, 43, 42, 180, 0, 9, 42, 180, 0, 48, 182, 0, 131, 4]
abbrev dktJ24_add_0 : List UInt8 := dkwJ24_add_0 ++ dktJ24_add_1
theorem dksJ24_add_0 : cJ24_add.data.toList.drop 0 = dktJ24_add_0 := by decide +kernel
theorem dksJ24_add_1 : cJ24_add.data.toList.drop 24 = dktJ24_add_1 := dk_seg dksJ24_add_0 24 rfl rfl
theorem dJ24_add_0 : decode cJ24_add 0 = .ok (.aload_n 0, 1) := dk_42 (dk_at dksJ24_add_0 0 rfl rfl)
theorem dJ24_add_1 : decode cJ24_add 1 = .ok (.dup, 1) := dk_89 (dk_at dksJ24_add_0 1 rfl rfl)
theorem dJ24_add_2 : decode cJ24_add 2 = .ok (.getfield 63, 3) := dk_180 0 63 (dk_at dksJ24_add_0 2 rfl rfl)
theorem dJ24_add_5 : decode cJ24_add 5 = .ok (.iconst 1, 1) := dk_4 (dk_at dksJ24_add_0 5 rfl rfl)
theorem dJ24_add_6 : decode cJ24_add 6 = .ok (.iadd, 1) := dk_96 (dk_at dksJ24_add_0 6 rfl rfl)
theorem dJ24_add_7 : decode cJ24_add 7 = .ok (.putfield 63, 3) := dk_181 0 63 (dk_at dksJ24_add_0 7 rfl rfl)
theorem dJ24_add_10 : decode cJ24_add 10 = .ok (.aload_n 0, 1) := dk_42 (dk_at dksJ24_add_0 10 rfl rfl)
theorem dJ24_add_11 : decode cJ24_add 11 = .ok (.aload_n 1, 1) := dk_43 (dk_at dksJ24_add_0 11 rfl rfl)
theorem dJ24_add_12 : decode cJ24_add 12 = .ok (.aload_n 0, 1) := dk_42 (dk_at dksJ24_add_0 12 rfl rfl)
theorem dJ24_add_13 : decode cJ24_add 13 = .ok (.getfield 9, 3) := dk_180 0 9 (dk_at dksJ24_add_0 13 rfl rfl)
theorem dJ24_add_16 : decode cJ24_add 16 = .ok (.aload_n 0, 1) := dk_42 (dk_at dksJ24_add_0 16 rfl rfl)
theorem dJ24_add_17 : decode cJ24_add 17 = .ok (.getfield 48, 3) := dk_180 0 48 (dk_at dksJ24_add_0 17 rfl rfl)
theorem dJ24_add_20 : decode cJ24_add 20 = .ok (.invokevirtual 131, 3) := dk_182 0 131 (dk_at dksJ24_add_0 20 rfl rfl)
theorem dJ24_add_23 : decode cJ24_add 23 = .ok (.iconst 1, 1) := dk_4 (dk_at dksJ24_add_0 23 rfl rfl)
theorem dJ24_add_24 : decode cJ24_add 24 = .ok (.ireturn, 1) := dk_172 (dk_at dksJ24_add_1 0 rfl rfl)
abbrev cJ24_add_2 : ByteArray := prog_57_method_24_code
def yJ24_add_2 : MethodName := ⟨RJ24, "add", "(Ljava/lang/Object;[Ljava/lang/Object;I)V"⟩
def dkwJ24_add_2_0 : List UInt8 := [29, 44, 190, 160, 0, 8, 42, 182, 0, 129, 77, 44, 29, 43, 83, 42, 29, 4, 96, 181, 0, 48, 177]
abbrev dktJ24_add_2_0 : List UInt8 := dkwJ24_add_2_0 ++ []
theorem dksJ24_add_2_0 : cJ24_add_2.data.toList.drop 0 = dktJ24_add_2_0 := by decide +kernel
theorem dJ24_add_2_0 : decode cJ24_add_2 0 = .ok (.iload_n 3, 1) := dk_29 (dk_at dksJ24_add_2_0 0 rfl rfl)
theorem dJ24_add_2_1 : decode cJ24_add_2 1 = .ok (.aload_n 2, 1) := dk_44 (dk_at dksJ24_add_2_0 1 rfl rfl)
theorem dJ24_add_2_2 : decode cJ24_add_2 2 = .ok (.arraylength, 1) := dk_190 (dk_at dksJ24_add_2_0 2 rfl rfl)
theorem dJ24_add_2_3 : decode cJ24_add_2 3 = .ok (.if_icmp .ne 8, 3) := dk_160 0 8 (dk_at dksJ24_add_2_0 3 rfl rfl)
theorem dJ24_add_2_6 : decode cJ24_add_2 6 = .ok (.aload_n 0, 1) := dk_42 (dk_at dksJ24_add_2_0 6 rfl rfl)
theorem dJ24_add_2_7 : decode cJ24_add_2 7 = .ok (.invokevirtual 129, 3) := dk_182 0 129 (dk_at dksJ24_add_2_0 7 rfl rfl)
theorem dJ24_add_2_10 : decode cJ24_add_2 10 = .ok (.astore_n 2, 1) := dk_77 (dk_at dksJ24_add_2_0 10 rfl rfl)
theorem dJ24_add_2_11 : decode cJ24_add_2 11 = .ok (.aload_n 2, 1) := dk_44 (dk_at dksJ24_add_2_0 11 rfl rfl)
theorem dJ24_add_2_12 : decode cJ24_add_2 12 = .ok (.iload_n 3, 1) := dk_29 (dk_at dksJ24_add_2_0 12 rfl rfl)
theorem dJ24_add_2_13 : decode cJ24_add_2 13 = .ok (.aload_n 1, 1) := dk_43 (dk_at dksJ24_add_2_0 13 rfl rfl)
theorem dJ24_add_2_14 : decode cJ24_add_2 14 = .ok (.aastore, 1) := dk_83 (dk_at dksJ24_add_2_0 14 rfl rfl)
theorem dJ24_add_2_15 : decode cJ24_add_2 15 = .ok (.aload_n 0, 1) := dk_42 (dk_at dksJ24_add_2_0 15 rfl rfl)
theorem dJ24_add_2_16 : decode cJ24_add_2 16 = .ok (.iload_n 3, 1) := dk_29 (dk_at dksJ24_add_2_0 16 rfl rfl)
theorem dJ24_add_2_17 : decode cJ24_add_2 17 = .ok (.iconst 1, 1) := dk_4 (dk_at dksJ24_add_2_0 17 rfl rfl)
theorem dJ24_add_2_18 : decode cJ24_add_2 18 = .ok (.iadd, 1) := dk_96 (dk_at dksJ24_add_2_0 18 rfl rfl)
theorem dJ24_add_2_19 : decode cJ24_add_2 19 = .ok (.putfield 48, 3) := dk_181 0 48 (dk_at dksJ24_add_2_0 19 rfl rfl)
theorem dJ24_add_2_22 : decode cJ24_add_2 22 = .ok (.return_, 1) := dk_177 (dk_at dksJ24_add_2_0 22 rfl rfl)
abbrev cJ24_grow : ByteArray := prog_57_method_7_code
def yJ24_grow : MethodName := ⟨RJ24, "grow", "()[Ljava/lang/Object;"⟩
def dkwJ24_grow_0 : List UInt8 := [42, 42, 180, 0, 48, 4, 96, 182, 0, 69, 176]
abbrev dktJ24_grow_0 : List UInt8 := dkwJ24_grow_0 ++ []
theorem dksJ24_grow_0 : cJ24_grow.data.toList.drop 0 = dktJ24_grow_0 := by decide +kernel
theorem dJ24_grow_0 : decode cJ24_grow 0 = .ok (.aload_n 0, 1) := dk_42 (dk_at dksJ24_grow_0 0 rfl rfl)
theorem dJ24_grow_1 : decode cJ24_grow 1 = .ok (.aload_n 0, 1) := dk_42 (dk_at dksJ24_grow_0 1 rfl rfl)
theorem dJ24_grow_2 : decode cJ24_grow 2 = .ok (.getfield 48, 3) := dk_180 0 48 (dk_at dksJ24_grow_0 2 rfl rfl)
theorem dJ24_grow_5 : decode cJ24_grow 5 = .ok (.iconst 1, 1) := dk_4 (dk_at dksJ24_grow_0 5 rfl rfl)
theorem dJ24_grow_6 : decode cJ24_grow 6 = .ok (.iadd, 1) := dk_96 (dk_at dksJ24_grow_0 6 rfl rfl)
theorem dJ24_grow_7 : decode cJ24_grow 7 = .ok (.invokevirtual 69, 3) := dk_182 0 69 (dk_at dksJ24_grow_0 7 rfl rfl)
theorem dJ24_grow_10 : decode cJ24_grow 10 = .ok (.areturn, 1) := dk_176 (dk_at dksJ24_grow_0 10 rfl rfl)
abbrev cJ24_grow_2 : ByteArray := prog_57_method_6_code
def yJ24_grow_2 : MethodName := ⟨RJ24, "grow", "(I)[Ljava/lang/Object;"⟩
def dkwJ24_grow_2_2 : List UInt8 := [27, 184, 0, 79, 189, 0, 7, 90, 181, 0, 9, 176]
abbrev dktJ24_grow_2_2 : List UInt8 := dkwJ24_grow_2_2 ++ []
def dkwJ24_grow_2_1 : List UInt8 := [28, 4, 122, 184, 0, 73, 62, 42, 42, 180, 0, 9, 29, 184, 0, 66, 90, 181, 0, 9, 176, 42, 16, 10]
abbrev dktJ24_grow_2_1 : List UInt8 := dkwJ24_grow_2_1 ++ dktJ24_grow_2_2
def dkwJ24_grow_2_0 : List UInt8 := [42, 180, 0, 9, 190, 61, 28, 157, 0, 13, 42, 180, 0, 9, 178, 0, 39, 165, 0, 28, 28, 27, 28, 100]
abbrev dktJ24_grow_2_0 : List UInt8 := dkwJ24_grow_2_0 ++ dktJ24_grow_2_1
theorem dksJ24_grow_2_0 : cJ24_grow_2.data.toList.drop 0 = dktJ24_grow_2_0 := by decide +kernel
theorem dksJ24_grow_2_1 : cJ24_grow_2.data.toList.drop 24 = dktJ24_grow_2_1 := dk_seg dksJ24_grow_2_0 24 rfl rfl
theorem dksJ24_grow_2_2 : cJ24_grow_2.data.toList.drop 48 = dktJ24_grow_2_2 := dk_seg dksJ24_grow_2_1 24 rfl rfl
theorem dJ24_grow_2_0 : decode cJ24_grow_2 0 = .ok (.aload_n 0, 1) := dk_42 (dk_at dksJ24_grow_2_0 0 rfl rfl)
theorem dJ24_grow_2_1 : decode cJ24_grow_2 1 = .ok (.getfield 9, 3) := dk_180 0 9 (dk_at dksJ24_grow_2_0 1 rfl rfl)
theorem dJ24_grow_2_4 : decode cJ24_grow_2 4 = .ok (.arraylength, 1) := dk_190 (dk_at dksJ24_grow_2_0 4 rfl rfl)
theorem dJ24_grow_2_5 : decode cJ24_grow_2 5 = .ok (.istore_n 2, 1) := dk_61 (dk_at dksJ24_grow_2_0 5 rfl rfl)
theorem dJ24_grow_2_6 : decode cJ24_grow_2 6 = .ok (.iload_n 2, 1) := dk_28 (dk_at dksJ24_grow_2_0 6 rfl rfl)
theorem dJ24_grow_2_7 : decode cJ24_grow_2 7 = .ok (.ifCond .gt 13, 3) := dk_157 0 13 (dk_at dksJ24_grow_2_0 7 rfl rfl)
theorem dJ24_grow_2_10 : decode cJ24_grow_2 10 = .ok (.aload_n 0, 1) := dk_42 (dk_at dksJ24_grow_2_0 10 rfl rfl)
theorem dJ24_grow_2_11 : decode cJ24_grow_2 11 = .ok (.getfield 9, 3) := dk_180 0 9 (dk_at dksJ24_grow_2_0 11 rfl rfl)
theorem dJ24_grow_2_14 : decode cJ24_grow_2 14 = .ok (.getstatic 39, 3) := dk_178 0 39 (dk_at dksJ24_grow_2_0 14 rfl rfl)
theorem dJ24_grow_2_17 : decode cJ24_grow_2 17 = .ok (.if_acmp .eq 28, 3) := dk_165 0 28 (dk_at dksJ24_grow_2_0 17 rfl rfl)
theorem dJ24_grow_2_20 : decode cJ24_grow_2 20 = .ok (.iload_n 2, 1) := dk_28 (dk_at dksJ24_grow_2_0 20 rfl rfl)
theorem dJ24_grow_2_21 : decode cJ24_grow_2 21 = .ok (.iload_n 1, 1) := dk_27 (dk_at dksJ24_grow_2_0 21 rfl rfl)
theorem dJ24_grow_2_22 : decode cJ24_grow_2 22 = .ok (.iload_n 2, 1) := dk_28 (dk_at dksJ24_grow_2_0 22 rfl rfl)
theorem dJ24_grow_2_23 : decode cJ24_grow_2 23 = .ok (.isub, 1) := dk_100 (dk_at dksJ24_grow_2_0 23 rfl rfl)
theorem dJ24_grow_2_24 : decode cJ24_grow_2 24 = .ok (.iload_n 2, 1) := dk_28 (dk_at dksJ24_grow_2_1 0 rfl rfl)
theorem dJ24_grow_2_25 : decode cJ24_grow_2 25 = .ok (.iconst 1, 1) := dk_4 (dk_at dksJ24_grow_2_1 1 rfl rfl)
theorem dJ24_grow_2_26 : decode cJ24_grow_2 26 = .ok (.ishr, 1) := dk_122 (dk_at dksJ24_grow_2_1 2 rfl rfl)
theorem dJ24_grow_2_27 : decode cJ24_grow_2 27 = .ok (.invokestatic 73, 3) := dk_184 0 73 (dk_at dksJ24_grow_2_1 3 rfl rfl)
theorem dJ24_grow_2_30 : decode cJ24_grow_2 30 = .ok (.istore_n 3, 1) := dk_62 (dk_at dksJ24_grow_2_1 6 rfl rfl)
theorem dJ24_grow_2_31 : decode cJ24_grow_2 31 = .ok (.aload_n 0, 1) := dk_42 (dk_at dksJ24_grow_2_1 7 rfl rfl)
theorem dJ24_grow_2_32 : decode cJ24_grow_2 32 = .ok (.aload_n 0, 1) := dk_42 (dk_at dksJ24_grow_2_1 8 rfl rfl)
theorem dJ24_grow_2_33 : decode cJ24_grow_2 33 = .ok (.getfield 9, 3) := dk_180 0 9 (dk_at dksJ24_grow_2_1 9 rfl rfl)
theorem dJ24_grow_2_36 : decode cJ24_grow_2 36 = .ok (.iload_n 3, 1) := dk_29 (dk_at dksJ24_grow_2_1 12 rfl rfl)
theorem dJ24_grow_2_37 : decode cJ24_grow_2 37 = .ok (.invokestatic 66, 3) := dk_184 0 66 (dk_at dksJ24_grow_2_1 13 rfl rfl)
theorem dJ24_grow_2_40 : decode cJ24_grow_2 40 = .ok (.dup_x1, 1) := dk_90 (dk_at dksJ24_grow_2_1 16 rfl rfl)
theorem dJ24_grow_2_41 : decode cJ24_grow_2 41 = .ok (.putfield 9, 3) := dk_181 0 9 (dk_at dksJ24_grow_2_1 17 rfl rfl)
theorem dJ24_grow_2_44 : decode cJ24_grow_2 44 = .ok (.areturn, 1) := dk_176 (dk_at dksJ24_grow_2_1 20 rfl rfl)
theorem dJ24_grow_2_45 : decode cJ24_grow_2 45 = .ok (.aload_n 0, 1) := dk_42 (dk_at dksJ24_grow_2_1 21 rfl rfl)
theorem dJ24_grow_2_46 : decode cJ24_grow_2 46 = .ok (.bipush 10, 2) := dk_16 10 (dk_at dksJ24_grow_2_1 22 rfl rfl)
theorem dJ24_grow_2_48 : decode cJ24_grow_2 48 = .ok (.iload_n 1, 1) := dk_27 (dk_at dksJ24_grow_2_2 0 rfl rfl)
theorem dJ24_grow_2_49 : decode cJ24_grow_2 49 = .ok (.invokestatic 79, 3) := dk_184 0 79 (dk_at dksJ24_grow_2_2 1 rfl rfl)
theorem dJ24_grow_2_52 : decode cJ24_grow_2 52 = .ok (.anewarray 7, 3) := dk_189 0 7 (dk_at dksJ24_grow_2_2 4 rfl rfl)
theorem dJ24_grow_2_55 : decode cJ24_grow_2 55 = .ok (.dup_x1, 1) := dk_90 (dk_at dksJ24_grow_2_2 7 rfl rfl)
theorem dJ24_grow_2_56 : decode cJ24_grow_2 56 = .ok (.putfield 9, 3) := dk_181 0 9 (dk_at dksJ24_grow_2_2 8 rfl rfl)
theorem dJ24_grow_2_59 : decode cJ24_grow_2 59 = .ok (.areturn, 1) := dk_176 (dk_at dksJ24_grow_2_2 11 rfl rfl)
abbrev cJ24_iterator : ByteArray := prog_57_method_55_code
def yJ24_iterator : MethodName := ⟨RJ24, "iterator", "()Ljava/util/Iterator;"⟩
def dkwJ24_iterator_0 : List UInt8 := [187, 1, 11, 89, 42, 183, 1, 13, 176]
abbrev dktJ24_iterator_0 : List UInt8 := dkwJ24_iterator_0 ++ []
theorem dksJ24_iterator_0 : cJ24_iterator.data.toList.drop 0 = dktJ24_iterator_0 := by decide +kernel
theorem dJ24_iterator_0 : decode cJ24_iterator 0 = .ok (.new 267, 3) := dk_187 1 11 (dk_at dksJ24_iterator_0 0 rfl rfl)
theorem dJ24_iterator_3 : decode cJ24_iterator 3 = .ok (.dup, 1) := dk_89 (dk_at dksJ24_iterator_0 3 rfl rfl)
theorem dJ24_iterator_4 : decode cJ24_iterator 4 = .ok (.aload_n 0, 1) := dk_42 (dk_at dksJ24_iterator_0 4 rfl rfl)
theorem dJ24_iterator_5 : decode cJ24_iterator 5 = .ok (.invokespecial 269, 3) := dk_183 1 13 (dk_at dksJ24_iterator_0 5 rfl rfl)
theorem dJ24_iterator_8 : decode cJ24_iterator 8 = .ok (.areturn, 1) := dk_176 (dk_at dksJ24_iterator_0 8 rfl rfl)
theorem q174 : (Jvm.Cond.initialized "java/util/ArrayList") ∈ lw_all := lw_g (lw_at lw_m1 50 rfl) rfl
theorem q1115 : (Jvm.Cond.selects "java/util/ArrayList" ({ cls := "java/lang/Object", name := "getClass", desc := "()Ljava/lang/Class;" } : Jvm.MethodName) ({ cls := "java/lang/Object", name := "getClass", desc := "()Ljava/lang/Class;" } : Jvm.MethodName)) ∈ lw_all := lw_g (lw_at lw_m5 31 rfl) rfl
theorem q1546 : (Jvm.Cond.selects "java/util/ArrayList" ({ cls := "java/util/AbstractCollection", name := "size", desc := "()I" } : Jvm.MethodName) ({ cls := "java/util/ArrayList", name := "size", desc := "()I" } : Jvm.MethodName)) ∈ lw_all := lw_g (lw_at lw_m6 222 rfl) rfl
theorem q1547 : (Jvm.Cond.instanceMethod ({ cls := "java/util/ArrayList", name := "size", desc := "()I" } : Jvm.MethodName)) ∈ lw_all := lw_g (lw_at lw_m6 223 rfl) rfl
theorem q1548 : (Jvm.Cond.code ({ cls := "java/util/ArrayList", name := "size", desc := "()I" } : Jvm.MethodName) prog_57_method_8_code (1 : Nat) (Option.some Jvm.ClassFile.FieldType.int)) ∈ lw_all := lw_g (lw_at lw_m6 224 rfl) rfl
theorem q2030 : (Jvm.Cond.instantiable "java/util/ArrayList" (3 : Nat)) ∈ lw_all := lw_g (lw_at lw_m8 226 rfl) rfl
theorem q2032 : (Jvm.Cond.instanceMethod ({ cls := "java/util/ArrayList", name := "<init>", desc := "()V" } : Jvm.MethodName)) ∈ lw_all := lw_g (lw_at lw_m8 228 rfl) rfl
theorem q2033 : (Jvm.Cond.code ({ cls := "java/util/ArrayList", name := "<init>", desc := "()V" } : Jvm.MethodName) prog_57_method_2_code (1 : Nat) (Option.none : Option Jvm.ClassFile.FieldType)) ∈ lw_all := lw_g (lw_at lw_m8 229 rfl) rfl
theorem q2034 : (Jvm.Cond.methodLink "java/util/ArrayList" (1 : Nat) ({ cls := "java/util/AbstractList", name := "<init>", desc := "()V" } : Jvm.MethodName)) ∈ lw_all := lw_g (lw_at lw_m8 230 rfl) rfl
theorem q2038 : (Jvm.Cond.fieldLink "java/util/ArrayList" (39 : Nat) "java/util/ArrayList" "DEFAULTCAPACITY_EMPTY_ELEMENTDATA" "[Ljava/lang/Object;") ∈ lw_all := lw_g (lw_at lw_m8 234 rfl) rfl
theorem q2039 : (Jvm.Cond.laysStatic "java/util/ArrayList" "DEFAULTCAPACITY_EMPTY_ELEMENTDATA" "[Ljava/lang/Object;") ∈ lw_tbl := lw_at lw_m8 235 rfl
theorem q2040 : (Jvm.Cond.fieldLink "java/util/ArrayList" (9 : Nat) "java/util/ArrayList" "elementData" "[Ljava/lang/Object;") ∈ lw_all := lw_g (lw_at lw_m8 236 rfl) rfl
theorem q2043 : (Jvm.Cond.fieldLink "java/util/ArrayList" (48 : Nat) "java/util/ArrayList" "size" "I") ∈ lw_all := lw_g (lw_at lw_m8 239 rfl) rfl
theorem q2046 : (Jvm.Cond.sameField "java/util/ArrayList" "java/util/AbstractList" "modCount" "I") ∈ lw_all := lw_g (lw_at lw_m9 2 rfl) rfl
theorem q2047 : (Jvm.Cond.fieldLink "java/util/ArrayList" (63 : Nat) "java/util/ArrayList" "modCount" "I") ∈ lw_all := lw_g (lw_at lw_m9 3 rfl) rfl
theorem q2048 : (Jvm.Cond.lays "java/util/ArrayList" "java/util/ArrayList" "elementData" "[Ljava/lang/Object;") ∈ lw_all := lw_g (lw_at lw_m9 4 rfl) rfl
theorem q2049 : (Jvm.Cond.soleField "java/util/ArrayList" "elementData") ∈ lw_all := lw_g (lw_at lw_m9 5 rfl) rfl
theorem q2050 : (Jvm.Cond.lays "java/util/ArrayList" "java/util/ArrayList" "size" "I") ∈ lw_all := lw_g (lw_at lw_m9 6 rfl) rfl
theorem q2051 : (Jvm.Cond.soleField "java/util/ArrayList" "size") ∈ lw_all := lw_g (lw_at lw_m9 7 rfl) rfl
theorem q2052 : (Jvm.Cond.lays "java/util/ArrayList" "java/util/AbstractList" "modCount" "I") ∈ lw_all := lw_g (lw_at lw_m9 8 rfl) rfl
theorem q2054 : (Jvm.Cond.superclass "java/util/ArrayList" "java/util/AbstractList") ∈ lw_all := lw_g (lw_at lw_m9 10 rfl) rfl
theorem q2068 : (Jvm.Cond.castable "java/util/ArrayList" "java/util/List") ∈ lw_tbl := lw_at lw_m9 24 rfl
theorem q2069 : (Jvm.Cond.selects "java/util/ArrayList" ({ cls := "java/util/List", name := "size", desc := "()I" } : Jvm.MethodName) ({ cls := "java/util/ArrayList", name := "size", desc := "()I" } : Jvm.MethodName)) ∈ lw_all := lw_g (lw_at lw_m9 25 rfl) rfl
theorem q2070 : (Jvm.Cond.unhidden "java/util/ArrayList" "size" "()I") ∈ lw_tbl := lw_at lw_m9 26 rfl
theorem q2071 : (Jvm.Cond.publicMethod ({ cls := "java/util/ArrayList", name := "size", desc := "()I" } : Jvm.MethodName)) ∈ lw_tbl := lw_at lw_m9 27 rfl
theorem q2077 : (Jvm.Cond.selects "java/util/ArrayList" ({ cls := "java/util/List", name := "isEmpty", desc := "()Z" } : Jvm.MethodName) ({ cls := "java/util/ArrayList", name := "isEmpty", desc := "()Z" } : Jvm.MethodName)) ∈ lw_all := lw_g (lw_at lw_m9 33 rfl) rfl
theorem q2078 : (Jvm.Cond.unhidden "java/util/ArrayList" "isEmpty" "()Z") ∈ lw_tbl := lw_at lw_m9 34 rfl
theorem q2079 : (Jvm.Cond.instanceMethod ({ cls := "java/util/ArrayList", name := "isEmpty", desc := "()Z" } : Jvm.MethodName)) ∈ lw_all := lw_g (lw_at lw_m9 35 rfl) rfl
theorem q2080 : (Jvm.Cond.publicMethod ({ cls := "java/util/ArrayList", name := "isEmpty", desc := "()Z" } : Jvm.MethodName)) ∈ lw_tbl := lw_at lw_m9 36 rfl
theorem q2081 : (Jvm.Cond.code ({ cls := "java/util/ArrayList", name := "isEmpty", desc := "()Z" } : Jvm.MethodName) prog_57_method_9_code (1 : Nat) (Option.some Jvm.ClassFile.FieldType.boolean)) ∈ lw_all := lw_g (lw_at lw_m9 37 rfl) rfl
theorem q2086 : (Jvm.Cond.selects "java/util/ArrayList" ({ cls := "java/util/List", name := "get", desc := "(I)Ljava/lang/Object;" } : Jvm.MethodName) ({ cls := "java/util/ArrayList", name := "get", desc := "(I)Ljava/lang/Object;" } : Jvm.MethodName)) ∈ lw_all := lw_g (lw_at lw_m9 42 rfl) rfl
theorem q2087 : (Jvm.Cond.unhidden "java/util/ArrayList" "get" "(I)Ljava/lang/Object;") ∈ lw_tbl := lw_at lw_m9 43 rfl
theorem q2088 : (Jvm.Cond.instanceMethod ({ cls := "java/util/ArrayList", name := "get", desc := "(I)Ljava/lang/Object;" } : Jvm.MethodName)) ∈ lw_all := lw_g (lw_at lw_m9 44 rfl) rfl
theorem q2089 : (Jvm.Cond.publicMethod ({ cls := "java/util/ArrayList", name := "get", desc := "(I)Ljava/lang/Object;" } : Jvm.MethodName)) ∈ lw_tbl := lw_at lw_m9 45 rfl
theorem q2090 : (Jvm.Cond.code ({ cls := "java/util/ArrayList", name := "get", desc := "(I)Ljava/lang/Object;" } : Jvm.MethodName) prog_57_method_20_code (2 : Nat) (Option.some (Jvm.ClassFile.FieldType.object "java/lang/Object"))) ∈ lw_all := lw_g (lw_at lw_m9 46 rfl) rfl
theorem q2091 : (Jvm.Cond.methodLink "java/util/ArrayList" (118 : Nat) ({ cls := "java/util/Objects", name := "checkIndex", desc := "(II)I" } : Jvm.MethodName)) ∈ lw_all := lw_g (lw_at lw_m9 47 rfl) rfl
theorem q2095 : (Jvm.Cond.methodLink "java/util/ArrayList" (123 : Nat) ({ cls := "java/util/ArrayList", name := "elementData", desc := "(I)Ljava/lang/Object;" } : Jvm.MethodName)) ∈ lw_all := lw_g (lw_at lw_m9 51 rfl) rfl
theorem q2096 : (Jvm.Cond.instanceMethod ({ cls := "java/util/ArrayList", name := "elementData", desc := "(I)Ljava/lang/Object;" } : Jvm.MethodName)) ∈ lw_all := lw_g (lw_at lw_m9 52 rfl) rfl
theorem q2097 : (Jvm.Cond.selects "java/util/ArrayList" ({ cls := "java/util/ArrayList", name := "elementData", desc := "(I)Ljava/lang/Object;" } : Jvm.MethodName) ({ cls := "java/util/ArrayList", name := "elementData", desc := "(I)Ljava/lang/Object;" } : Jvm.MethodName)) ∈ lw_all := lw_g (lw_at lw_m9 53 rfl) rfl
theorem q2098 : (Jvm.Cond.code ({ cls := "java/util/ArrayList", name := "elementData", desc := "(I)Ljava/lang/Object;" } : Jvm.MethodName) prog_57_method_18_code (2 : Nat) (Option.some (Jvm.ClassFile.FieldType.object "java/lang/Object"))) ∈ lw_all := lw_g (lw_at lw_m9 54 rfl) rfl
theorem q2103 : (Jvm.Cond.selects "java/util/ArrayList" ({ cls := "java/util/List", name := "add", desc := "(Ljava/lang/Object;)Z" } : Jvm.MethodName) ({ cls := "java/util/ArrayList", name := "add", desc := "(Ljava/lang/Object;)Z" } : Jvm.MethodName)) ∈ lw_all := lw_g (lw_at lw_m9 59 rfl) rfl
theorem q2104 : (Jvm.Cond.unhidden "java/util/ArrayList" "add" "(Ljava/lang/Object;)Z") ∈ lw_tbl := lw_at lw_m9 60 rfl
theorem q2105 : (Jvm.Cond.instanceMethod ({ cls := "java/util/ArrayList", name := "add", desc := "(Ljava/lang/Object;)Z" } : Jvm.MethodName)) ∈ lw_all := lw_g (lw_at lw_m9 61 rfl) rfl
theorem q2106 : (Jvm.Cond.publicMethod ({ cls := "java/util/ArrayList", name := "add", desc := "(Ljava/lang/Object;)Z" } : Jvm.MethodName)) ∈ lw_tbl := lw_at lw_m9 62 rfl
theorem q2107 : (Jvm.Cond.code ({ cls := "java/util/ArrayList", name := "add", desc := "(Ljava/lang/Object;)Z" } : Jvm.MethodName) prog_57_method_25_code (2 : Nat) (Option.some Jvm.ClassFile.FieldType.boolean)) ∈ lw_all := lw_g (lw_at lw_m9 63 rfl) rfl
theorem q2108 : (Jvm.Cond.methodLink "java/util/ArrayList" (131 : Nat) ({ cls := "java/util/ArrayList", name := "add", desc := "(Ljava/lang/Object;[Ljava/lang/Object;I)V" } : Jvm.MethodName)) ∈ lw_all := lw_g (lw_at lw_m9 64 rfl) rfl
theorem q2109 : (Jvm.Cond.privateMethod ({ cls := "java/util/ArrayList", name := "add", desc := "(Ljava/lang/Object;[Ljava/lang/Object;I)V" } : Jvm.MethodName)) ∈ lw_tbl := lw_at lw_m9 65 rfl
theorem q2110 : (Jvm.Cond.instanceMethod ({ cls := "java/util/ArrayList", name := "add", desc := "(Ljava/lang/Object;[Ljava/lang/Object;I)V" } : Jvm.MethodName)) ∈ lw_all := lw_g (lw_at lw_m9 66 rfl) rfl
theorem q2111 : (Jvm.Cond.code ({ cls := "java/util/ArrayList", name := "add", desc := "(Ljava/lang/Object;[Ljava/lang/Object;I)V" } : Jvm.MethodName) prog_57_method_24_code (4 : Nat) (Option.none : Option Jvm.ClassFile.FieldType)) ∈ lw_all := lw_g (lw_at lw_m9 67 rfl) rfl
theorem q2112 : (Jvm.Cond.methodLink "java/util/ArrayList" (129 : Nat) ({ cls := "java/util/ArrayList", name := "grow", desc := "()[Ljava/lang/Object;" } : Jvm.MethodName)) ∈ lw_all := lw_g (lw_at lw_m9 68 rfl) rfl
theorem q2113 : (Jvm.Cond.privateMethod ({ cls := "java/util/ArrayList", name := "grow", desc := "()[Ljava/lang/Object;" } : Jvm.MethodName)) ∈ lw_tbl := lw_at lw_m9 69 rfl
theorem q2114 : (Jvm.Cond.instanceMethod ({ cls := "java/util/ArrayList", name := "grow", desc := "()[Ljava/lang/Object;" } : Jvm.MethodName)) ∈ lw_all := lw_g (lw_at lw_m9 70 rfl) rfl
theorem q2115 : (Jvm.Cond.code ({ cls := "java/util/ArrayList", name := "grow", desc := "()[Ljava/lang/Object;" } : Jvm.MethodName) prog_57_method_7_code (1 : Nat) (Option.some (Jvm.ClassFile.FieldType.array (Jvm.ClassFile.FieldType.object "java/lang/Object")))) ∈ lw_all := lw_g (lw_at lw_m9 71 rfl) rfl
theorem q2116 : (Jvm.Cond.methodLink "java/util/ArrayList" (69 : Nat) ({ cls := "java/util/ArrayList", name := "grow", desc := "(I)[Ljava/lang/Object;" } : Jvm.MethodName)) ∈ lw_all := lw_g (lw_at lw_m9 72 rfl) rfl
theorem q2117 : (Jvm.Cond.privateMethod ({ cls := "java/util/ArrayList", name := "grow", desc := "(I)[Ljava/lang/Object;" } : Jvm.MethodName)) ∈ lw_tbl := lw_at lw_m9 73 rfl
theorem q2118 : (Jvm.Cond.instanceMethod ({ cls := "java/util/ArrayList", name := "grow", desc := "(I)[Ljava/lang/Object;" } : Jvm.MethodName)) ∈ lw_all := lw_g (lw_at lw_m9 74 rfl) rfl
theorem q2119 : (Jvm.Cond.code ({ cls := "java/util/ArrayList", name := "grow", desc := "(I)[Ljava/lang/Object;" } : Jvm.MethodName) prog_57_method_6_code (4 : Nat) (Option.some (Jvm.ClassFile.FieldType.array (Jvm.ClassFile.FieldType.object "java/lang/Object")))) ∈ lw_all := lw_g (lw_at lw_m9 75 rfl) rfl
theorem q2120 : (Jvm.Cond.methodLink "java/util/ArrayList" (73 : Nat) ({ cls := "jdk/internal/util/ArraysSupport", name := "newLength", desc := "(III)I" } : Jvm.MethodName)) ∈ lw_all := lw_g (lw_at lw_m9 76 rfl) rfl
theorem q2121 : (Jvm.Cond.methodLink "java/util/ArrayList" (66 : Nat) ({ cls := "java/util/Arrays", name := "copyOf", desc := "([Ljava/lang/Object;I)[Ljava/lang/Object;" } : Jvm.MethodName)) ∈ lw_all := lw_g (lw_at lw_m9 77 rfl) rfl
theorem q2122 : (Jvm.Cond.methodLink "java/util/ArrayList" (79 : Nat) ({ cls := "java/lang/Math", name := "max", desc := "(II)I" } : Jvm.MethodName)) ∈ lw_all := lw_g (lw_at lw_m9 78 rfl) rfl
theorem q2123 : (Jvm.Cond.classLink "java/util/ArrayList" (7 : Nat) "java/lang/Object") ∈ lw_all := lw_g (lw_at lw_m9 79 rfl) rfl
theorem q2308 : (Jvm.Cond.selects "java/util/ArrayList" ({ cls := "java/util/List", name := "iterator", desc := "()Ljava/util/Iterator;" } : Jvm.MethodName) ({ cls := "java/util/ArrayList", name := "iterator", desc := "()Ljava/util/Iterator;" } : Jvm.MethodName)) ∈ lw_all := lw_g (lw_at lw_m10 24 rfl) rfl
theorem q2309 : (Jvm.Cond.unhidden "java/util/ArrayList" "iterator" "()Ljava/util/Iterator;") ∈ lw_tbl := lw_at lw_m10 25 rfl
theorem q2310 : (Jvm.Cond.instanceMethod ({ cls := "java/util/ArrayList", name := "iterator", desc := "()Ljava/util/Iterator;" } : Jvm.MethodName)) ∈ lw_all := lw_g (lw_at lw_m10 26 rfl) rfl
theorem q2311 : (Jvm.Cond.publicMethod ({ cls := "java/util/ArrayList", name := "iterator", desc := "()Ljava/util/Iterator;" } : Jvm.MethodName)) ∈ lw_tbl := lw_at lw_m10 27 rfl
theorem q2312 : (Jvm.Cond.code ({ cls := "java/util/ArrayList", name := "iterator", desc := "()Ljava/util/Iterator;" } : Jvm.MethodName) prog_57_method_55_code (1 : Nat) (Option.some (Jvm.ClassFile.FieldType.object "java/util/Iterator"))) ∈ lw_all := lw_g (lw_at lw_m10 28 rfl) rfl
theorem q2313 : (Jvm.Cond.classLink "java/util/ArrayList" (267 : Nat) "java/util/ArrayList$Itr") ∈ lw_all := lw_g (lw_at lw_m10 29 rfl) rfl
theorem q2315 : (Jvm.Cond.methodLink "java/util/ArrayList" (269 : Nat) ({ cls := "java/util/ArrayList$Itr", name := "<init>", desc := "(Ljava/util/ArrayList;)V" } : Jvm.MethodName)) ∈ lw_all := lw_g (lw_at lw_m10 31 rfl) rfl
theorem q3218 : (Jvm.Cond.castable "java/util/ArrayList" "java/lang/Object") ∈ lw_tbl := lw_at lw_m13 214 rfl
theorem in_J24 : ∀ w ∈ wsJ240, w ∈ lw_all := lw_in wsJ240 [2052, 2048, 2050] (by decide +kernel) (by decide +kernel)
/-! java/util/ArrayList$Itr -/
set_option maxRecDepth 100000
def RJ25 : String := "java/util/ArrayList$Itr"
def TJ25 : u_T := fun k => match k with
  | 0 => ("java/util/ArrayList$Itr", "cursor", "I", false)
  | 1 => ("java/util/ArrayList$Itr", "lastRet", "I", false)
  | 2 => ("java/util/ArrayList$Itr", "expectedModCount", "I", false)
  | _ => ("java/util/ArrayList$Itr", "this$0", "Ljava/util/ArrayList;", true)
def tyJ25 : Nat → FieldType := fun k => match k with
  | 0 => .int
  | 1 => .int
  | 2 => .int
  | _ => .object "java/util/ArrayList"
abbrev wsJ250 : List Cond := u_ws RJ25 TJ25 4
theorem nmJ25 : ∀ a, a < 4 → ∀ b, b < 4 → a ≠ b → (TJ25 a).2.1 ≠ (TJ25 b).2.1 := by decide +kernel
theorem tyJ25_ok : ∀ k, k < 4 → parseFieldDescriptor (TJ25 k).2.2.1 = some (tyJ25 k) := by decide +kernel
abbrev cJ25_init : ByteArray := prog_58_method_1_code
def yJ25_init : MethodName := ⟨RJ25, "<init>", "(Ljava/util/ArrayList;)V"⟩
def dkwJ25_init_1 : List UInt8 := [181, 0, 22, 177]
abbrev dktJ25_init_1 : List UInt8 := dkwJ25_init_1 ++ []
def dkwJ25_init_0 : List UInt8 := [42, 43, 181, 0, 1, 42, 183, 0, 7, 42, 2, 181, 0, 13, 42, 42, 180, 0, 1, 180, 0, 17]
abbrev dktJ25_init_0 : List UInt8 := dkwJ25_init_0 ++ dktJ25_init_1
theorem dksJ25_init_0 : cJ25_init.data.toList.drop 0 = dktJ25_init_0 := by decide +kernel
theorem dksJ25_init_1 : cJ25_init.data.toList.drop 22 = dktJ25_init_1 := dk_seg dksJ25_init_0 22 rfl rfl
theorem dJ25_init_0 : decode cJ25_init 0 = .ok (.aload_n 0, 1) := dk_42 (dk_at dksJ25_init_0 0 rfl rfl)
theorem dJ25_init_1 : decode cJ25_init 1 = .ok (.aload_n 1, 1) := dk_43 (dk_at dksJ25_init_0 1 rfl rfl)
theorem dJ25_init_2 : decode cJ25_init 2 = .ok (.putfield 1, 3) := dk_181 0 1 (dk_at dksJ25_init_0 2 rfl rfl)
theorem dJ25_init_5 : decode cJ25_init 5 = .ok (.aload_n 0, 1) := dk_42 (dk_at dksJ25_init_0 5 rfl rfl)
theorem dJ25_init_6 : decode cJ25_init 6 = .ok (.invokespecial 7, 3) := dk_183 0 7 (dk_at dksJ25_init_0 6 rfl rfl)
theorem dJ25_init_9 : decode cJ25_init 9 = .ok (.aload_n 0, 1) := dk_42 (dk_at dksJ25_init_0 9 rfl rfl)
theorem dJ25_init_10 : decode cJ25_init 10 = .ok (.iconst (-1), 1) := dk_2 (dk_at dksJ25_init_0 10 rfl rfl)
theorem dJ25_init_11 : decode cJ25_init 11 = .ok (.putfield 13, 3) := dk_181 0 13 (dk_at dksJ25_init_0 11 rfl rfl)
theorem dJ25_init_14 : decode cJ25_init 14 = .ok (.aload_n 0, 1) := dk_42 (dk_at dksJ25_init_0 14 rfl rfl)
theorem dJ25_init_15 : decode cJ25_init 15 = .ok (.aload_n 0, 1) := dk_42 (dk_at dksJ25_init_0 15 rfl rfl)
theorem dJ25_init_16 : decode cJ25_init 16 = .ok (.getfield 1, 3) := dk_180 0 1 (dk_at dksJ25_init_0 16 rfl rfl)
theorem dJ25_init_19 : decode cJ25_init 19 = .ok (.getfield 17, 3) := dk_180 0 17 (dk_at dksJ25_init_0 19 rfl rfl)
theorem dJ25_init_22 : decode cJ25_init 22 = .ok (.putfield 22, 3) := dk_181 0 22 (dk_at dksJ25_init_1 0 rfl rfl)
theorem dJ25_init_25 : decode cJ25_init 25 = .ok (.return_, 1) := dk_177 (dk_at dksJ25_init_1 3 rfl rfl)
abbrev cJ25_hasNext : ByteArray := prog_58_method_2_code
def yJ25_hasNext : MethodName := ⟨RJ25, "hasNext", "()Z"⟩
def dkwJ25_hasNext_0 : List UInt8 := [42, 180, 0, 25, 42, 180, 0, 1, 180, 0, 28, 159, 0, 7, 4, 167, 0, 4, 3, 172]
abbrev dktJ25_hasNext_0 : List UInt8 := dkwJ25_hasNext_0 ++ []
theorem dksJ25_hasNext_0 : cJ25_hasNext.data.toList.drop 0 = dktJ25_hasNext_0 := by decide +kernel
theorem dJ25_hasNext_0 : decode cJ25_hasNext 0 = .ok (.aload_n 0, 1) := dk_42 (dk_at dksJ25_hasNext_0 0 rfl rfl)
theorem dJ25_hasNext_1 : decode cJ25_hasNext 1 = .ok (.getfield 25, 3) := dk_180 0 25 (dk_at dksJ25_hasNext_0 1 rfl rfl)
theorem dJ25_hasNext_4 : decode cJ25_hasNext 4 = .ok (.aload_n 0, 1) := dk_42 (dk_at dksJ25_hasNext_0 4 rfl rfl)
theorem dJ25_hasNext_5 : decode cJ25_hasNext 5 = .ok (.getfield 1, 3) := dk_180 0 1 (dk_at dksJ25_hasNext_0 5 rfl rfl)
theorem dJ25_hasNext_8 : decode cJ25_hasNext 8 = .ok (.getfield 28, 3) := dk_180 0 28 (dk_at dksJ25_hasNext_0 8 rfl rfl)
theorem dJ25_hasNext_11 : decode cJ25_hasNext 11 = .ok (.if_icmp .eq 7, 3) := dk_159 0 7 (dk_at dksJ25_hasNext_0 11 rfl rfl)
theorem dJ25_hasNext_14 : decode cJ25_hasNext 14 = .ok (.iconst 1, 1) := dk_4 (dk_at dksJ25_hasNext_0 14 rfl rfl)
theorem dJ25_hasNext_15 : decode cJ25_hasNext 15 = .ok (.goto 4, 3) := dk_167 0 4 (dk_at dksJ25_hasNext_0 15 rfl rfl)
theorem dJ25_hasNext_18 : decode cJ25_hasNext 18 = .ok (.iconst 0, 1) := dk_3 (dk_at dksJ25_hasNext_0 18 rfl rfl)
theorem dJ25_hasNext_19 : decode cJ25_hasNext 19 = .ok (.ireturn, 1) := dk_172 (dk_at dksJ25_hasNext_0 19 rfl rfl)
abbrev cJ25_next : ByteArray := prog_58_method_3_code
def yJ25_next : MethodName := ⟨RJ25, "next", "()Ljava/lang/Object;"⟩
def dkwJ25_next_2 : List UInt8 := [183, 0, 43, 191, 42, 27, 4, 96, 181, 0, 25, 44, 42, 27, 90, 181, 0, 13, 50, 176]
abbrev dktJ25_next_2 : List UInt8 := dkwJ25_next_2 ++ []
def dkwJ25_next_1 : List UInt8 := [183, 0, 36, 191, 42, 180, 0, 1, 180, 0, 37, 77, 27, 44, 190, 161, 0, 11, 187, 0, 41, 89]
abbrev dktJ25_next_1 : List UInt8 := dkwJ25_next_1 ++ dktJ25_next_2
def dkwJ25_next_0 : List UInt8 := [42, 182, 0, 31, 42, 180, 0, 25, 60, 27, 42, 180, 0, 1, 180, 0, 28, 161, 0, 11, 187, 0, 34, 89]
abbrev dktJ25_next_0 : List UInt8 := dkwJ25_next_0 ++ dktJ25_next_1
theorem dksJ25_next_0 : cJ25_next.data.toList.drop 0 = dktJ25_next_0 := by decide +kernel
theorem dksJ25_next_1 : cJ25_next.data.toList.drop 24 = dktJ25_next_1 := dk_seg dksJ25_next_0 24 rfl rfl
theorem dksJ25_next_2 : cJ25_next.data.toList.drop 46 = dktJ25_next_2 := dk_seg dksJ25_next_1 22 rfl rfl
theorem dJ25_next_0 : decode cJ25_next 0 = .ok (.aload_n 0, 1) := dk_42 (dk_at dksJ25_next_0 0 rfl rfl)
theorem dJ25_next_1 : decode cJ25_next 1 = .ok (.invokevirtual 31, 3) := dk_182 0 31 (dk_at dksJ25_next_0 1 rfl rfl)
theorem dJ25_next_4 : decode cJ25_next 4 = .ok (.aload_n 0, 1) := dk_42 (dk_at dksJ25_next_0 4 rfl rfl)
theorem dJ25_next_5 : decode cJ25_next 5 = .ok (.getfield 25, 3) := dk_180 0 25 (dk_at dksJ25_next_0 5 rfl rfl)
theorem dJ25_next_8 : decode cJ25_next 8 = .ok (.istore_n 1, 1) := dk_60 (dk_at dksJ25_next_0 8 rfl rfl)
theorem dJ25_next_9 : decode cJ25_next 9 = .ok (.iload_n 1, 1) := dk_27 (dk_at dksJ25_next_0 9 rfl rfl)
theorem dJ25_next_10 : decode cJ25_next 10 = .ok (.aload_n 0, 1) := dk_42 (dk_at dksJ25_next_0 10 rfl rfl)
theorem dJ25_next_11 : decode cJ25_next 11 = .ok (.getfield 1, 3) := dk_180 0 1 (dk_at dksJ25_next_0 11 rfl rfl)
theorem dJ25_next_14 : decode cJ25_next 14 = .ok (.getfield 28, 3) := dk_180 0 28 (dk_at dksJ25_next_0 14 rfl rfl)
theorem dJ25_next_17 : decode cJ25_next 17 = .ok (.if_icmp .lt 11, 3) := dk_161 0 11 (dk_at dksJ25_next_0 17 rfl rfl)
theorem dJ25_next_20 : decode cJ25_next 20 = .ok (.new 34, 3) := dk_187 0 34 (dk_at dksJ25_next_0 20 rfl rfl)
theorem dJ25_next_23 : decode cJ25_next 23 = .ok (.dup, 1) := dk_89 (dk_at dksJ25_next_0 23 rfl rfl)
theorem dJ25_next_24 : decode cJ25_next 24 = .ok (.invokespecial 36, 3) := dk_183 0 36 (dk_at dksJ25_next_1 0 rfl rfl)
theorem dJ25_next_27 : decode cJ25_next 27 = .ok (.athrow, 1) := dk_191 (dk_at dksJ25_next_1 3 rfl rfl)
theorem dJ25_next_28 : decode cJ25_next 28 = .ok (.aload_n 0, 1) := dk_42 (dk_at dksJ25_next_1 4 rfl rfl)
theorem dJ25_next_29 : decode cJ25_next 29 = .ok (.getfield 1, 3) := dk_180 0 1 (dk_at dksJ25_next_1 5 rfl rfl)
theorem dJ25_next_32 : decode cJ25_next 32 = .ok (.getfield 37, 3) := dk_180 0 37 (dk_at dksJ25_next_1 8 rfl rfl)
theorem dJ25_next_35 : decode cJ25_next 35 = .ok (.astore_n 2, 1) := dk_77 (dk_at dksJ25_next_1 11 rfl rfl)
theorem dJ25_next_36 : decode cJ25_next 36 = .ok (.iload_n 1, 1) := dk_27 (dk_at dksJ25_next_1 12 rfl rfl)
theorem dJ25_next_37 : decode cJ25_next 37 = .ok (.aload_n 2, 1) := dk_44 (dk_at dksJ25_next_1 13 rfl rfl)
theorem dJ25_next_38 : decode cJ25_next 38 = .ok (.arraylength, 1) := dk_190 (dk_at dksJ25_next_1 14 rfl rfl)
theorem dJ25_next_39 : decode cJ25_next 39 = .ok (.if_icmp .lt 11, 3) := dk_161 0 11 (dk_at dksJ25_next_1 15 rfl rfl)
theorem dJ25_next_42 : decode cJ25_next 42 = .ok (.new 41, 3) := dk_187 0 41 (dk_at dksJ25_next_1 18 rfl rfl)
theorem dJ25_next_45 : decode cJ25_next 45 = .ok (.dup, 1) := dk_89 (dk_at dksJ25_next_1 21 rfl rfl)
theorem dJ25_next_46 : decode cJ25_next 46 = .ok (.invokespecial 43, 3) := dk_183 0 43 (dk_at dksJ25_next_2 0 rfl rfl)
theorem dJ25_next_49 : decode cJ25_next 49 = .ok (.athrow, 1) := dk_191 (dk_at dksJ25_next_2 3 rfl rfl)
theorem dJ25_next_50 : decode cJ25_next 50 = .ok (.aload_n 0, 1) := dk_42 (dk_at dksJ25_next_2 4 rfl rfl)
theorem dJ25_next_51 : decode cJ25_next 51 = .ok (.iload_n 1, 1) := dk_27 (dk_at dksJ25_next_2 5 rfl rfl)
theorem dJ25_next_52 : decode cJ25_next 52 = .ok (.iconst 1, 1) := dk_4 (dk_at dksJ25_next_2 6 rfl rfl)
theorem dJ25_next_53 : decode cJ25_next 53 = .ok (.iadd, 1) := dk_96 (dk_at dksJ25_next_2 7 rfl rfl)
theorem dJ25_next_54 : decode cJ25_next 54 = .ok (.putfield 25, 3) := dk_181 0 25 (dk_at dksJ25_next_2 8 rfl rfl)
theorem dJ25_next_57 : decode cJ25_next 57 = .ok (.aload_n 2, 1) := dk_44 (dk_at dksJ25_next_2 11 rfl rfl)
theorem dJ25_next_58 : decode cJ25_next 58 = .ok (.aload_n 0, 1) := dk_42 (dk_at dksJ25_next_2 12 rfl rfl)
theorem dJ25_next_59 : decode cJ25_next 59 = .ok (.iload_n 1, 1) := dk_27 (dk_at dksJ25_next_2 13 rfl rfl)
theorem dJ25_next_60 : decode cJ25_next 60 = .ok (.dup_x1, 1) := dk_90 (dk_at dksJ25_next_2 14 rfl rfl)
theorem dJ25_next_61 : decode cJ25_next 61 = .ok (.putfield 13, 3) := dk_181 0 13 (dk_at dksJ25_next_2 15 rfl rfl)
theorem dJ25_next_64 : decode cJ25_next 64 = .ok (.aaload, 1) := dk_50 (dk_at dksJ25_next_2 18 rfl rfl)
theorem dJ25_next_65 : decode cJ25_next 65 = .ok (.areturn, 1) := dk_176 (dk_at dksJ25_next_2 19 rfl rfl)
abbrev cJ25_checkForComodification : ByteArray := prog_58_method_6_code
def yJ25_checkForComodification : MethodName := ⟨RJ25, "checkForComodification", "()V"⟩
def dkwJ25_checkForComodification_0 : List UInt8 := [42, 180, 0, 1, 180, 0, 17, 42, 180, 0, 22, 159, 0, 11, 187, 0, 41, 89, 183, 0, 43, 191, 177]
abbrev dktJ25_checkForComodification_0 : List UInt8 := dkwJ25_checkForComodification_0 ++ []
theorem dksJ25_checkForComodification_0 : cJ25_checkForComodification.data.toList.drop 0 = dktJ25_checkForComodification_0 := by decide +kernel
theorem dJ25_checkForComodification_0 : decode cJ25_checkForComodification 0 = .ok (.aload_n 0, 1) := dk_42 (dk_at dksJ25_checkForComodification_0 0 rfl rfl)
theorem dJ25_checkForComodification_1 : decode cJ25_checkForComodification 1 = .ok (.getfield 1, 3) := dk_180 0 1 (dk_at dksJ25_checkForComodification_0 1 rfl rfl)
theorem dJ25_checkForComodification_4 : decode cJ25_checkForComodification 4 = .ok (.getfield 17, 3) := dk_180 0 17 (dk_at dksJ25_checkForComodification_0 4 rfl rfl)
theorem dJ25_checkForComodification_7 : decode cJ25_checkForComodification 7 = .ok (.aload_n 0, 1) := dk_42 (dk_at dksJ25_checkForComodification_0 7 rfl rfl)
theorem dJ25_checkForComodification_8 : decode cJ25_checkForComodification 8 = .ok (.getfield 22, 3) := dk_180 0 22 (dk_at dksJ25_checkForComodification_0 8 rfl rfl)
theorem dJ25_checkForComodification_11 : decode cJ25_checkForComodification 11 = .ok (.if_icmp .eq 11, 3) := dk_159 0 11 (dk_at dksJ25_checkForComodification_0 11 rfl rfl)
theorem dJ25_checkForComodification_14 : decode cJ25_checkForComodification 14 = .ok (.new 41, 3) := dk_187 0 41 (dk_at dksJ25_checkForComodification_0 14 rfl rfl)
theorem dJ25_checkForComodification_17 : decode cJ25_checkForComodification 17 = .ok (.dup, 1) := dk_89 (dk_at dksJ25_checkForComodification_0 17 rfl rfl)
theorem dJ25_checkForComodification_18 : decode cJ25_checkForComodification 18 = .ok (.invokespecial 43, 3) := dk_183 0 43 (dk_at dksJ25_checkForComodification_0 18 rfl rfl)
theorem dJ25_checkForComodification_21 : decode cJ25_checkForComodification 21 = .ok (.athrow, 1) := dk_191 (dk_at dksJ25_checkForComodification_0 21 rfl rfl)
theorem dJ25_checkForComodification_22 : decode cJ25_checkForComodification 22 = .ok (.return_, 1) := dk_177 (dk_at dksJ25_checkForComodification_0 22 rfl rfl)
theorem q179 : (Jvm.Cond.initialized "java/util/ArrayList$Itr") ∈ lw_all := lw_g (lw_at lw_m1 55 rfl) rfl
theorem q1116 : (Jvm.Cond.selects "java/util/ArrayList$Itr" ({ cls := "java/lang/Object", name := "getClass", desc := "()Ljava/lang/Class;" } : Jvm.MethodName) ({ cls := "java/lang/Object", name := "getClass", desc := "()Ljava/lang/Class;" } : Jvm.MethodName)) ∈ lw_all := lw_g (lw_at lw_m5 32 rfl) rfl
theorem q2041 : (Jvm.Cond.fieldLink "java/util/ArrayList$Itr" (37 : Nat) "java/util/ArrayList" "elementData" "[Ljava/lang/Object;") ∈ lw_all := lw_g (lw_at lw_m8 237 rfl) rfl
theorem q2042 : (Jvm.Cond.fieldLinkNest "java/util/ArrayList$Itr" (28 : Nat) "java/util/ArrayList" "size" "I" "java/util/ArrayList") ∈ lw_tbl := lw_at lw_m8 238 rfl
theorem q2045 : (Jvm.Cond.fieldLink "java/util/ArrayList$Itr" (17 : Nat) "java/util/ArrayList" "modCount" "I") ∈ lw_all := lw_g (lw_at lw_m9 1 rfl) rfl
theorem q2314 : (Jvm.Cond.instantiable "java/util/ArrayList$Itr" (4 : Nat)) ∈ lw_all := lw_g (lw_at lw_m10 30 rfl) rfl
theorem q2316 : (Jvm.Cond.instanceMethod ({ cls := "java/util/ArrayList$Itr", name := "<init>", desc := "(Ljava/util/ArrayList;)V" } : Jvm.MethodName)) ∈ lw_all := lw_g (lw_at lw_m10 32 rfl) rfl
theorem q2317 : (Jvm.Cond.code ({ cls := "java/util/ArrayList$Itr", name := "<init>", desc := "(Ljava/util/ArrayList;)V" } : Jvm.MethodName) prog_58_method_1_code (2 : Nat) (Option.none : Option Jvm.ClassFile.FieldType)) ∈ lw_all := lw_g (lw_at lw_m10 33 rfl) rfl
theorem q2318 : (Jvm.Cond.methodLink "java/util/ArrayList$Itr" (7 : Nat) ({ cls := "java/lang/Object", name := "<init>", desc := "()V" } : Jvm.MethodName)) ∈ lw_all := lw_g (lw_at lw_m10 34 rfl) rfl
theorem q2319 : (Jvm.Cond.fieldLink "java/util/ArrayList$Itr" (25 : Nat) "java/util/ArrayList$Itr" "cursor" "I") ∈ lw_all := lw_g (lw_at lw_m10 35 rfl) rfl
theorem q2320 : (Jvm.Cond.fieldLink "java/util/ArrayList$Itr" (13 : Nat) "java/util/ArrayList$Itr" "lastRet" "I") ∈ lw_all := lw_g (lw_at lw_m10 36 rfl) rfl
theorem q2321 : (Jvm.Cond.fieldLink "java/util/ArrayList$Itr" (22 : Nat) "java/util/ArrayList$Itr" "expectedModCount" "I") ∈ lw_all := lw_g (lw_at lw_m10 37 rfl) rfl
theorem q2322 : (Jvm.Cond.fieldLink "java/util/ArrayList$Itr" (1 : Nat) "java/util/ArrayList$Itr" "this$0" "Ljava/util/ArrayList;") ∈ lw_all := lw_g (lw_at lw_m10 38 rfl) rfl
theorem q2323 : (Jvm.Cond.lays "java/util/ArrayList$Itr" "java/util/ArrayList$Itr" "cursor" "I") ∈ lw_all := lw_g (lw_at lw_m10 39 rfl) rfl
theorem q2324 : (Jvm.Cond.soleField "java/util/ArrayList$Itr" "cursor") ∈ lw_all := lw_g (lw_at lw_m10 40 rfl) rfl
theorem q2325 : (Jvm.Cond.lays "java/util/ArrayList$Itr" "java/util/ArrayList$Itr" "lastRet" "I") ∈ lw_all := lw_g (lw_at lw_m10 41 rfl) rfl
theorem q2326 : (Jvm.Cond.soleField "java/util/ArrayList$Itr" "lastRet") ∈ lw_all := lw_g (lw_at lw_m10 42 rfl) rfl
theorem q2327 : (Jvm.Cond.lays "java/util/ArrayList$Itr" "java/util/ArrayList$Itr" "expectedModCount" "I") ∈ lw_all := lw_g (lw_at lw_m10 43 rfl) rfl
theorem q2328 : (Jvm.Cond.soleField "java/util/ArrayList$Itr" "expectedModCount") ∈ lw_all := lw_g (lw_at lw_m10 44 rfl) rfl
theorem q2329 : (Jvm.Cond.laysFinal "java/util/ArrayList$Itr" "java/util/ArrayList$Itr" "this$0" "Ljava/util/ArrayList;") ∈ lw_all := lw_g (lw_at lw_m10 45 rfl) rfl
theorem q2330 : (Jvm.Cond.soleField "java/util/ArrayList$Itr" "this$0") ∈ lw_all := lw_g (lw_at lw_m10 46 rfl) rfl
theorem q2331 : (Jvm.Cond.superclass "java/util/ArrayList$Itr" "java/lang/Object") ∈ lw_all := lw_g (lw_at lw_m10 47 rfl) rfl
theorem q2336 : (Jvm.Cond.castable "java/util/ArrayList$Itr" "java/util/Iterator") ∈ lw_tbl := lw_at lw_m10 52 rfl
theorem q2337 : (Jvm.Cond.selects "java/util/ArrayList$Itr" ({ cls := "java/util/Iterator", name := "hasNext", desc := "()Z" } : Jvm.MethodName) ({ cls := "java/util/ArrayList$Itr", name := "hasNext", desc := "()Z" } : Jvm.MethodName)) ∈ lw_all := lw_g (lw_at lw_m10 53 rfl) rfl
theorem q2338 : (Jvm.Cond.unhidden "java/util/ArrayList$Itr" "hasNext" "()Z") ∈ lw_tbl := lw_at lw_m10 54 rfl
theorem q2339 : (Jvm.Cond.instanceMethod ({ cls := "java/util/ArrayList$Itr", name := "hasNext", desc := "()Z" } : Jvm.MethodName)) ∈ lw_all := lw_g (lw_at lw_m10 55 rfl) rfl
theorem q2340 : (Jvm.Cond.publicMethod ({ cls := "java/util/ArrayList$Itr", name := "hasNext", desc := "()Z" } : Jvm.MethodName)) ∈ lw_tbl := lw_at lw_m10 56 rfl
theorem q2341 : (Jvm.Cond.code ({ cls := "java/util/ArrayList$Itr", name := "hasNext", desc := "()Z" } : Jvm.MethodName) prog_58_method_2_code (1 : Nat) (Option.some Jvm.ClassFile.FieldType.boolean)) ∈ lw_all := lw_g (lw_at lw_m10 57 rfl) rfl
theorem q2346 : (Jvm.Cond.selects "java/util/ArrayList$Itr" ({ cls := "java/util/Iterator", name := "next", desc := "()Ljava/lang/Object;" } : Jvm.MethodName) ({ cls := "java/util/ArrayList$Itr", name := "next", desc := "()Ljava/lang/Object;" } : Jvm.MethodName)) ∈ lw_all := lw_g (lw_at lw_m10 62 rfl) rfl
theorem q2347 : (Jvm.Cond.unhidden "java/util/ArrayList$Itr" "next" "()Ljava/lang/Object;") ∈ lw_tbl := lw_at lw_m10 63 rfl
theorem q2348 : (Jvm.Cond.instanceMethod ({ cls := "java/util/ArrayList$Itr", name := "next", desc := "()Ljava/lang/Object;" } : Jvm.MethodName)) ∈ lw_all := lw_g (lw_at lw_m10 64 rfl) rfl
theorem q2349 : (Jvm.Cond.publicMethod ({ cls := "java/util/ArrayList$Itr", name := "next", desc := "()Ljava/lang/Object;" } : Jvm.MethodName)) ∈ lw_tbl := lw_at lw_m10 65 rfl
theorem q2350 : (Jvm.Cond.code ({ cls := "java/util/ArrayList$Itr", name := "next", desc := "()Ljava/lang/Object;" } : Jvm.MethodName) prog_58_method_3_code (3 : Nat) (Option.some (Jvm.ClassFile.FieldType.object "java/lang/Object"))) ∈ lw_all := lw_g (lw_at lw_m10 66 rfl) rfl
theorem q2351 : (Jvm.Cond.methodLink "java/util/ArrayList$Itr" (31 : Nat) ({ cls := "java/util/ArrayList$Itr", name := "checkForComodification", desc := "()V" } : Jvm.MethodName)) ∈ lw_all := lw_g (lw_at lw_m10 67 rfl) rfl
theorem q2352 : (Jvm.Cond.instanceMethod ({ cls := "java/util/ArrayList$Itr", name := "checkForComodification", desc := "()V" } : Jvm.MethodName)) ∈ lw_all := lw_g (lw_at lw_m10 68 rfl) rfl
theorem q2353 : (Jvm.Cond.selects "java/util/ArrayList$Itr" ({ cls := "java/util/ArrayList$Itr", name := "checkForComodification", desc := "()V" } : Jvm.MethodName) ({ cls := "java/util/ArrayList$Itr", name := "checkForComodification", desc := "()V" } : Jvm.MethodName)) ∈ lw_all := lw_g (lw_at lw_m10 69 rfl) rfl
theorem q2354 : (Jvm.Cond.code ({ cls := "java/util/ArrayList$Itr", name := "checkForComodification", desc := "()V" } : Jvm.MethodName) prog_58_method_6_code (1 : Nat) (Option.none : Option Jvm.ClassFile.FieldType)) ∈ lw_all := lw_g (lw_at lw_m10 70 rfl) rfl
theorem q3223 : (Jvm.Cond.castable "java/util/ArrayList$Itr" "java/lang/Object") ∈ lw_tbl := lw_at lw_m13 219 rfl
theorem in_J25 : ∀ w ∈ wsJ250, w ∈ lw_all := lw_in wsJ250 [2323, 2325, 2327, 2329] (by decide +kernel) (by decide +kernel)
/-! java/util/TreeMap$EntrySet -/
set_option maxRecDepth 100000
def RJ26 : String := "java/util/TreeMap$EntrySet"
abbrev cJ26_size : ByteArray := prog_78_method_5_code
def yJ26_size : MethodName := ⟨RJ26, "size", "()I"⟩
def dkwJ26_size_0 : List UInt8 := [42, 180, 0, 1, 182, 0, 48, 172]
abbrev dktJ26_size_0 : List UInt8 := dkwJ26_size_0 ++ []
theorem dksJ26_size_0 : cJ26_size.data.toList.drop 0 = dktJ26_size_0 := by decide +kernel
theorem dJ26_size_0 : decode cJ26_size 0 = .ok (.aload_n 0, 1) := dk_42 (dk_at dksJ26_size_0 0 rfl rfl)
theorem dJ26_size_1 : decode cJ26_size 1 = .ok (.getfield 1, 3) := dk_180 0 1 (dk_at dksJ26_size_0 1 rfl rfl)
theorem dJ26_size_4 : decode cJ26_size 4 = .ok (.invokevirtual 48, 3) := dk_182 0 48 (dk_at dksJ26_size_0 4 rfl rfl)
theorem dJ26_size_7 : decode cJ26_size 7 = .ok (.ireturn, 1) := dk_172 (dk_at dksJ26_size_0 7 rfl rfl)
theorem q182 : (Jvm.Cond.initialized "java/util/TreeMap$EntrySet") ∈ lw_all := lw_g (lw_at lw_m1 58 rfl) rfl
theorem q1120 : (Jvm.Cond.selects "java/util/TreeMap$EntrySet" ({ cls := "java/lang/Object", name := "getClass", desc := "()Ljava/lang/Class;" } : Jvm.MethodName) ({ cls := "java/lang/Object", name := "getClass", desc := "()Ljava/lang/Class;" } : Jvm.MethodName)) ∈ lw_all := lw_g (lw_at lw_m5 36 rfl) rfl
theorem q1552 : (Jvm.Cond.selects "java/util/TreeMap$EntrySet" ({ cls := "java/util/AbstractCollection", name := "size", desc := "()I" } : Jvm.MethodName) ({ cls := "java/util/TreeMap$EntrySet", name := "size", desc := "()I" } : Jvm.MethodName)) ∈ lw_all := lw_g (lw_at lw_m6 228 rfl) rfl
theorem q1553 : (Jvm.Cond.instanceMethod ({ cls := "java/util/TreeMap$EntrySet", name := "size", desc := "()I" } : Jvm.MethodName)) ∈ lw_all := lw_g (lw_at lw_m6 229 rfl) rfl
theorem q1554 : (Jvm.Cond.code ({ cls := "java/util/TreeMap$EntrySet", name := "size", desc := "()I" } : Jvm.MethodName) prog_78_method_5_code (1 : Nat) (Option.some Jvm.ClassFile.FieldType.int)) ∈ lw_all := lw_g (lw_at lw_m6 230 rfl) rfl
theorem q1555 : (Jvm.Cond.methodLink "java/util/TreeMap$EntrySet" (48 : Nat) ({ cls := "java/util/TreeMap", name := "size", desc := "()I" } : Jvm.MethodName)) ∈ lw_all := lw_g (lw_at lw_m6 231 rfl) rfl
theorem q3225 : (Jvm.Cond.castable "java/util/TreeMap$EntrySet" "java/lang/Object") ∈ lw_tbl := lw_at lw_m13 221 rfl
theorem q3239 : (Jvm.Cond.fieldLink "java/util/TreeMap$EntrySet" (1 : Nat) "java/util/TreeMap$EntrySet" "this$0" "Ljava/util/TreeMap;") ∈ lw_all := lw_g (lw_at lw_m13 235 rfl) rfl
/-! java/lang/Object -/
set_option maxRecDepth 100000
def RJ27 : String := "java/lang/Object"
abbrev cJ27_init : ByteArray := object_method_1_code
def yJ27_init : MethodName := ⟨RJ27, "<init>", "()V"⟩
theorem dJ27_init_0 : decode cJ27_init 0 = .ok (.return_, 1) := by decide +kernel
theorem q189 : (Jvm.Cond.instanceMethod ({ cls := "java/lang/Object", name := "<init>", desc := "()V" } : Jvm.MethodName)) ∈ lw_all := lw_g (lw_at lw_m1 65 rfl) rfl
theorem q190 : (Jvm.Cond.code ({ cls := "java/lang/Object", name := "<init>", desc := "()V" } : Jvm.MethodName) object_method_1_code (1 : Nat) (Option.none : Option Jvm.ClassFile.FieldType)) ∈ lw_all := lw_g (lw_at lw_m1 66 rfl) rfl
theorem q1084 : (Jvm.Cond.instanceMethod ({ cls := "java/lang/Object", name := "getClass", desc := "()Ljava/lang/Class;" } : Jvm.MethodName)) ∈ lw_all := lw_g (lw_at lw_m5 0 rfl) rfl
theorem q1085 : (Jvm.Cond.sameMethod "java/lang/Object" "java/lang/Object" "getClass" "()Ljava/lang/Class;") ∈ lw_all := lw_g (lw_at lw_m5 1 rfl) rfl
theorem q1122 : (Jvm.Cond.native ({ cls := "java/lang/Object", name := "getClass", desc := "()Ljava/lang/Class;" } : Jvm.MethodName)) ∈ lw_all := lw_g (lw_at lw_m5 38 rfl) rfl
theorem q1695 : (Jvm.Cond.native ({ cls := "java/lang/Object", name := "clone", desc := "()Ljava/lang/Object;" } : Jvm.MethodName)) ∈ lw_all := lw_g (lw_at lw_m7 131 rfl) rfl
theorem q1696 : (Jvm.Cond.instanceMethod ({ cls := "java/lang/Object", name := "clone", desc := "()Ljava/lang/Object;" } : Jvm.MethodName)) ∈ lw_all := lw_g (lw_at lw_m7 132 rfl) rfl
theorem q3188 : (Jvm.Cond.initialized "java/lang/Object") ∈ lw_all := lw_g (lw_at lw_m13 184 rfl) rfl
theorem q3229 : (Jvm.Cond.declares ({ cls := "java/lang/Object", name := "getClass", desc := "()Ljava/lang/Class;" } : Jvm.MethodName)) ∈ lw_tbl := lw_at lw_m13 225 rfl
/-! java/lang/System$2 -/
set_option maxRecDepth 100000
def RJ28 : String := "java/lang/System$2"
abbrev cJ28_getUTF16Char : ByteArray := prog_47_method_45_code
def yJ28_getUTF16Char : MethodName := ⟨RJ28, "getUTF16Char", "([BI)C"⟩
def dkwJ28_getUTF16Char_0 : List UInt8 := [43, 28, 184, 0, 185, 172]
abbrev dktJ28_getUTF16Char_0 : List UInt8 := dkwJ28_getUTF16Char_0 ++ []
theorem dksJ28_getUTF16Char_0 : cJ28_getUTF16Char.data.toList.drop 0 = dktJ28_getUTF16Char_0 := by decide +kernel
theorem dJ28_getUTF16Char_0 : decode cJ28_getUTF16Char 0 = .ok (.aload_n 1, 1) := dk_43 (dk_at dksJ28_getUTF16Char_0 0 rfl rfl)
theorem dJ28_getUTF16Char_1 : decode cJ28_getUTF16Char 1 = .ok (.iload_n 2, 1) := dk_28 (dk_at dksJ28_getUTF16Char_0 1 rfl rfl)
theorem dJ28_getUTF16Char_2 : decode cJ28_getUTF16Char 2 = .ok (.invokestatic 185, 3) := dk_184 0 185 (dk_at dksJ28_getUTF16Char_0 2 rfl rfl)
theorem dJ28_getUTF16Char_5 : decode cJ28_getUTF16Char 5 = .ok (.ireturn, 1) := dk_172 (dk_at dksJ28_getUTF16Char_0 5 rfl rfl)
theorem q886 : (Jvm.Cond.castable "java/lang/System$2" "jdk/internal/access/JavaLangAccess") ∈ lw_tbl := lw_at lw_m4 42 rfl
theorem q887 : (Jvm.Cond.selects "java/lang/System$2" ({ cls := "jdk/internal/access/JavaLangAccess", name := "getUTF16Char", desc := "([BI)C" } : Jvm.MethodName) ({ cls := "java/lang/System$2", name := "getUTF16Char", desc := "([BI)C" } : Jvm.MethodName)) ∈ lw_all := lw_g (lw_at lw_m4 43 rfl) rfl
theorem q888 : (Jvm.Cond.unhidden "java/lang/System$2" "getUTF16Char" "([BI)C") ∈ lw_tbl := lw_at lw_m4 44 rfl
theorem q889 : (Jvm.Cond.instanceMethod ({ cls := "java/lang/System$2", name := "getUTF16Char", desc := "([BI)C" } : Jvm.MethodName)) ∈ lw_all := lw_g (lw_at lw_m4 45 rfl) rfl
theorem q890 : (Jvm.Cond.publicMethod ({ cls := "java/lang/System$2", name := "getUTF16Char", desc := "([BI)C" } : Jvm.MethodName)) ∈ lw_tbl := lw_at lw_m4 46 rfl
theorem q891 : (Jvm.Cond.code ({ cls := "java/lang/System$2", name := "getUTF16Char", desc := "([BI)C" } : Jvm.MethodName) prog_47_method_45_code (3 : Nat) (Option.some Jvm.ClassFile.FieldType.char)) ∈ lw_all := lw_g (lw_at lw_m4 47 rfl) rfl
theorem q892 : (Jvm.Cond.methodLink "java/lang/System$2" (185 : Nat) ({ cls := "java/lang/StringUTF16", name := "getChar", desc := "([BI)C" } : Jvm.MethodName)) ∈ lw_all := lw_g (lw_at lw_m4 48 rfl) rfl
theorem q1113 : (Jvm.Cond.selects "java/lang/System$2" ({ cls := "java/lang/Object", name := "getClass", desc := "()Ljava/lang/Class;" } : Jvm.MethodName) ({ cls := "java/lang/Object", name := "getClass", desc := "()Ljava/lang/Class;" } : Jvm.MethodName)) ∈ lw_all := lw_g (lw_at lw_m5 29 rfl) rfl
theorem q3201 : (Jvm.Cond.castable "java/lang/System$2" "java/lang/Object") ∈ lw_tbl := lw_at lw_m13 197 rfl
