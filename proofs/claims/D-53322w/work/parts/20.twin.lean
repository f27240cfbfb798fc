/-! THE REFERENCE: each method as a pure function, and that the machine walks it -/
set_option maxRecDepth 100000
theorem ck_11 : CK 11 RX13 TX13 24 := ⟨rfl, in_X13, ⟨tyX13, tyX13_ok⟩, nmX13⟩
abbrev ty_11 : Nat → FieldType := tyX13
theorem ct_11 : ∀ k, k < 24 → parseFieldDescriptor (TX13 k).2.2.1 = some (ty_11 k) := tyX13_ok
theorem lg_X13_7 : LG "EdgeSumsModel" 7 11 1 := ⟨_, _, _, ck_11, by decide, Or.inl q2652⟩
abbrev mi_X13_hideAll : MI := (RX13, yX13_hideAll, cX13_hideAll, 2, none, 1)
noncomputable def f_X13_hideAll_L2  : Nat → Option Nat → Int32 → PH → Option PH
  | 0, _, _, _ => none
  | k + 1, x0, x1, h => if 10 ≤ x1 then (some h) else ((gfr 11 1 x0 h).bind (fun t1 => (asi 0 t1 (83 + x1) 0 h).bind (fun h2 => (f_X13_hideAll_L2 k) x0 (x1 + 1) h2)))
theorem f_X13_hideAll_L2_ok {K : KT} {h0 : PH} {a0 : List Value} {q : PH}  : ∀ (k : Nat) (x0 : Option Nat) (x1 : Int32) (h : PH), f_X13_hideAll_L2  k x0 x1 h = some q → R K mi_X13_hideAll h0 a0 (.inl none) q 2 [(0, va_rf x0), (1, .int x1)] [] h := by
  intro k
  induction k with
  | zero => intro _ _ _ hf; cases hf
  | succ k ih =>
    intro x0 x1 h hf
    unfold f_X13_hideAll_L2 at hf
    refine R_iload_n 1 dX13_hideAll_2 rfl rfl ?_
    refine R_bipush dX13_hideAll_3 k_bipush_10 ?_
    refine R_icge (tgt := 24) dX13_hideAll_5 (by decide) (fun hc => ?_) (fun hc => ?_)
    · rw [if_pos hc] at hf
      obtain rfl := Option.some.inj hf
      exact R_return rfl dX13_hideAll_24
    · rw [if_neg hc] at hf
      refine R_aload_n 0 dX13_hideAll_8 rfl rfl ?_
      obtain ⟨t1, et1, hf⟩ := Option.bind_eq_some_iff.mp hf
      refine R_getr lg_X13_7 et1 dX13_hideAll_9 ?_
      refine R_bipush dX13_hideAll_12 k_bipush_83 ?_
      refine R_iload_n 1 dX13_hideAll_14 rfl rfl ?_
      refine R_iadd dX13_hideAll_15 ?_
      refine R_iconst dX13_hideAll_16 k_iconst_0 ?_
      obtain ⟨h2, eh2, hf⟩ := Option.bind_eq_some_iff.mp hf
      refine R_iastore eh2 dX13_hideAll_17 ?_
      refine R_iinc (L' := [(1, .int (x1 + 1)), (0, va_rf x0)]) 1 dX13_hideAll_18 rfl (k_inc_1 _) (by decide) rfl ?_
      refine R_goto (tgt := 2) dX13_hideAll_21 (by decide) ?_
      refine R.sub [1, 0] (L' := [(0, va_rf x0), (1, .int (x1 + 1))]) rfl ?_
      exact ih x0 (x1 + 1) h2 hf
noncomputable def f_X13_hideAll (x0 : Option Nat) (h : PH) : Option PH := f_X13_hideAll_L2  FU x0 0 h
theorem T_X13_hideAll {K : KT} {x0 : Option Nat} {h : PH} {q : PH} (hf : f_X13_hideAll x0 h = some q) : T K mi_X13_hideAll [va_rf x0] h (.inl none) q := by
  unfold f_X13_hideAll at hf
  refine T_of (by decide +kernel) rfl (C1_r C1_0) (Nat.le_of_ble_eq_true rfl) ?_
  show R K mi_X13_hideAll h [va_rf x0] _ _ 0 [(0, va_rf x0)] [] h
  refine R_iconst dX13_hideAll_0 k_iconst_0 ?_
  refine R_istore_n (L' := [(1, .int 0), (0, va_rf x0)]) dX13_hideAll_1 rfl (by decide) rfl ?_
  refine R.sub [1, 0] (L' := [(0, va_rf x0), (1, .int 0)]) rfl ?_
  exact f_X13_hideAll_L2_ok  FU x0 0 h hf
theorem lV_X13_86 : GoodIn lw_all (wsV "EdgeSumsModel" 86 "EdgeSumsModel" yX13_hideAll (ws_ yX13_hideAll cX13_hideAll 2 none)) := lw_V q2619 q2621 qs49 q158 q2622
theorem oky_X13_hideAll : okY yX13_hideAll 0 := ⟨by decide +kernel, by decide +kernel, by decide +kernel⟩
abbrev mi_X13_lay : MI := (RX13, yX13_lay, cX13_lay, 4, none, 2)
noncomputable def f_X13_lay_B44 (r16 : Option Nat → Int32 → Int32 → Int32 → PH → Option PH) (x0 : Option Nat) (x1 : Int32) (x2 : Int32) (x3 : Int32) (s0 : Option Nat) (s1 : Int32) (s2 : Int32) (h : PH) : Option PH := (asi 0 s0 s1 s2 h).bind (fun h1 => (gfr 11 1 x0 h1).bind (fun t2 => (asi 0 t2 (33 + x3) 0 h1).bind (fun h3 => (gfr 11 1 x0 h3).bind (fun t4 => (asi 0 t4 (58 + x3) 0 h3).bind (fun h5 => r16 x0 x1 x2 (x3 + 1) h5)))))
theorem f_X13_lay_B44_ok {K : KT} {h0 : PH} {a0 : List Value} {q : PH} {r16 : Option Nat → Int32 → Int32 → Int32 → PH → Option PH} (hr16 : ∀ (y0 : Option Nat) (y1 : Int32) (y2 : Int32) (y3 : Int32) (h : PH), r16 y0 y1 y2 y3 h = some q → R K mi_X13_lay h0 a0 (.inl none) q 16 [(0, va_rf y0), (1, .int y1), (2, .int y2), (3, .int y3)] [] h) (x0 : Option Nat) (x1 : Int32) (x2 : Int32) (x3 : Int32) (s0 : Option Nat) (s1 : Int32) (s2 : Int32) (h : PH) (hf : f_X13_lay_B44 r16 x0 x1 x2 x3 s0 s1 s2 h = some q) : R K mi_X13_lay h0 a0 (.inl none) q 44 [(0, va_rf x0), (1, .int x1), (2, .int x2), (3, .int x3)] [.int s2, .int s1, va_rf s0] h := by
  unfold f_X13_lay_B44 at hf
  obtain ⟨h1, eh1, hf⟩ := Option.bind_eq_some_iff.mp hf
  refine R_iastore eh1 dX13_lay_44 ?_
  refine R_aload_n 0 dX13_lay_45 rfl rfl ?_
  obtain ⟨t2, et2, hf⟩ := Option.bind_eq_some_iff.mp hf
  refine R_getr lg_X13_7 et2 dX13_lay_46 ?_
  refine R_bipush dX13_lay_49 k_bipush_33 ?_
  refine R_iload_n 3 dX13_lay_51 rfl rfl ?_
  refine R_iadd dX13_lay_52 ?_
  refine R_iconst dX13_lay_53 k_iconst_0 ?_
  obtain ⟨h3, eh3, hf⟩ := Option.bind_eq_some_iff.mp hf
  refine R_iastore eh3 dX13_lay_54 ?_
  refine R_aload_n 0 dX13_lay_55 rfl rfl ?_
  obtain ⟨t4, et4, hf⟩ := Option.bind_eq_some_iff.mp hf
  refine R_getr lg_X13_7 et4 dX13_lay_56 ?_
  refine R_bipush dX13_lay_59 k_bipush_58 ?_
  refine R_iload_n 3 dX13_lay_61 rfl rfl ?_
  refine R_iadd dX13_lay_62 ?_
  refine R_iconst dX13_lay_63 k_iconst_0 ?_
  obtain ⟨h5, eh5, hf⟩ := Option.bind_eq_some_iff.mp hf
  refine R_iastore eh5 dX13_lay_64 ?_
  refine R_iinc (L' := [(3, .int (x3 + 1)), (0, va_rf x0), (1, .int x1), (2, .int x2)]) 3 dX13_lay_65 rfl (k_inc_1 _) (by decide) rfl ?_
  refine R_goto (tgt := 16) dX13_lay_68 (by decide) ?_
  refine R.sub [1, 2, 3, 0] (L' := [(0, va_rf x0), (1, .int x1), (2, .int x2), (3, .int (x3 + 1))]) rfl ?_
  exact hr16 x0 x1 x2 (x3 + 1) h5 hf
noncomputable def f_X13_lay_L16  : Nat → Option Nat → Int32 → Int32 → Int32 → PH → Option PH
  | 0, _, _, _, _, _ => none
  | k + 1, x0, x1, x2, x3, h => if 25 ≤ x3 then ((rcv 11 x0 h).bind (fun u1 => (f_X13_hideAll x0 h).bind (fun h2 => some h2))) else ((gfr 11 1 x0 h).bind (fun t3 => if (x1 * x2) ≤ x3 then (f_X13_lay_B44 (f_X13_lay_L16 k) x0 x1 x2 x3 t3 (8 + x3) 0 h) else ((nz x2).bind (fun u4 => f_X13_lay_B44 (f_X13_lay_L16 k) x0 x1 x2 x3 t3 (8 + x3) (x3 / x2) h))))
theorem f_X13_lay_L16_ok {K : KT} {h0 : PH} {a0 : List Value} {q : PH}  : ∀ (k : Nat) (x0 : Option Nat) (x1 : Int32) (x2 : Int32) (x3 : Int32) (h : PH), f_X13_lay_L16  k x0 x1 x2 x3 h = some q → R K mi_X13_lay h0 a0 (.inl none) q 16 [(0, va_rf x0), (1, .int x1), (2, .int x2), (3, .int x3)] [] h := by
  intro k
  induction k with
  | zero => intro _ _ _ _ _ hf; cases hf
  | succ k ih =>
    intro x0 x1 x2 x3 h hf
    unfold f_X13_lay_L16 at hf
    refine R_iload_n 3 dX13_lay_16 rfl rfl ?_
    refine R_bipush dX13_lay_17 k_bipush_25 ?_
    refine R_icge (tgt := 71) dX13_lay_19 (by decide) (fun hc => ?_) (fun hc => ?_)
    · rw [if_pos hc] at hf
      refine R_aload_n 0 dX13_lay_71 rfl rfl ?_
      obtain ⟨u1, eu1, hf⟩ := Option.bind_eq_some_iff.mp hf
      obtain ⟨h2, eh2, hf⟩ := Option.bind_eq_some_iff.mp hf
      refine R_callV (mj := mi_X13_hideAll) (ci := 11) (q := (RX13, TX13, 24)) (As := []) (rest := []) (T_X13_hideAll eh2) eu1 rfl lV_X13_86 ⟨rfl, oky_X13_hideAll⟩ (by decide) (by decide) rfl C1_0 (Nat.le_of_ble_eq_true rfl) dX13_lay_72 ?_
      obtain rfl := Option.some.inj hf
      exact R_return rfl dX13_lay_75
    · rw [if_neg hc] at hf
      refine R_aload_n 0 dX13_lay_22 rfl rfl ?_
      obtain ⟨t3, et3, hf⟩ := Option.bind_eq_some_iff.mp hf
      refine R_getr lg_X13_7 et3 dX13_lay_23 ?_
      refine R_bipush dX13_lay_26 k_bipush_8 ?_
      refine R_iload_n 3 dX13_lay_28 rfl rfl ?_
      refine R_iadd dX13_lay_29 ?_
      refine R_iload_n 3 dX13_lay_30 rfl rfl ?_
      refine R_iload_n 1 dX13_lay_31 rfl rfl ?_
      refine R_iload_n 2 dX13_lay_32 rfl rfl ?_
      refine R_imul dX13_lay_33 ?_
      refine R_icge (tgt := 43) dX13_lay_34 (by decide) (fun hc => ?_) (fun hc => ?_)
      · rw [if_pos hc] at hf
        refine R_iconst dX13_lay_43 k_iconst_0 ?_
        exact f_X13_lay_B44_ok ih x0 x1 x2 x3 t3 (8 + x3) 0 h hf
      · rw [if_neg hc] at hf
        refine R_iload_n 3 dX13_lay_37 rfl rfl ?_
        refine R_iload_n 2 dX13_lay_38 rfl rfl ?_
        obtain ⟨u4, eu4, hf⟩ := Option.bind_eq_some_iff.mp hf
        refine R_idiv dX13_lay_39 (nz_some eu4) ?_
        refine R_goto (tgt := 44) dX13_lay_40 (by decide) ?_
        exact f_X13_lay_B44_ok ih x0 x1 x2 x3 t3 (8 + x3) (x3 / x2) h hf
noncomputable def f_X13_lay (x0 : Option Nat) (x1 : Int32) (x2 : Int32) (h : PH) : Option PH := (gfr 11 1 x0 h).bind (fun t1 => (asi 0 t1 0 x1 h).bind (fun h2 => (gfr 11 1 x0 h2).bind (fun t3 => (asi 0 t3 1 x2 h2).bind (fun h4 => f_X13_lay_L16  FU x0 x1 x2 0 h4))))
theorem T_X13_lay {K : KT} {x0 : Option Nat} {x1 : Int32} {x2 : Int32} {h : PH} {q : PH} (hf : f_X13_lay x0 x1 x2 h = some q) : T K mi_X13_lay [va_rf x0, .int x1, .int x2] h (.inl none) q := by
  unfold f_X13_lay at hf
  refine T_of (by decide +kernel) rfl (C1_r (C1_i (C1_i C1_0))) (Nat.le_of_ble_eq_true rfl) ?_
  show R K mi_X13_lay h [va_rf x0, .int x1, .int x2] _ _ 0 [(0, va_rf x0), (1, .int x1), (2, .int x2)] [] h
  refine R_aload_n 0 dX13_lay_0 rfl rfl ?_
  obtain ⟨t1, et1, hf⟩ := Option.bind_eq_some_iff.mp hf
  refine R_getr lg_X13_7 et1 dX13_lay_1 ?_
  refine R_iconst dX13_lay_4 k_iconst_0 ?_
  refine R_iload_n 1 dX13_lay_5 rfl rfl ?_
  obtain ⟨h2, eh2, hf⟩ := Option.bind_eq_some_iff.mp hf
  refine R_iastore eh2 dX13_lay_6 ?_
  refine R_aload_n 0 dX13_lay_7 rfl rfl ?_
  obtain ⟨t3, et3, hf⟩ := Option.bind_eq_some_iff.mp hf
  refine R_getr lg_X13_7 et3 dX13_lay_8 ?_
  refine R_iconst dX13_lay_11 k_iconst_1 ?_
  refine R_iload_n 2 dX13_lay_12 rfl rfl ?_
  obtain ⟨h4, eh4, hf⟩ := Option.bind_eq_some_iff.mp hf
  refine R_iastore eh4 dX13_lay_13 ?_
  refine R_iconst dX13_lay_14 k_iconst_0 ?_
  refine R_istore_n (L' := [(3, .int 0), (0, va_rf x0), (1, .int x1), (2, .int x2)]) dX13_lay_15 rfl (by decide) rfl ?_
  refine R.sub [1, 2, 3, 0] (L' := [(0, va_rf x0), (1, .int x1), (2, .int x2), (3, .int 0)]) rfl ?_
  exact f_X13_lay_L16_ok  FU x0 x1 x2 0 h4 hf
abbrev mi_X13_cells : MI := (RX13, yX13_cells, cX13_cells, 1, (some FieldType.int), 1)
noncomputable def f_X13_cells (x0 : Option Nat) (h : PH) : Option (Int32 × PH) := (gfr 11 1 x0 h).bind (fun t1 => (ald 0 t1 0 h).bind (fun t2 => (gfr 11 1 x0 h).bind (fun t3 => (ald 0 t3 1 h).bind (fun t4 => some (t2 * t4, h)))))
theorem T_X13_cells {K : KT} {x0 : Option Nat} {h : PH} {q : (Int32 × PH)} (hf : f_X13_cells x0 h = some q) : T K mi_X13_cells [va_rf x0] h (.inl (some (.int q.1))) q.2 := by
  unfold f_X13_cells at hf
  refine T_of (by decide +kernel) rfl (C1_r C1_0) (Nat.le_of_ble_eq_true rfl) ?_
  show R K mi_X13_cells h [va_rf x0] _ _ 0 [(0, va_rf x0)] [] h
  refine R_aload_n 0 dX13_cells_0 rfl rfl ?_
  obtain ⟨t1, et1, hf⟩ := Option.bind_eq_some_iff.mp hf
  refine R_getr lg_X13_7 et1 dX13_cells_1 ?_
  refine R_iconst dX13_cells_4 k_iconst_0 ?_
  obtain ⟨t2, et2, hf⟩ := Option.bind_eq_some_iff.mp hf
  refine R_iaload et2 dX13_cells_5 ?_
  refine R_aload_n 0 dX13_cells_6 rfl rfl ?_
  obtain ⟨t3, et3, hf⟩ := Option.bind_eq_some_iff.mp hf
  refine R_getr lg_X13_7 et3 dX13_cells_7 ?_
  refine R_iconst dX13_cells_10 k_iconst_1 ?_
  obtain ⟨t4, et4, hf⟩ := Option.bind_eq_some_iff.mp hf
  refine R_iaload et4 dX13_cells_11 ?_
  refine R_imul dX13_cells_12 ?_
  obtain rfl := Option.some.inj hf
  exact R_iretI rfl dX13_cells_13
abbrev mi_X13_numberOf : MI := (RX13, yX13_numberOf, cX13_numberOf, 2, (some FieldType.int), 1)
noncomputable def f_X13_numberOf (x0 : Option Nat) (x1 : Int32) (h : PH) : Option (Int32 × PH) := (gfr 11 1 x0 h).bind (fun t1 => (ald 0 t1 (33 + x1) h).bind (fun t2 => some (t2, h)))
theorem T_X13_numberOf {K : KT} {x0 : Option Nat} {x1 : Int32} {h : PH} {q : (Int32 × PH)} (hf : f_X13_numberOf x0 x1 h = some q) : T K mi_X13_numberOf [va_rf x0, .int x1] h (.inl (some (.int q.1))) q.2 := by
  unfold f_X13_numberOf at hf
  refine T_of (by decide +kernel) rfl (C1_r (C1_i C1_0)) (Nat.le_of_ble_eq_true rfl) ?_
  show R K mi_X13_numberOf h [va_rf x0, .int x1] _ _ 0 [(0, va_rf x0), (1, .int x1)] [] h
  refine R_aload_n 0 dX13_numberOf_0 rfl rfl ?_
  obtain ⟨t1, et1, hf⟩ := Option.bind_eq_some_iff.mp hf
  refine R_getr lg_X13_7 et1 dX13_numberOf_1 ?_
  refine R_bipush dX13_numberOf_4 k_bipush_33 ?_
  refine R_iload_n 1 dX13_numberOf_6 rfl rfl ?_
  refine R_iadd dX13_numberOf_7 ?_
  obtain ⟨t2, et2, hf⟩ := Option.bind_eq_some_iff.mp hf
  refine R_iaload et2 dX13_numberOf_8 ?_
  obtain rfl := Option.some.inj hf
  exact R_iretI rfl dX13_numberOf_9
abbrev mi_X13_blockOf : MI := (RX13, yX13_blockOf, cX13_blockOf, 2, (some FieldType.int), 1)
noncomputable def f_X13_blockOf (x0 : Option Nat) (x1 : Int32) (h : PH) : Option (Int32 × PH) := (gfr 11 1 x0 h).bind (fun t1 => (ald 0 t1 (8 + x1) h).bind (fun t2 => some (t2, h)))
theorem T_X13_blockOf {K : KT} {x0 : Option Nat} {x1 : Int32} {h : PH} {q : (Int32 × PH)} (hf : f_X13_blockOf x0 x1 h = some q) : T K mi_X13_blockOf [va_rf x0, .int x1] h (.inl (some (.int q.1))) q.2 := by
  unfold f_X13_blockOf at hf
  refine T_of (by decide +kernel) rfl (C1_r (C1_i C1_0)) (Nat.le_of_ble_eq_true rfl) ?_
  show R K mi_X13_blockOf h [va_rf x0, .int x1] _ _ 0 [(0, va_rf x0), (1, .int x1)] [] h
  refine R_aload_n 0 dX13_blockOf_0 rfl rfl ?_
  obtain ⟨t1, et1, hf⟩ := Option.bind_eq_some_iff.mp hf
  refine R_getr lg_X13_7 et1 dX13_blockOf_1 ?_
  refine R_bipush dX13_blockOf_4 k_bipush_8 ?_
  refine R_iload_n 1 dX13_blockOf_6 rfl rfl ?_
  refine R_iadd dX13_blockOf_7 ?_
  obtain ⟨t2, et2, hf⟩ := Option.bind_eq_some_iff.mp hf
  refine R_iaload et2 dX13_blockOf_8 ?_
  obtain rfl := Option.some.inj hf
  exact R_iretI rfl dX13_blockOf_9
theorem lV_X13_61 : GoodIn lw_all (wsV "EdgeSumsModel" 61 "EdgeSumsModel" yX13_cells (ws_ yX13_cells cX13_cells 1 (some FieldType.int))) := lw_V q2631 q2633 qs52 q158 q2634
theorem oky_X13_cells : okY yX13_cells 0 := ⟨by decide +kernel, by decide +kernel, by decide +kernel⟩
theorem lV_X13_72 : GoodIn lw_all (wsV "EdgeSumsModel" 72 "EdgeSumsModel" yX13_blockOf (ws_ yX13_blockOf cX13_blockOf 2 (some FieldType.int))) := lw_V q2643 q2645 qs55 q158 q2646
theorem oky_X13_blockOf : okY yX13_blockOf 1 := ⟨by decide +kernel, by decide +kernel, by decide +kernel⟩
abbrev mi_X13_blockSize : MI := (RX13, yX13_blockSize, cX13_blockSize, 4, (some FieldType.int), 2)
noncomputable def f_X13_blockSize_L4  : Nat → Option Nat → Int32 → Int32 → Int32 → PH → Option (Int32 × PH)
  | 0, _, _, _, _, _ => none
  | k + 1, x0, x1, x2, x3, h => (rcv 11 x0 h).bind (fun u1 => (f_X13_cells x0 h).bind (fun q2 => if q2.1 ≤ x3 then (some (x2, q2.2)) else ((rcv 11 x0 q2.2).bind (fun u3 => (f_X13_blockOf x0 x3 q2.2).bind (fun q4 => if q4.1 = x1 then ((f_X13_blockSize_L4 k) x0 x1 (x2 + 1) (x3 + 1) q4.2) else ((f_X13_blockSize_L4 k) x0 x1 (x2 + 0) (x3 + 1) q4.2))))))
theorem f_X13_blockSize_L4_ok {K : KT} {h0 : PH} {a0 : List Value} {q : (Int32 × PH)}  : ∀ (k : Nat) (x0 : Option Nat) (x1 : Int32) (x2 : Int32) (x3 : Int32) (h : PH), f_X13_blockSize_L4  k x0 x1 x2 x3 h = some q → R K mi_X13_blockSize h0 a0 (.inl (some (.int q.1))) q.2 4 [(0, va_rf x0), (1, .int x1), (2, .int x2), (3, .int x3)] [] h := by
  intro k
  induction k with
  | zero => intro _ _ _ _ _ hf; cases hf
  | succ k ih =>
    intro x0 x1 x2 x3 h hf
    unfold f_X13_blockSize_L4 at hf
    refine R_iload_n 3 dX13_blockSize_4 rfl rfl ?_
    refine R_aload_n 0 dX13_blockSize_5 rfl rfl ?_
    obtain ⟨u1, eu1, hf⟩ := Option.bind_eq_some_iff.mp hf
    obtain ⟨q2, eq2, hf⟩ := Option.bind_eq_some_iff.mp hf
    refine R_callV (mj := mi_X13_cells) (ci := 11) (q := (RX13, TX13, 24)) (As := []) (rest := [.int x3]) (T_X13_cells eq2) eu1 rfl lV_X13_61 ⟨rfl, oky_X13_cells⟩ (by decide) (by decide) rfl (C1_i C1_0) (Nat.le_of_ble_eq_true rfl) dX13_blockSize_6 ?_
    refine R_icge (tgt := 35) dX13_blockSize_9 (by decide) (fun hc => ?_) (fun hc => ?_)
    · rw [if_pos hc] at hf
      refine R_iload_n 2 dX13_blockSize_35 rfl rfl ?_
      obtain rfl := Option.some.inj hf
      exact R_iretI rfl dX13_blockSize_36
    · rw [if_neg hc] at hf
      refine R_iload_n 2 dX13_blockSize_12 rfl rfl ?_
      refine R_aload_n 0 dX13_blockSize_13 rfl rfl ?_
      refine R_iload_n 3 dX13_blockSize_14 rfl rfl ?_
      obtain ⟨u3, eu3, hf⟩ := Option.bind_eq_some_iff.mp hf
      obtain ⟨q4, eq4, hf⟩ := Option.bind_eq_some_iff.mp hf
      refine R_callV (mj := mi_X13_blockOf) (ci := 11) (q := (RX13, TX13, 24)) (As := [.int x3]) (rest := [.int x2]) (T_X13_blockOf eq4) eu3 rfl lV_X13_72 ⟨rfl, oky_X13_blockOf⟩ (by decide) (by decide) rfl (C1_i C1_0) (Nat.le_of_ble_eq_true rfl) dX13_blockSize_15 ?_
      refine R_iload_n 1 dX13_blockSize_18 rfl rfl ?_
      refine R_icne (tgt := 26) dX13_blockSize_19 (by decide) (fun hc => ?_) (fun hc => ?_)
      · rw [if_pos hc] at hf
        refine R_iconst dX13_blockSize_22 k_iconst_1 ?_
        refine R_goto (tgt := 27) dX13_blockSize_23 (by decide) ?_
        refine R_iadd dX13_blockSize_27 ?_
        refine R_istore_n (L' := [(2, .int (x2 + 1)), (0, va_rf x0), (1, .int x1), (3, .int x3)]) dX13_blockSize_28 rfl (by decide) rfl ?_
        refine R_iinc (L' := [(3, .int (x3 + 1)), (2, .int (x2 + 1)), (0, va_rf x0), (1, .int x1)]) 3 dX13_blockSize_29 rfl (k_inc_1 _) (by decide) rfl ?_
        refine R_goto (tgt := 4) dX13_blockSize_32 (by decide) ?_
        refine R.sub [2, 3, 1, 0] (L' := [(0, va_rf x0), (1, .int x1), (2, .int (x2 + 1)), (3, .int (x3 + 1))]) rfl ?_
        exact ih x0 x1 (x2 + 1) (x3 + 1) q4.2 hf
      · rw [if_neg hc] at hf
        refine R_iconst dX13_blockSize_26 k_iconst_0 ?_
        refine R_iadd dX13_blockSize_27 ?_
        refine R_istore_n (L' := [(2, .int (x2 + 0)), (0, va_rf x0), (1, .int x1), (3, .int x3)]) dX13_blockSize_28 rfl (by decide) rfl ?_
        refine R_iinc (L' := [(3, .int (x3 + 1)), (2, .int (x2 + 0)), (0, va_rf x0), (1, .int x1)]) 3 dX13_blockSize_29 rfl (k_inc_1 _) (by decide) rfl ?_
        refine R_goto (tgt := 4) dX13_blockSize_32 (by decide) ?_
        refine R.sub [2, 3, 1, 0] (L' := [(0, va_rf x0), (1, .int x1), (2, .int (x2 + 0)), (3, .int (x3 + 1))]) rfl ?_
        exact ih x0 x1 (x2 + 0) (x3 + 1) q4.2 hf
noncomputable def f_X13_blockSize (x0 : Option Nat) (x1 : Int32) (h : PH) : Option (Int32 × PH) := f_X13_blockSize_L4  FU x0 x1 0 0 h
theorem T_X13_blockSize {K : KT} {x0 : Option Nat} {x1 : Int32} {h : PH} {q : (Int32 × PH)} (hf : f_X13_blockSize x0 x1 h = some q) : T K mi_X13_blockSize [va_rf x0, .int x1] h (.inl (some (.int q.1))) q.2 := by
  unfold f_X13_blockSize at hf
  refine T_of (by decide +kernel) rfl (C1_r (C1_i C1_0)) (Nat.le_of_ble_eq_true rfl) ?_
  show R K mi_X13_blockSize h [va_rf x0, .int x1] _ _ 0 [(0, va_rf x0), (1, .int x1)] [] h
  refine R_iconst dX13_blockSize_0 k_iconst_0 ?_
  refine R_istore_n (L' := [(2, .int 0), (0, va_rf x0), (1, .int x1)]) dX13_blockSize_1 rfl (by decide) rfl ?_
  refine R_iconst dX13_blockSize_2 k_iconst_0 ?_
  refine R_istore_n (L' := [(3, .int 0), (2, .int 0), (0, va_rf x0), (1, .int x1)]) dX13_blockSize_3 rfl (by decide) rfl ?_
  refine R.sub [2, 3, 1, 0] (L' := [(0, va_rf x0), (1, .int x1), (2, .int 0), (3, .int 0)]) rfl ?_
  exact f_X13_blockSize_L4_ok  FU x0 x1 0 0 h hf
theorem lV_X13_76 : GoodIn lw_all (wsV "EdgeSumsModel" 76 "EdgeSumsModel" yX13_blockSize (ws_ yX13_blockSize cX13_blockSize 4 (some FieldType.int))) := lw_V q2647 q2649 qs56 q158 q2650
theorem oky_X13_blockSize : okY yX13_blockSize 1 := ⟨by decide +kernel, by decide +kernel, by decide +kernel⟩
abbrev mi_X13_mostIn : MI := (RX13, yX13_mostIn, cX13_mostIn, 2, (some FieldType.int), 3)
noncomputable def f_X13_mostIn (x0 : Option Nat) (x1 : Int32) (h : PH) : Option (Int32 × PH) := (rcv 11 x0 h).bind (fun u1 => (f_X13_blockOf x0 x1 h).bind (fun q2 => (rcv 11 x0 q2.2).bind (fun u3 => (f_X13_blockSize x0 q2.1 q2.2).bind (fun q4 => some (q4.1, q4.2)))))
theorem T_X13_mostIn {K : KT} {x0 : Option Nat} {x1 : Int32} {h : PH} {q : (Int32 × PH)} (hf : f_X13_mostIn x0 x1 h = some q) : T K mi_X13_mostIn [va_rf x0, .int x1] h (.inl (some (.int q.1))) q.2 := by
  unfold f_X13_mostIn at hf
  refine T_of (by decide +kernel) rfl (C1_r (C1_i C1_0)) (Nat.le_of_ble_eq_true rfl) ?_
  show R K mi_X13_mostIn h [va_rf x0, .int x1] _ _ 0 [(0, va_rf x0), (1, .int x1)] [] h
  refine R_aload_n 0 dX13_mostIn_0 rfl rfl ?_
  refine R_aload_n 0 dX13_mostIn_1 rfl rfl ?_
  refine R_iload_n 1 dX13_mostIn_2 rfl rfl ?_
  obtain ⟨u1, eu1, hf⟩ := Option.bind_eq_some_iff.mp hf
  obtain ⟨q2, eq2, hf⟩ := Option.bind_eq_some_iff.mp hf
  refine R_callV (mj := mi_X13_blockOf) (ci := 11) (q := (RX13, TX13, 24)) (As := [.int x1]) (rest := [va_rf x0]) (T_X13_blockOf eq2) eu1 rfl lV_X13_72 ⟨rfl, oky_X13_blockOf⟩ (by decide) (by decide) rfl (C1_r C1_0) (Nat.le_of_ble_eq_true rfl) dX13_mostIn_3 ?_
  obtain ⟨u3, eu3, hf⟩ := Option.bind_eq_some_iff.mp hf
  obtain ⟨q4, eq4, hf⟩ := Option.bind_eq_some_iff.mp hf
  refine R_callV (mj := mi_X13_blockSize) (ci := 11) (q := (RX13, TX13, 24)) (As := [.int q2.1]) (rest := []) (T_X13_blockSize eq4) eu3 rfl lV_X13_76 ⟨rfl, oky_X13_blockSize⟩ (by decide) (by decide) rfl C1_0 (Nat.le_of_ble_eq_true rfl) dX13_mostIn_6 ?_
  obtain rfl := Option.some.inj hf
  exact R_iretI rfl dX13_mostIn_9
theorem lg_X13_22 : LG "EdgeSumsModel" 22 11 7 := ⟨_, _, _, ck_11, by decide, Or.inl q2658⟩
theorem lV_X13_99 : GoodIn lw_all (wsV "EdgeSumsModel" 99 "EdgeSumsModel" yX13_numberOf (ws_ yX13_numberOf cX13_numberOf 2 (some FieldType.int))) := lw_V q2635 q2637 qs53 q158 q2638
theorem oky_X13_numberOf : okY yX13_numberOf 1 := ⟨by decide +kernel, by decide +kernel, by decide +kernel⟩
theorem lV_X13_121 : GoodIn lw_all (wsV "EdgeSumsModel" 121 "EdgeSumsModel" yX13_mostIn (ws_ yX13_mostIn cX13_mostIn 2 (some FieldType.int))) := lw_V q2639 q2641 qs54 q158 q2642
theorem oky_X13_mostIn : okY yX13_mostIn 1 := ⟨by decide +kernel, by decide +kernel, by decide +kernel⟩
abbrev mi_X13_layFirst : MI := (RX13, yX13_layFirst, cX13_layFirst, 2, none, 4)
noncomputable def f_X13_layFirst_B49 (r2 : Option Nat → Int32 → PH → Option PH) (x0 : Option Nat) (x1 : Int32) (s0 : Option Nat) (s1 : Int32) (s2 : Int32) (h : PH) : Option PH := (asi 0 s0 s1 s2 h).bind (fun h1 => r2 x0 (x1 + 1) h1)
theorem f_X13_layFirst_B49_ok {K : KT} {h0 : PH} {a0 : List Value} {q : PH} {r2 : Option Nat → Int32 → PH → Option PH} (hr2 : ∀ (y0 : Option Nat) (y1 : Int32) (h : PH), r2 y0 y1 h = some q → R K mi_X13_layFirst h0 a0 (.inl none) q 2 [(0, va_rf y0), (1, .int y1)] [] h) (x0 : Option Nat) (x1 : Int32) (s0 : Option Nat) (s1 : Int32) (s2 : Int32) (h : PH) (hf : f_X13_layFirst_B49 r2 x0 x1 s0 s1 s2 h = some q) : R K mi_X13_layFirst h0 a0 (.inl none) q 49 [(0, va_rf x0), (1, .int x1)] [.int s2, .int s1, va_rf s0] h := by
  unfold f_X13_layFirst_B49 at hf
  obtain ⟨h1, eh1, hf⟩ := Option.bind_eq_some_iff.mp hf
  refine R_iastore eh1 dX13_layFirst_49 ?_
  refine R_iinc (L' := [(1, .int (x1 + 1)), (0, va_rf x0)]) 1 dX13_layFirst_50 rfl (k_inc_1 _) (by decide) rfl ?_
  refine R_goto (tgt := 2) dX13_layFirst_53 (by decide) ?_
  refine R.sub [1, 0] (L' := [(0, va_rf x0), (1, .int (x1 + 1))]) rfl ?_
  exact hr2 x0 (x1 + 1) h1 hf
noncomputable def f_X13_layFirst_L2  : Nat → Option Nat → Int32 → PH → Option PH
  | 0, _, _, _ => none
  | k + 1, x0, x1, h => (rcv 11 x0 h).bind (fun u1 => (f_X13_cells x0 h).bind (fun q2 => if q2.1 ≤ x1 then (some q2.2) else ((gfr 11 7 x0 q2.2).bind (fun t3 => (gfr 11 1 x0 q2.2).bind (fun t4 => (ald 0 t4 (58 + x1) q2.2).bind (fun t5 => if t5 = 1 then ((rcv 11 x0 q2.2).bind (fun u6 => (f_X13_numberOf x0 x1 q2.2).bind (fun q7 => f_X13_layFirst_B49 (f_X13_layFirst_L2 k) x0 x1 t3 x1 ((1 : Int32) <<< (q7.1 &&& 31)) q7.2))) else ((rcv 11 x0 q2.2).bind (fun u8 => (f_X13_mostIn x0 x1 q2.2).bind (fun q9 => f_X13_layFirst_B49 (f_X13_layFirst_L2 k) x0 x1 t3 x1 (((1 : Int32) <<< ((q9.1 + 1) &&& 31)) - 2) q9.2)))))))))
theorem f_X13_layFirst_L2_ok {K : KT} {h0 : PH} {a0 : List Value} {q : PH}  : ∀ (k : Nat) (x0 : Option Nat) (x1 : Int32) (h : PH), f_X13_layFirst_L2  k x0 x1 h = some q → R K mi_X13_layFirst h0 a0 (.inl none) q 2 [(0, va_rf x0), (1, .int x1)] [] h := by
  intro k
  induction k with
  | zero => intro _ _ _ hf; cases hf
  | succ k ih =>
    intro x0 x1 h hf
    unfold f_X13_layFirst_L2 at hf
    refine R_iload_n 1 dX13_layFirst_2 rfl rfl ?_
    refine R_aload_n 0 dX13_layFirst_3 rfl rfl ?_
    obtain ⟨u1, eu1, hf⟩ := Option.bind_eq_some_iff.mp hf
    obtain ⟨q2, eq2, hf⟩ := Option.bind_eq_some_iff.mp hf
    refine R_callV (mj := mi_X13_cells) (ci := 11) (q := (RX13, TX13, 24)) (As := []) (rest := [.int x1]) (T_X13_cells eq2) eu1 rfl lV_X13_61 ⟨rfl, oky_X13_cells⟩ (by decide) (by decide) rfl (C1_i C1_0) (Nat.le_of_ble_eq_true rfl) dX13_layFirst_4 ?_
    refine R_icge (tgt := 56) dX13_layFirst_7 (by decide) (fun hc => ?_) (fun hc => ?_)
    · rw [if_pos hc] at hf
      obtain rfl := Option.some.inj hf
      exact R_return rfl dX13_layFirst_56
    · rw [if_neg hc] at hf
      refine R_aload_n 0 dX13_layFirst_10 rfl rfl ?_
      obtain ⟨t3, et3, hf⟩ := Option.bind_eq_some_iff.mp hf
      refine R_getr lg_X13_22 et3 dX13_layFirst_11 ?_
      refine R_iload_n 1 dX13_layFirst_14 rfl rfl ?_
      refine R_aload_n 0 dX13_layFirst_15 rfl rfl ?_
      obtain ⟨t4, et4, hf⟩ := Option.bind_eq_some_iff.mp hf
      refine R_getr lg_X13_7 et4 dX13_layFirst_16 ?_
      refine R_bipush dX13_layFirst_19 k_bipush_58 ?_
      refine R_iload_n 1 dX13_layFirst_21 rfl rfl ?_
      refine R_iadd dX13_layFirst_22 ?_
      obtain ⟨t5, et5, hf⟩ := Option.bind_eq_some_iff.mp hf
      refine R_iaload et5 dX13_layFirst_23 ?_
      refine R_iconst dX13_layFirst_24 k_iconst_1 ?_
      refine R_icne (tgt := 38) dX13_layFirst_25 (by decide) (fun hc => ?_) (fun hc => ?_)
      · rw [if_pos hc] at hf
        refine R_iconst dX13_layFirst_28 k_iconst_1 ?_
        refine R_aload_n 0 dX13_layFirst_29 rfl rfl ?_
        refine R_iload_n 1 dX13_layFirst_30 rfl rfl ?_
        obtain ⟨u6, eu6, hf⟩ := Option.bind_eq_some_iff.mp hf
        obtain ⟨q7, eq7, hf⟩ := Option.bind_eq_some_iff.mp hf
        refine R_callV (mj := mi_X13_numberOf) (ci := 11) (q := (RX13, TX13, 24)) (As := [.int x1]) (rest := [.int 1, .int x1, va_rf t3]) (T_X13_numberOf eq7) eu6 rfl lV_X13_99 ⟨rfl, oky_X13_numberOf⟩ (by decide) (by decide) rfl (C1_i (C1_i (C1_r C1_0))) (Nat.le_of_ble_eq_true rfl) dX13_layFirst_31 ?_
        refine R_ishl dX13_layFirst_34 ?_
        refine R_goto (tgt := 49) dX13_layFirst_35 (by decide) ?_
        exact f_X13_layFirst_B49_ok ih x0 x1 t3 x1 ((1 : Int32) <<< (q7.1 &&& 31)) q7.2 hf
      · rw [if_neg hc] at hf
        refine R_iconst dX13_layFirst_38 k_iconst_1 ?_
        refine R_aload_n 0 dX13_layFirst_39 rfl rfl ?_
        refine R_iload_n 1 dX13_layFirst_40 rfl rfl ?_
        obtain ⟨u8, eu8, hf⟩ := Option.bind_eq_some_iff.mp hf
        obtain ⟨q9, eq9, hf⟩ := Option.bind_eq_some_iff.mp hf
        refine R_callV (mj := mi_X13_mostIn) (ci := 11) (q := (RX13, TX13, 24)) (As := [.int x1]) (rest := [.int 1, .int x1, va_rf t3]) (T_X13_mostIn eq9) eu8 rfl lV_X13_121 ⟨rfl, oky_X13_mostIn⟩ (by decide) (by decide) rfl (C1_i (C1_i (C1_r C1_0))) (Nat.le_of_ble_eq_true rfl) dX13_layFirst_41 ?_
        refine R_iconst dX13_layFirst_44 k_iconst_1 ?_
        refine R_iadd dX13_layFirst_45 ?_
        refine R_ishl dX13_layFirst_46 ?_
        refine R_iconst dX13_layFirst_47 k_iconst_2 ?_
        refine R_isub dX13_layFirst_48 ?_
        exact f_X13_layFirst_B49_ok ih x0 x1 t3 x1 (((1 : Int32) <<< ((q9.1 + 1) &&& 31)) - 2) q9.2 hf
noncomputable def f_X13_layFirst (x0 : Option Nat) (h : PH) : Option PH := f_X13_layFirst_L2  FU x0 0 h
theorem T_X13_layFirst {K : KT} {x0 : Option Nat} {h : PH} {q : PH} (hf : f_X13_layFirst x0 h = some q) : T K mi_X13_layFirst [va_rf x0] h (.inl none) q := by
  unfold f_X13_layFirst at hf
  refine T_of (by decide +kernel) rfl (C1_r C1_0) (Nat.le_of_ble_eq_true rfl) ?_
  show R K mi_X13_layFirst h [va_rf x0] _ _ 0 [(0, va_rf x0)] [] h
  refine R_iconst dX13_layFirst_0 k_iconst_0 ?_
  refine R_istore_n (L' := [(1, .int 0), (0, va_rf x0)]) dX13_layFirst_1 rfl (by decide) rfl ?_
  refine R.sub [1, 0] (L' := [(0, va_rf x0), (1, .int 0)]) rfl ?_
  exact f_X13_layFirst_L2_ok  FU x0 0 h hf
theorem lV_X13_139 : GoodIn lw_all (wsV "EdgeSumsModel" 139 "EdgeSumsModel" yX13_layFirst (ws_ yX13_layFirst cX13_layFirst 2 none)) := lw_V q2627 q2629 qs51 q158 q2630
theorem oky_X13_layFirst : okY yX13_layFirst 0 := ⟨by decide +kernel, by decide +kernel, by decide +kernel⟩
abbrev mi_X13_reset : MI := (RX13, yX13_reset, cX13_reset, 2, none, 5)
noncomputable def f_X13_reset_B38 (r6 : Option Nat → Int32 → PH → Option PH) (x0 : Option Nat) (x1 : Int32) (s0 : Option Nat) (s1 : Int32) (s2 : Int32) (h : PH) : Option PH := (asi 0 s0 s1 s2 h).bind (fun h1 => r6 x0 (x1 + 1) h1)
theorem f_X13_reset_B38_ok {K : KT} {h0 : PH} {a0 : List Value} {q : PH} {r6 : Option Nat → Int32 → PH → Option PH} (hr6 : ∀ (y0 : Option Nat) (y1 : Int32) (h : PH), r6 y0 y1 h = some q → R K mi_X13_reset h0 a0 (.inl none) q 6 [(0, va_rf y0), (1, .int y1)] [] h) (x0 : Option Nat) (x1 : Int32) (s0 : Option Nat) (s1 : Int32) (s2 : Int32) (h : PH) (hf : f_X13_reset_B38 r6 x0 x1 s0 s1 s2 h = some q) : R K mi_X13_reset h0 a0 (.inl none) q 38 [(0, va_rf x0), (1, .int x1)] [.int s2, .int s1, va_rf s0] h := by
  unfold f_X13_reset_B38 at hf
  obtain ⟨h1, eh1, hf⟩ := Option.bind_eq_some_iff.mp hf
  refine R_iastore eh1 dX13_reset_38 ?_
  refine R_iinc (L' := [(1, .int (x1 + 1)), (0, va_rf x0)]) 1 dX13_reset_39 rfl (k_inc_1 _) (by decide) rfl ?_
  refine R_goto (tgt := 6) dX13_reset_42 (by decide) ?_
  refine R.sub [1, 0] (L' := [(0, va_rf x0), (1, .int (x1 + 1))]) rfl ?_
  exact hr6 x0 (x1 + 1) h1 hf
noncomputable def f_X13_reset_L6  : Nat → Option Nat → Int32 → PH → Option PH
  | 0, _, _, _ => none
  | k + 1, x0, x1, h => if 25 ≤ x1 then (some h) else ((gfr 11 1 x0 h).bind (fun t1 => (rcv 11 x0 h).bind (fun u2 => (f_X13_cells x0 h).bind (fun q3 => if q3.1 ≤ x1 then (f_X13_reset_B38 (f_X13_reset_L6 k) x0 x1 t1 (93 + x1) 0 q3.2) else ((gfr 11 7 x0 q3.2).bind (fun t4 => (ald 0 t4 x1 q3.2).bind (fun t5 => f_X13_reset_B38 (f_X13_reset_L6 k) x0 x1 t1 (93 + x1) t5 q3.2)))))))
theorem f_X13_reset_L6_ok {K : KT} {h0 : PH} {a0 : List Value} {q : PH}  : ∀ (k : Nat) (x0 : Option Nat) (x1 : Int32) (h : PH), f_X13_reset_L6  k x0 x1 h = some q → R K mi_X13_reset h0 a0 (.inl none) q 6 [(0, va_rf x0), (1, .int x1)] [] h := by
  intro k
  induction k with
  | zero => intro _ _ _ hf; cases hf
  | succ k ih =>
    intro x0 x1 h hf
    unfold f_X13_reset_L6 at hf
    refine R_iload_n 1 dX13_reset_6 rfl rfl ?_
    refine R_bipush dX13_reset_7 k_bipush_25 ?_
    refine R_icge (tgt := 45) dX13_reset_9 (by decide) (fun hc => ?_) (fun hc => ?_)
    · rw [if_pos hc] at hf
      obtain rfl := Option.some.inj hf
      exact R_return rfl dX13_reset_45
    · rw [if_neg hc] at hf
      refine R_aload_n 0 dX13_reset_12 rfl rfl ?_
      obtain ⟨t1, et1, hf⟩ := Option.bind_eq_some_iff.mp hf
      refine R_getr lg_X13_7 et1 dX13_reset_13 ?_
      refine R_bipush dX13_reset_16 k_bipush_93 ?_
      refine R_iload_n 1 dX13_reset_18 rfl rfl ?_
      refine R_iadd dX13_reset_19 ?_
      refine R_iload_n 1 dX13_reset_20 rfl rfl ?_
      refine R_aload_n 0 dX13_reset_21 rfl rfl ?_
      obtain ⟨u2, eu2, hf⟩ := Option.bind_eq_some_iff.mp hf
      obtain ⟨q3, eq3, hf⟩ := Option.bind_eq_some_iff.mp hf
      refine R_callV (mj := mi_X13_cells) (ci := 11) (q := (RX13, TX13, 24)) (As := []) (rest := [.int x1, .int (93 + x1), va_rf t1]) (T_X13_cells eq3) eu2 rfl lV_X13_61 ⟨rfl, oky_X13_cells⟩ (by decide) (by decide) rfl (C1_i (C1_i (C1_r C1_0))) (Nat.le_of_ble_eq_true rfl) dX13_reset_22 ?_
      refine R_icge (tgt := 37) dX13_reset_25 (by decide) (fun hc => ?_) (fun hc => ?_)
      · rw [if_pos hc] at hf
        refine R_iconst dX13_reset_37 k_iconst_0 ?_
        exact f_X13_reset_B38_ok ih x0 x1 t1 (93 + x1) 0 q3.2 hf
      · rw [if_neg hc] at hf
        refine R_aload_n 0 dX13_reset_28 rfl rfl ?_
        obtain ⟨t4, et4, hf⟩ := Option.bind_eq_some_iff.mp hf
        refine R_getr lg_X13_22 et4 dX13_reset_29 ?_
        refine R_iload_n 1 dX13_reset_32 rfl rfl ?_
        obtain ⟨t5, et5, hf⟩ := Option.bind_eq_some_iff.mp hf
        refine R_iaload et5 dX13_reset_33 ?_
        refine R_goto (tgt := 38) dX13_reset_34 (by decide) ?_
        exact f_X13_reset_B38_ok ih x0 x1 t1 (93 + x1) t5 q3.2 hf
noncomputable def f_X13_reset (x0 : Option Nat) (h : PH) : Option PH := (rcv 11 x0 h).bind (fun u1 => (f_X13_layFirst x0 h).bind (fun h2 => f_X13_reset_L6  FU x0 0 h2))
theorem T_X13_reset {K : KT} {x0 : Option Nat} {h : PH} {q : PH} (hf : f_X13_reset x0 h = some q) : T K mi_X13_reset [va_rf x0] h (.inl none) q := by
  unfold f_X13_reset at hf
  refine T_of (by decide +kernel) rfl (C1_r C1_0) (Nat.le_of_ble_eq_true rfl) ?_
  show R K mi_X13_reset h [va_rf x0] _ _ 0 [(0, va_rf x0)] [] h
  refine R_aload_n 0 dX13_reset_0 rfl rfl ?_
  obtain ⟨u1, eu1, hf⟩ := Option.bind_eq_some_iff.mp hf
  obtain ⟨h2, eh2, hf⟩ := Option.bind_eq_some_iff.mp hf
  refine R_callV (mj := mi_X13_layFirst) (ci := 11) (q := (RX13, TX13, 24)) (As := []) (rest := []) (T_X13_layFirst eh2) eu1 rfl lV_X13_139 ⟨rfl, oky_X13_layFirst⟩ (by decide) (by decide) rfl C1_0 (Nat.le_of_ble_eq_true rfl) dX13_reset_1 ?_
  refine R_iconst dX13_reset_4 k_iconst_0 ?_
  refine R_istore_n (L' := [(1, .int 0), (0, va_rf x0)]) dX13_reset_5 rfl (by decide) rfl ?_
  refine R.sub [1, 0] (L' := [(0, va_rf x0), (1, .int 0)]) rfl ?_
  exact f_X13_reset_L6_ok  FU x0 0 h2 hf
theorem fp_X13_43 {mi : MI} (ho : mi.own = "EdgeSumsModel") : FP mi 43 11 0 .int := ⟨_, _, _, ck_11, by decide, by decide +kernel, Or.inl ⟨rfl, by rw [ho]; exact Or.inl q2651⟩⟩
theorem lV_X13_47 : GoodIn lw_all (wsV "EdgeSumsModel" 47 "EdgeSumsModel" yX13_lay (ws_ yX13_lay cX13_lay 4 none)) := lw_V q2615 q2617 qs48 q158 q2618
theorem oky_X13_lay : okY yX13_lay 2 := ⟨by decide +kernel, by decide +kernel, by decide +kernel⟩
theorem lV_X13_51 : GoodIn lw_all (wsV "EdgeSumsModel" 51 "EdgeSumsModel" yX13_reset (ws_ yX13_reset cX13_reset 2 none)) := lw_V q2623 q2625 qs50 q158 q2626
theorem oky_X13_reset : okY yX13_reset 0 := ⟨by decide +kernel, by decide +kernel, by decide +kernel⟩
abbrev mi_X13_init : MI := (RX13, yX13_init, cX13_init, 2, none, 6)
theorem fp_X13_init_7 : FP mi_X13_init 7 11 1 (.array .int) := ⟨_, _, _, ck_11, by decide, by decide +kernel, Or.inr ⟨rfl, q2652, rfl, rfl⟩⟩
theorem fp_X13_init_13 : FP mi_X13_init 13 11 2 (.array .int) := ⟨_, _, _, ck_11, by decide, by decide +kernel, Or.inr ⟨rfl, q2653, rfl, rfl⟩⟩
theorem fp_X13_init_16 : FP mi_X13_init 16 11 3 (.array .int) := ⟨_, _, _, ck_11, by decide, by decide +kernel, Or.inr ⟨rfl, q2654, rfl, rfl⟩⟩
theorem fp_X13_init_19 : FP mi_X13_init 19 11 5 (.array .int) := ⟨_, _, _, ck_11, by decide, by decide +kernel, Or.inr ⟨rfl, q2656, rfl, rfl⟩⟩
theorem fp_X13_init_22 : FP mi_X13_init 22 11 7 (.array .int) := ⟨_, _, _, ck_11, by decide, by decide +kernel, Or.inr ⟨rfl, q2658, rfl, rfl⟩⟩
theorem fp_X13_init_25 : FP mi_X13_init 25 11 12 (.array .int) := ⟨_, _, _, ck_11, by decide, by decide +kernel, Or.inr ⟨rfl, q2663, rfl, rfl⟩⟩
theorem fp_X13_init_28 : FP mi_X13_init 28 11 14 (.array .int) := ⟨_, _, _, ck_11, by decide, by decide +kernel, Or.inr ⟨rfl, q2665, rfl, rfl⟩⟩
theorem fp_X13_init_31 : FP mi_X13_init 31 11 15 (.array .int) := ⟨_, _, _, ck_11, by decide, by decide +kernel, Or.inr ⟨rfl, q2666, rfl, rfl⟩⟩
theorem fp_X13_init_34 : FP mi_X13_init 34 11 16 (.array .int) := ⟨_, _, _, ck_11, by decide, by decide +kernel, Or.inr ⟨rfl, q2667, rfl, rfl⟩⟩
theorem fp_X13_init_37 : FP mi_X13_init 37 11 17 (.array .int) := ⟨_, _, _, ck_11, by decide, by decide +kernel, Or.inr ⟨rfl, q2668, rfl, rfl⟩⟩
theorem fp_X13_init_40 : FP mi_X13_init 40 11 18 (.array .int) := ⟨_, _, _, ck_11, by decide, by decide +kernel, Or.inr ⟨rfl, q2669, rfl, rfl⟩⟩
noncomputable def f_X13_init_L112  : Nat → Option Nat → Int32 → PH → Option PH
  | 0, _, _, _ => none
  | k + 1, x0, x1, h => if 5 ≤ x1 then ((rcv 11 x0 h).bind (fun u1 => (f_X13_lay x0 3 3 h).bind (fun h2 => (rcv 11 x0 h2).bind (fun u3 => (f_X13_reset x0 h2).bind (fun h4 => some h4))))) else ((gfr 11 1 x0 h).bind (fun t5 => (asi 0 t5 (3 + x1) (x1 + 1) h).bind (fun h6 => (f_X13_init_L112 k) x0 (x1 + 1) h6)))
theorem f_X13_init_L112_ok {K : KT} {h0 : PH} {a0 : List Value} {q : PH}  : ∀ (k : Nat) (x0 : Option Nat) (x1 : Int32) (h : PH), f_X13_init_L112  k x0 x1 h = some q → R K mi_X13_init h0 a0 (.inl none) q 112 [(0, va_rf x0), (1, .int x1)] [] h := by
  intro k
  induction k with
  | zero => intro _ _ _ hf; cases hf
  | succ k ih =>
    intro x0 x1 h hf
    unfold f_X13_init_L112 at hf
    refine R_iload_n 1 dX13_init_112 rfl rfl ?_
    refine R_iconst dX13_init_113 k_iconst_5 ?_
    refine R_icge (tgt := 134) dX13_init_114 (by decide) (fun hc => ?_) (fun hc => ?_)
    · rw [if_pos hc] at hf
      refine R_aload_n 0 dX13_init_134 rfl rfl ?_
      refine R_iconst dX13_init_135 k_iconst_3 ?_
      refine R_iconst dX13_init_136 k_iconst_3 ?_
      obtain ⟨u1, eu1, hf⟩ := Option.bind_eq_some_iff.mp hf
      obtain ⟨h2, eh2, hf⟩ := Option.bind_eq_some_iff.mp hf
      refine R_callV (mj := mi_X13_lay) (ci := 11) (q := (RX13, TX13, 24)) (As := [.int 3, .int 3]) (rest := []) (T_X13_lay eh2) eu1 rfl lV_X13_47 ⟨rfl, oky_X13_lay⟩ (by decide) (by decide) rfl C1_0 (Nat.le_of_ble_eq_true rfl) dX13_init_137 ?_
      refine R_aload_n 0 dX13_init_140 rfl rfl ?_
      obtain ⟨u3, eu3, hf⟩ := Option.bind_eq_some_iff.mp hf
      obtain ⟨h4, eh4, hf⟩ := Option.bind_eq_some_iff.mp hf
      refine R_callV (mj := mi_X13_reset) (ci := 11) (q := (RX13, TX13, 24)) (As := []) (rest := []) (T_X13_reset eh4) eu3 rfl lV_X13_51 ⟨rfl, oky_X13_reset⟩ (by decide) (by decide) rfl C1_0 (Nat.le_of_ble_eq_true rfl) dX13_init_141 ?_
      obtain rfl := Option.some.inj hf
      exact R_return rfl dX13_init_144
    · rw [if_neg hc] at hf
      refine R_aload_n 0 dX13_init_117 rfl rfl ?_
      obtain ⟨t5, et5, hf⟩ := Option.bind_eq_some_iff.mp hf
      refine R_getr lg_X13_7 et5 dX13_init_118 ?_
      refine R_iconst dX13_init_121 k_iconst_3 ?_
      refine R_iload_n 1 dX13_init_122 rfl rfl ?_
      refine R_iadd dX13_init_123 ?_
      refine R_iload_n 1 dX13_init_124 rfl rfl ?_
      refine R_iconst dX13_init_125 k_iconst_1 ?_
      refine R_iadd dX13_init_126 ?_
      obtain ⟨h6, eh6, hf⟩ := Option.bind_eq_some_iff.mp hf
      refine R_iastore eh6 dX13_init_127 ?_
      refine R_iinc (L' := [(1, .int (x1 + 1)), (0, va_rf x0)]) 1 dX13_init_128 rfl (k_inc_1 _) (by decide) rfl ?_
      refine R_goto (tgt := 112) dX13_init_131 (by decide) ?_
      refine R.sub [1, 0] (L' := [(0, va_rf x0), (1, .int (x1 + 1))]) rfl ?_
      exact ih x0 (x1 + 1) h6 hf
noncomputable def f_X13_init (x0 : Option Nat) (h : PH) : Option PH := (nn x0).bind (fun u1 => (nwi 0 356 h).bind (fun q2 => (pf 11 1 x0 (va_rf q2.1) q2.2).bind (fun h3 => (nwi 0 356 h3).bind (fun q4 => (pf 11 2 x0 (va_rf q4.1) q4.2).bind (fun h5 => (nwi 0 1780 h5).bind (fun q6 => (pf 11 3 x0 (va_rf q6.1) q6.2).bind (fun h7 => (nwi 0 140 h7).bind (fun q8 => (pf 11 5 x0 (va_rf q8.1) q8.2).bind (fun h9 => (nwi 0 25 h9).bind (fun q10 => (pf 11 7 x0 (va_rf q10.1) q10.2).bind (fun h11 => (nwi 0 600 h11).bind (fun q12 => (pf 11 12 x0 (va_rf q12.1) q12.2).bind (fun h13 => (nwi 0 25 h13).bind (fun q14 => (pf 11 14 x0 (va_rf q14.1) q14.2).bind (fun h15 => (nwi 0 25 h15).bind (fun q16 => (pf 11 15 x0 (va_rf q16.1) q16.2).bind (fun h17 => (nwi 0 25 h17).bind (fun q18 => (pf 11 16 x0 (va_rf q18.1) q18.2).bind (fun h19 => (nwi 0 118 h19).bind (fun q20 => (pf 11 17 x0 (va_rf q20.1) q20.2).bind (fun h21 => (nwi 0 40 h21).bind (fun q22 => (pf 11 18 x0 (va_rf q22.1) q22.2).bind (fun h23 => (pf 11 0 x0 (.int 0) h23).bind (fun h24 => (gfr 11 1 x0 h24).bind (fun t25 => (asi 0 t25 2 31 h24).bind (fun h26 => f_X13_init_L112  FU x0 0 h26))))))))))))))))))))))))))
theorem T_X13_init {K : KT} {x0 : Option Nat} {h : PH} {q : PH} (hf : f_X13_init x0 h = some q) : T K mi_X13_init [va_rf x0] h (.inl none) q := by
  unfold f_X13_init at hf
  refine T_of (by decide +kernel) rfl (C1_r C1_0) (Nat.le_of_ble_eq_true rfl) ?_
  show R K mi_X13_init h [va_rf x0] _ _ 0 [(0, va_rf x0)] [] h
  refine R_aload_n 0 dX13_init_0 rfl rfl ?_
  obtain ⟨u1, eu1, hf⟩ := Option.bind_eq_some_iff.mp hf
  refine R_objInitx eu1 q2614 q189 q190 (by decide) C1_0 (Nat.le_of_ble_eq_true rfl) dX13_init_1 ?_
  refine R_aload_n 0 dX13_init_4 rfl rfl ?_
  refine R_sipush dX13_init_5 k_sipush_356 ?_
  obtain ⟨q2, eq2, hf⟩ := Option.bind_eq_some_iff.mp hf
  refine R_newarray (idx := 0) eq2 rfl rfl (fun o q => by cases q) rfl (by decide) q242 dX13_init_8 ?_
  obtain ⟨h3, eh3, hf⟩ := Option.bind_eq_some_iff.mp hf
  refine R_putR (by first | exact Or.inl ⟨_, rfl⟩ | exact Or.inr ⟨_, rfl⟩) fp_X13_init_7 eh3 dX13_init_10 ?_
  refine R_aload_n 0 dX13_init_13 rfl rfl ?_
  refine R_sipush dX13_init_14 k_sipush_356 ?_
  obtain ⟨q4, eq4, hf⟩ := Option.bind_eq_some_iff.mp hf
  refine R_newarray (idx := 0) eq4 rfl rfl (fun o q => by cases q) rfl (by decide) q242 dX13_init_17 ?_
  obtain ⟨h5, eh5, hf⟩ := Option.bind_eq_some_iff.mp hf
  refine R_putR (by first | exact Or.inl ⟨_, rfl⟩ | exact Or.inr ⟨_, rfl⟩) fp_X13_init_13 eh5 dX13_init_19 ?_
  refine R_aload_n 0 dX13_init_22 rfl rfl ?_
  refine R_sipush dX13_init_23 k_sipush_1780 ?_
  obtain ⟨q6, eq6, hf⟩ := Option.bind_eq_some_iff.mp hf
  refine R_newarray (idx := 0) eq6 rfl rfl (fun o q => by cases q) rfl (by decide) q242 dX13_init_26 ?_
  obtain ⟨h7, eh7, hf⟩ := Option.bind_eq_some_iff.mp hf
  refine R_putR (by first | exact Or.inl ⟨_, rfl⟩ | exact Or.inr ⟨_, rfl⟩) fp_X13_init_16 eh7 dX13_init_28 ?_
  refine R_aload_n 0 dX13_init_31 rfl rfl ?_
  refine R_sipush dX13_init_32 k_sipush_140 ?_
  obtain ⟨q8, eq8, hf⟩ := Option.bind_eq_some_iff.mp hf
  refine R_newarray (idx := 0) eq8 rfl rfl (fun o q => by cases q) rfl (by decide) q242 dX13_init_35 ?_
  obtain ⟨h9, eh9, hf⟩ := Option.bind_eq_some_iff.mp hf
  refine R_putR (by first | exact Or.inl ⟨_, rfl⟩ | exact Or.inr ⟨_, rfl⟩) fp_X13_init_19 eh9 dX13_init_37 ?_
  refine R_aload_n 0 dX13_init_40 rfl rfl ?_
  refine R_bipush dX13_init_41 k_bipush_25 ?_
  obtain ⟨q10, eq10, hf⟩ := Option.bind_eq_some_iff.mp hf
  refine R_newarray (idx := 0) eq10 rfl rfl (fun o q => by cases q) rfl (by decide) q242 dX13_init_43 ?_
  obtain ⟨h11, eh11, hf⟩ := Option.bind_eq_some_iff.mp hf
  refine R_putR (by first | exact Or.inl ⟨_, rfl⟩ | exact Or.inr ⟨_, rfl⟩) fp_X13_init_22 eh11 dX13_init_45 ?_
  refine R_aload_n 0 dX13_init_48 rfl rfl ?_
  refine R_sipush dX13_init_49 k_sipush_600 ?_
  obtain ⟨q12, eq12, hf⟩ := Option.bind_eq_some_iff.mp hf
  refine R_newarray (idx := 0) eq12 rfl rfl (fun o q => by cases q) rfl (by decide) q242 dX13_init_52 ?_
  obtain ⟨h13, eh13, hf⟩ := Option.bind_eq_some_iff.mp hf
  refine R_putR (by first | exact Or.inl ⟨_, rfl⟩ | exact Or.inr ⟨_, rfl⟩) fp_X13_init_25 eh13 dX13_init_54 ?_
  refine R_aload_n 0 dX13_init_57 rfl rfl ?_
  refine R_bipush dX13_init_58 k_bipush_25 ?_
  obtain ⟨q14, eq14, hf⟩ := Option.bind_eq_some_iff.mp hf
  refine R_newarray (idx := 0) eq14 rfl rfl (fun o q => by cases q) rfl (by decide) q242 dX13_init_60 ?_
  obtain ⟨h15, eh15, hf⟩ := Option.bind_eq_some_iff.mp hf
  refine R_putR (by first | exact Or.inl ⟨_, rfl⟩ | exact Or.inr ⟨_, rfl⟩) fp_X13_init_28 eh15 dX13_init_62 ?_
  refine R_aload_n 0 dX13_init_65 rfl rfl ?_
  refine R_bipush dX13_init_66 k_bipush_25 ?_
  obtain ⟨q16, eq16, hf⟩ := Option.bind_eq_some_iff.mp hf
  refine R_newarray (idx := 0) eq16 rfl rfl (fun o q => by cases q) rfl (by decide) q242 dX13_init_68 ?_
  obtain ⟨h17, eh17, hf⟩ := Option.bind_eq_some_iff.mp hf
  refine R_putR (by first | exact Or.inl ⟨_, rfl⟩ | exact Or.inr ⟨_, rfl⟩) fp_X13_init_31 eh17 dX13_init_70 ?_
  refine R_aload_n 0 dX13_init_73 rfl rfl ?_
  refine R_bipush dX13_init_74 k_bipush_25 ?_
  obtain ⟨q18, eq18, hf⟩ := Option.bind_eq_some_iff.mp hf
  refine R_newarray (idx := 0) eq18 rfl rfl (fun o q => by cases q) rfl (by decide) q242 dX13_init_76 ?_
  obtain ⟨h19, eh19, hf⟩ := Option.bind_eq_some_iff.mp hf
  refine R_putR (by first | exact Or.inl ⟨_, rfl⟩ | exact Or.inr ⟨_, rfl⟩) fp_X13_init_34 eh19 dX13_init_78 ?_
  refine R_aload_n 0 dX13_init_81 rfl rfl ?_
  refine R_bipush dX13_init_82 k_bipush_118 ?_
  obtain ⟨q20, eq20, hf⟩ := Option.bind_eq_some_iff.mp hf
  refine R_newarray (idx := 0) eq20 rfl rfl (fun o q => by cases q) rfl (by decide) q242 dX13_init_84 ?_
  obtain ⟨h21, eh21, hf⟩ := Option.bind_eq_some_iff.mp hf
  refine R_putR (by first | exact Or.inl ⟨_, rfl⟩ | exact Or.inr ⟨_, rfl⟩) fp_X13_init_37 eh21 dX13_init_86 ?_
  refine R_aload_n 0 dX13_init_89 rfl rfl ?_
  refine R_bipush dX13_init_90 k_bipush_40 ?_
  obtain ⟨q22, eq22, hf⟩ := Option.bind_eq_some_iff.mp hf
  refine R_newarray (idx := 0) eq22 rfl rfl (fun o q => by cases q) rfl (by decide) q242 dX13_init_92 ?_
  obtain ⟨h23, eh23, hf⟩ := Option.bind_eq_some_iff.mp hf
  refine R_putR (by first | exact Or.inl ⟨_, rfl⟩ | exact Or.inr ⟨_, rfl⟩) fp_X13_init_40 eh23 dX13_init_94 ?_
  refine R_aload_n 0 dX13_init_97 rfl rfl ?_
  refine R_iconst dX13_init_98 k_iconst_0 ?_
  obtain ⟨h24, eh24, hf⟩ := Option.bind_eq_some_iff.mp hf
  refine R_putI (fp_X13_43 rfl) eh24 dX13_init_99 ?_
  refine R_aload_n 0 dX13_init_102 rfl rfl ?_
  obtain ⟨t25, et25, hf⟩ := Option.bind_eq_some_iff.mp hf
  refine R_getr lg_X13_7 et25 dX13_init_103 ?_
  refine R_iconst dX13_init_106 k_iconst_2 ?_
  refine R_bipush dX13_init_107 k_bipush_31 ?_
  obtain ⟨h26, eh26, hf⟩ := Option.bind_eq_some_iff.mp hf
  refine R_iastore eh26 dX13_init_109 ?_
  refine R_iconst dX13_init_110 k_iconst_0 ?_
  refine R_istore_n (L' := [(1, .int 0), (0, va_rf x0)]) dX13_init_111 rfl (by decide) rfl ?_
  refine R.sub [1, 0] (L' := [(0, va_rf x0), (1, .int 0)]) rfl ?_
  exact f_X13_init_L112_ok  FU x0 0 h26 hf
abbrev mi_X13_in : MI := (RX13, yX13_in, cX13_in, 3, (some FieldType.boolean), 1)
noncomputable def f_X13_in (x0 : Int32) (x1 : Int32) (x2 : Int32) (h : PH) : Option (Int32 × PH) := if x0 < x1 then (some (0, h)) else (if x2 < x0 then (some (0, h)) else (some (1, h)))
theorem T_X13_in {K : KT} {x0 : Int32} {x1 : Int32} {x2 : Int32} {h : PH} {q : (Int32 × PH)} (hf : f_X13_in x0 x1 x2 h = some q) : T K mi_X13_in [.int x0, .int x1, .int x2] h (.inl (some (.int q.1))) q.2 := by
  unfold f_X13_in at hf
  refine T_of (by decide +kernel) rfl (C1_i (C1_i (C1_i C1_0))) (Nat.le_of_ble_eq_true rfl) ?_
  show R K mi_X13_in h [.int x0, .int x1, .int x2] _ _ 0 [(0, .int x0), (1, .int x1), (2, .int x2)] [] h
  refine R_iload_n 0 dX13_in_0 rfl rfl ?_
  refine R_iload_n 1 dX13_in_1 rfl rfl ?_
  refine R_iclt (tgt := 14) dX13_in_2 (by decide) (fun hc => ?_) (fun hc => ?_)
  · rw [if_pos hc] at hf
    refine R_iconst dX13_in_14 k_iconst_0 ?_
    obtain rfl := Option.some.inj hf
    exact R_iretZ0 rfl dX13_in_15
  · rw [if_neg hc] at hf
    refine R_iload_n 0 dX13_in_5 rfl rfl ?_
    refine R_iload_n 2 dX13_in_6 rfl rfl ?_
    refine R_icgt (tgt := 14) dX13_in_7 (by decide) (fun hc => ?_) (fun hc => ?_)
    · rw [if_pos hc] at hf
      refine R_iconst dX13_in_14 k_iconst_0 ?_
      obtain rfl := Option.some.inj hf
      exact R_iretZ0 rfl dX13_in_15
    · rw [if_neg hc] at hf
      refine R_iconst dX13_in_10 k_iconst_1 ?_
      refine R_goto (tgt := 15) dX13_in_11 (by decide) ?_
      obtain rfl := Option.some.inj hf
      exact R_iretZ1 rfl dX13_in_15
theorem lg_X13_58 : LG "EdgeSumsModel" 58 11 4 := ⟨_, _, _, ck_11, by decide, Or.inl q2655⟩
theorem fp_X13_58 {mi : MI} (ho : mi.own = "EdgeSumsModel") : FP mi 58 11 4 .int := ⟨_, _, _, ck_11, by decide, by decide +kernel, Or.inl ⟨rfl, by rw [ho]; exact Or.inl q2655⟩⟩
theorem lg_X13_16 : LG "EdgeSumsModel" 16 11 3 := ⟨_, _, _, ck_11, by decide, Or.inl q2654⟩
abbrev mi_X13_act : MI := (RX13, yX13_act, cX13_act, 2, none, 1)
noncomputable def f_X13_act_L51  : Nat → Option Nat → Int32 → PH → Option PH
  | 0, _, _, _ => none
  | k + 1, x0, x1, h => if 356 ≤ x1 then ((gfi 11 4 x0 h).bind (fun t1 => (pf 11 4 x0 (.int (t1 + 1)) h).bind (fun h2 => some h2))) else ((gfr 11 3 x0 h).bind (fun t3 => (gfi 11 4 x0 h).bind (fun t4 => (gfr 11 1 x0 h).bind (fun t5 => (ald 0 t5 x1 h).bind (fun t6 => (asi 0 t3 ((356 * t4) + x1) t6 h).bind (fun h7 => (f_X13_act_L51 k) x0 (x1 + 1) h7))))))
theorem f_X13_act_L51_ok {K : KT} {h0 : PH} {a0 : List Value} {q : PH}  : ∀ (k : Nat) (x0 : Option Nat) (x1 : Int32) (h : PH), f_X13_act_L51  k x0 x1 h = some q → R K mi_X13_act h0 a0 (.inl none) q 51 [(0, va_rf x0), (1, .int x1)] [] h := by
  intro k
  induction k with
  | zero => intro _ _ _ hf; cases hf
  | succ k ih =>
    intro x0 x1 h hf
    unfold f_X13_act_L51 at hf
    refine R_iload_n 1 dX13_act_51 rfl rfl ?_
    refine R_sipush dX13_act_52 k_sipush_356 ?_
    refine R_icge (tgt := 85) dX13_act_55 (by decide) (fun hc => ?_) (fun hc => ?_)
    · rw [if_pos hc] at hf
      refine R_aload_n 0 dX13_act_85 rfl rfl ?_
      refine R_dup dX13_act_86 (rf_cat _) ?_
      obtain ⟨t1, et1, hf⟩ := Option.bind_eq_some_iff.mp hf
      refine R_geti lg_X13_58 et1 dX13_act_87 ?_
      refine R_iconst dX13_act_90 k_iconst_1 ?_
      refine R_iadd dX13_act_91 ?_
      obtain ⟨h2, eh2, hf⟩ := Option.bind_eq_some_iff.mp hf
      refine R_putI (fp_X13_58 rfl) eh2 dX13_act_92 ?_
      obtain rfl := Option.some.inj hf
      exact R_return rfl dX13_act_95
    · rw [if_neg hc] at hf
      refine R_aload_n 0 dX13_act_58 rfl rfl ?_
      obtain ⟨t3, et3, hf⟩ := Option.bind_eq_some_iff.mp hf
      refine R_getr lg_X13_16 et3 dX13_act_59 ?_
      refine R_sipush dX13_act_62 k_sipush_356 ?_
      refine R_aload_n 0 dX13_act_65 rfl rfl ?_
      obtain ⟨t4, et4, hf⟩ := Option.bind_eq_some_iff.mp hf
      refine R_geti lg_X13_58 et4 dX13_act_66 ?_
      refine R_imul dX13_act_69 ?_
      refine R_iload_n 1 dX13_act_70 rfl rfl ?_
      refine R_iadd dX13_act_71 ?_
      refine R_aload_n 0 dX13_act_72 rfl rfl ?_
      obtain ⟨t5, et5, hf⟩ := Option.bind_eq_some_iff.mp hf
      refine R_getr lg_X13_7 et5 dX13_act_73 ?_
      refine R_iload_n 1 dX13_act_76 rfl rfl ?_
      obtain ⟨t6, et6, hf⟩ := Option.bind_eq_some_iff.mp hf
      refine R_iaload et6 dX13_act_77 ?_
      obtain ⟨h7, eh7, hf⟩ := Option.bind_eq_some_iff.mp hf
      refine R_iastore eh7 dX13_act_78 ?_
      refine R_iinc (L' := [(1, .int (x1 + 1)), (0, va_rf x0)]) 1 dX13_act_79 rfl (k_inc_1 _) (by decide) rfl ?_
      refine R_goto (tgt := 51) dX13_act_82 (by decide) ?_
      refine R.sub [1, 0] (L' := [(0, va_rf x0), (1, .int (x1 + 1))]) rfl ?_
      exact ih x0 (x1 + 1) h7 hf
noncomputable def f_X13_act_L10  : Nat → Option Nat → Int32 → PH → Option PH
  | 0, _, _, _ => none
  | k + 1, x0, x1, h => if 1424 ≤ x1 then ((gfi 11 4 x0 h).bind (fun t1 => (pf 11 4 x0 (.int (t1 - 1)) h).bind (fun h2 => f_X13_act_L51  FU x0 0 h2))) else ((gfr 11 3 x0 h).bind (fun t3 => (gfr 11 3 x0 h).bind (fun t4 => (ald 0 t4 (x1 + 356) h).bind (fun t5 => (asi 0 t3 x1 t5 h).bind (fun h6 => (f_X13_act_L10 k) x0 (x1 + 1) h6)))))
theorem f_X13_act_L10_ok {K : KT} {h0 : PH} {a0 : List Value} {q : PH}  : ∀ (k : Nat) (x0 : Option Nat) (x1 : Int32) (h : PH), f_X13_act_L10  k x0 x1 h = some q → R K mi_X13_act h0 a0 (.inl none) q 10 [(0, va_rf x0), (1, .int x1)] [] h := by
  intro k
  induction k with
  | zero => intro _ _ _ hf; cases hf
  | succ k ih =>
    intro x0 x1 h hf
    unfold f_X13_act_L10 at hf
    refine R_iload_n 1 dX13_act_10 rfl rfl ?_
    refine R_sipush dX13_act_11 k_sipush_1424 ?_
    refine R_icge (tgt := 39) dX13_act_14 (by decide) (fun hc => ?_) (fun hc => ?_)
    · rw [if_pos hc] at hf
      refine R_aload_n 0 dX13_act_39 rfl rfl ?_
      refine R_dup dX13_act_40 (rf_cat _) ?_
      obtain ⟨t1, et1, hf⟩ := Option.bind_eq_some_iff.mp hf
      refine R_geti lg_X13_58 et1 dX13_act_41 ?_
      refine R_iconst dX13_act_44 k_iconst_1 ?_
      refine R_isub dX13_act_45 ?_
      obtain ⟨h2, eh2, hf⟩ := Option.bind_eq_some_iff.mp hf
      refine R_putI (fp_X13_58 rfl) eh2 dX13_act_46 ?_
      refine R_iconst dX13_act_49 k_iconst_0 ?_
      refine R_istore_n (L' := [(1, .int 0), (0, va_rf x0)]) dX13_act_50 rfl (by decide) rfl ?_
      refine R.sub [1, 0] (L' := [(0, va_rf x0), (1, .int 0)]) rfl ?_
      exact f_X13_act_L51_ok  FU x0 0 h2 hf
    · rw [if_neg hc] at hf
      refine R_aload_n 0 dX13_act_17 rfl rfl ?_
      obtain ⟨t3, et3, hf⟩ := Option.bind_eq_some_iff.mp hf
      refine R_getr lg_X13_16 et3 dX13_act_18 ?_
      refine R_iload_n 1 dX13_act_21 rfl rfl ?_
      refine R_aload_n 0 dX13_act_22 rfl rfl ?_
      obtain ⟨t4, et4, hf⟩ := Option.bind_eq_some_iff.mp hf
      refine R_getr lg_X13_16 et4 dX13_act_23 ?_
      refine R_iload_n 1 dX13_act_26 rfl rfl ?_
      refine R_sipush dX13_act_27 k_sipush_356 ?_
      refine R_iadd dX13_act_30 ?_
      obtain ⟨t5, et5, hf⟩ := Option.bind_eq_some_iff.mp hf
      refine R_iaload et5 dX13_act_31 ?_
      obtain ⟨h6, eh6, hf⟩ := Option.bind_eq_some_iff.mp hf
      refine R_iastore eh6 dX13_act_32 ?_
      refine R_iinc (L' := [(1, .int (x1 + 1)), (0, va_rf x0)]) 1 dX13_act_33 rfl (k_inc_1 _) (by decide) rfl ?_
      refine R_goto (tgt := 10) dX13_act_36 (by decide) ?_
      refine R.sub [1, 0] (L' := [(0, va_rf x0), (1, .int (x1 + 1))]) rfl ?_
      exact ih x0 (x1 + 1) h6 hf
noncomputable def f_X13_act (x0 : Option Nat) (h : PH) : Option PH := (gfi 11 4 x0 h).bind (fun t1 => if t1 = 5 then (f_X13_act_L10  FU x0 0 h) else (f_X13_act_L51  FU x0 0 h))
theorem T_X13_act {K : KT} {x0 : Option Nat} {h : PH} {q : PH} (hf : f_X13_act x0 h = some q) : T K mi_X13_act [va_rf x0] h (.inl none) q := by
  unfold f_X13_act at hf
  refine T_of (by decide +kernel) rfl (C1_r C1_0) (Nat.le_of_ble_eq_true rfl) ?_
  show R K mi_X13_act h [va_rf x0] _ _ 0 [(0, va_rf x0)] [] h
  refine R_aload_n 0 dX13_act_0 rfl rfl ?_
  obtain ⟨t1, et1, hf⟩ := Option.bind_eq_some_iff.mp hf
  refine R_geti lg_X13_58 et1 dX13_act_1 ?_
  refine R_iconst dX13_act_4 k_iconst_5 ?_
  refine R_icne (tgt := 49) dX13_act_5 (by decide) (fun hc => ?_) (fun hc => ?_)
  · rw [if_pos hc] at hf
    refine R_iconst dX13_act_8 k_iconst_0 ?_
    refine R_istore_n (L' := [(1, .int 0), (0, va_rf x0)]) dX13_act_9 rfl (by decide) rfl ?_
    refine R.sub [1, 0] (L' := [(0, va_rf x0), (1, .int 0)]) rfl ?_
    exact f_X13_act_L10_ok  FU x0 0 h hf
  · rw [if_neg hc] at hf
    refine R_iconst dX13_act_49 k_iconst_0 ?_
    refine R_istore_n (L' := [(1, .int 0), (0, va_rf x0)]) dX13_act_50 rfl (by decide) rfl ?_
    refine R.sub [1, 0] (L' := [(0, va_rf x0), (1, .int 0)]) rfl ?_
    exact f_X13_act_L51_ok  FU x0 0 h hf
abbrev mi_X13_more : MI := (RX13, yX13_more, cX13_more, 2, (some FieldType.int), 1)
noncomputable def f_X13_more (x0 : Int32) (x1 : Int32) (h : PH) : Option (Int32 × PH) := if x0 ≤ x1 then (some (x1, h)) else (some (x0, h))
theorem T_X13_more {K : KT} {x0 : Int32} {x1 : Int32} {h : PH} {q : (Int32 × PH)} (hf : f_X13_more x0 x1 h = some q) : T K mi_X13_more [.int x0, .int x1] h (.inl (some (.int q.1))) q.2 := by
  unfold f_X13_more at hf
  refine T_of (by decide +kernel) rfl (C1_i (C1_i C1_0)) (Nat.le_of_ble_eq_true rfl) ?_
  show R K mi_X13_more h [.int x0, .int x1] _ _ 0 [(0, .int x0), (1, .int x1)] [] h
  refine R_iload_n 0 dX13_more_0 rfl rfl ?_
  refine R_iload_n 1 dX13_more_1 rfl rfl ?_
  refine R_icle (tgt := 9) dX13_more_2 (by decide) (fun hc => ?_) (fun hc => ?_)
  · rw [if_pos hc] at hf
    refine R_iload_n 1 dX13_more_9 rfl rfl ?_
    obtain rfl := Option.some.inj hf
    exact R_iretI rfl dX13_more_10
  · rw [if_neg hc] at hf
    refine R_iload_n 0 dX13_more_5 rfl rfl ?_
    refine R_goto (tgt := 10) dX13_more_6 (by decide) ?_
    obtain rfl := Option.some.inj hf
    exact R_iretI rfl dX13_more_10
theorem lS_X13_79 : GoodIn lw_all (va_wsS "EdgeSumsModel" 79 yX13_more (ws_ yX13_more cX13_more 2 (some FieldType.int))) := lw_S q2739 q2740 q158 q2741
theorem oky_X13_more : okY yX13_more 2 := ⟨by decide +kernel, by decide +kernel, by decide +kernel⟩
abbrev mi_X13_blocks : MI := (RX13, yX13_blocks, cX13_blocks, 3, (some FieldType.int), 2)
noncomputable def f_X13_blocks_L4  : Nat → Option Nat → Int32 → Int32 → PH → Option (Int32 × PH)
  | 0, _, _, _, _ => none
  | k + 1, x0, x1, x2, h => (rcv 11 x0 h).bind (fun u1 => (f_X13_cells x0 h).bind (fun q2 => if q2.1 ≤ x2 then (some (x1 + 1, q2.2)) else ((rcv 11 x0 q2.2).bind (fun u3 => (f_X13_blockOf x0 x2 q2.2).bind (fun q4 => (f_X13_more x1 q4.1 q4.2).bind (fun q5 => (f_X13_blocks_L4 k) x0 q5.1 (x2 + 1) q5.2))))))
theorem f_X13_blocks_L4_ok {K : KT} {h0 : PH} {a0 : List Value} {q : (Int32 × PH)}  : ∀ (k : Nat) (x0 : Option Nat) (x1 : Int32) (x2 : Int32) (h : PH), f_X13_blocks_L4  k x0 x1 x2 h = some q → R K mi_X13_blocks h0 a0 (.inl (some (.int q.1))) q.2 4 [(0, va_rf x0), (1, .int x1), (2, .int x2)] [] h := by
  intro k
  induction k with
  | zero => intro _ _ _ _ hf; cases hf
  | succ k ih =>
    intro x0 x1 x2 h hf
    unfold f_X13_blocks_L4 at hf
    refine R_iload_n 2 dX13_blocks_4 rfl rfl ?_
    refine R_aload_n 0 dX13_blocks_5 rfl rfl ?_
    obtain ⟨u1, eu1, hf⟩ := Option.bind_eq_some_iff.mp hf
    obtain ⟨q2, eq2, hf⟩ := Option.bind_eq_some_iff.mp hf
    refine R_callV (mj := mi_X13_cells) (ci := 11) (q := (RX13, TX13, 24)) (As := []) (rest := [.int x2]) (T_X13_cells eq2) eu1 rfl lV_X13_61 ⟨rfl, oky_X13_cells⟩ (by decide) (by decide) rfl (C1_i C1_0) (Nat.le_of_ble_eq_true rfl) dX13_blocks_6 ?_
    refine R_icge (tgt := 28) dX13_blocks_9 (by decide) (fun hc => ?_) (fun hc => ?_)
    · rw [if_pos hc] at hf
      refine R_iload_n 1 dX13_blocks_28 rfl rfl ?_
      refine R_iconst dX13_blocks_29 k_iconst_1 ?_
      refine R_iadd dX13_blocks_30 ?_
      obtain rfl := Option.some.inj hf
      exact R_iretI rfl dX13_blocks_31
    · rw [if_neg hc] at hf
      refine R_iload_n 1 dX13_blocks_12 rfl rfl ?_
      refine R_aload_n 0 dX13_blocks_13 rfl rfl ?_
      refine R_iload_n 2 dX13_blocks_14 rfl rfl ?_
      obtain ⟨u3, eu3, hf⟩ := Option.bind_eq_some_iff.mp hf
      obtain ⟨q4, eq4, hf⟩ := Option.bind_eq_some_iff.mp hf
      refine R_callV (mj := mi_X13_blockOf) (ci := 11) (q := (RX13, TX13, 24)) (As := [.int x2]) (rest := [.int x1]) (T_X13_blockOf eq4) eu3 rfl lV_X13_72 ⟨rfl, oky_X13_blockOf⟩ (by decide) (by decide) rfl (C1_i C1_0) (Nat.le_of_ble_eq_true rfl) dX13_blocks_15 ?_
      obtain ⟨q5, eq5, hf⟩ := Option.bind_eq_some_iff.mp hf
      refine R_callS (mj := mi_X13_more) (As := [.int x1, .int q4.1]) (rest := []) (T_X13_more eq5) lS_X13_79 oky_X13_more (by decide) (by decide) rfl C1_0 (Nat.le_of_ble_eq_true rfl) dX13_blocks_18 ?_
      refine R_istore_n (L' := [(1, .int q5.1), (0, va_rf x0), (2, .int x2)]) dX13_blocks_21 rfl (by decide) rfl ?_
      refine R_iinc (L' := [(2, .int (x2 + 1)), (1, .int q5.1), (0, va_rf x0)]) 2 dX13_blocks_22 rfl (k_inc_1 _) (by decide) rfl ?_
      refine R_goto (tgt := 4) dX13_blocks_25 (by decide) ?_
      refine R.sub [2, 1, 0] (L' := [(0, va_rf x0), (1, .int q5.1), (2, .int (x2 + 1))]) rfl ?_
      exact ih x0 q5.1 (x2 + 1) q5.2 hf
noncomputable def f_X13_blocks (x0 : Option Nat) (h : PH) : Option (Int32 × PH) := f_X13_blocks_L4  FU x0 0 0 h
theorem T_X13_blocks {K : KT} {x0 : Option Nat} {h : PH} {q : (Int32 × PH)} (hf : f_X13_blocks x0 h = some q) : T K mi_X13_blocks [va_rf x0] h (.inl (some (.int q.1))) q.2 := by
  unfold f_X13_blocks at hf
  refine T_of (by decide +kernel) rfl (C1_r C1_0) (Nat.le_of_ble_eq_true rfl) ?_
  show R K mi_X13_blocks h [va_rf x0] _ _ 0 [(0, va_rf x0)] [] h
  refine R_iconst dX13_blocks_0 k_iconst_0 ?_
  refine R_istore_n (L' := [(1, .int 0), (0, va_rf x0)]) dX13_blocks_1 rfl (by decide) rfl ?_
  refine R_iconst dX13_blocks_2 k_iconst_0 ?_
  refine R_istore_n (L' := [(2, .int 0), (1, .int 0), (0, va_rf x0)]) dX13_blocks_3 rfl (by decide) rfl ?_
  refine R.sub [2, 1, 0] (L' := [(0, va_rf x0), (1, .int 0), (2, .int 0)]) rfl ?_
  exact f_X13_blocks_L4_ok  FU x0 0 0 h hf
theorem lS_X13_65 : GoodIn lw_all (va_wsS "EdgeSumsModel" 65 yX13_in (ws_ yX13_in cX13_in 3 (some FieldType.boolean))) := lw_S q2728 q2729 q158 q2730
theorem oky_X13_in : okY yX13_in 3 := ⟨by decide +kernel, by decide +kernel, by decide +kernel⟩
theorem lV_X13_102 : GoodIn lw_all (wsV "EdgeSumsModel" 102 "EdgeSumsModel" yX13_act (ws_ yX13_act cX13_act 2 none)) := lw_V q2731 q2733 qs57 q158 q2734
theorem oky_X13_act : okY yX13_act 0 := ⟨by decide +kernel, by decide +kernel, by decide +kernel⟩
theorem lV_X13_105 : GoodIn lw_all (wsV "EdgeSumsModel" 105 "EdgeSumsModel" yX13_blocks (ws_ yX13_blocks cX13_blocks 3 (some FieldType.int))) := lw_V q2735 q2737 qs58 q158 q2738
theorem oky_X13_blocks : okY yX13_blocks 0 := ⟨by decide +kernel, by decide +kernel, by decide +kernel⟩
abbrev mi_X13_setPage : MI := (RX13, yX13_setPage, cX13_setPage, 3, (some FieldType.int), 6)
noncomputable def f_X13_setPage (x0 : Option Nat) (x1 : Int32) (x2 : Int32) (h : PH) : Option (Int32 × PH) := (pf 11 0 x0 (.int 0) h).bind (fun h1 => (f_X13_in x1 2 5 h1).bind (fun q2 => if q2.1 = 0 then (some ((-1), q2.2)) else ((f_X13_in x2 2 5 q2.2).bind (fun q3 => if q3.1 = 0 then (some ((-1), q3.2)) else ((rcv 11 x0 q3.2).bind (fun u4 => (f_X13_act x0 q3.2).bind (fun h5 => (rcv 11 x0 h5).bind (fun u6 => (f_X13_lay x0 x1 x2 h5).bind (fun h7 => (rcv 11 x0 h7).bind (fun u8 => (f_X13_reset x0 h7).bind (fun h9 => (rcv 11 x0 h9).bind (fun u10 => (f_X13_blocks x0 h9).bind (fun q11 => some (q11.1, q11.2))))))))))))))
theorem T_X13_setPage {K : KT} {x0 : Option Nat} {x1 : Int32} {x2 : Int32} {h : PH} {q : (Int32 × PH)} (hf : f_X13_setPage x0 x1 x2 h = some q) : T K mi_X13_setPage [va_rf x0, .int x1, .int x2] h (.inl (some (.int q.1))) q.2 := by
  unfold f_X13_setPage at hf
  refine T_of (by decide +kernel) rfl (C1_r (C1_i (C1_i C1_0))) (Nat.le_of_ble_eq_true rfl) ?_
  show R K mi_X13_setPage h [va_rf x0, .int x1, .int x2] _ _ 0 [(0, va_rf x0), (1, .int x1), (2, .int x2)] [] h
  refine R_aload_n 0 dX13_setPage_0 rfl rfl ?_
  refine R_iconst dX13_setPage_1 k_iconst_0 ?_
  obtain ⟨h1, eh1, hf⟩ := Option.bind_eq_some_iff.mp hf
  refine R_putI (fp_X13_43 rfl) eh1 dX13_setPage_2 ?_
  refine R_iload_n 1 dX13_setPage_5 rfl rfl ?_
  refine R_iconst dX13_setPage_6 k_iconst_2 ?_
  refine R_iconst dX13_setPage_7 k_iconst_5 ?_
  obtain ⟨q2, eq2, hf⟩ := Option.bind_eq_some_iff.mp hf
  refine R_callS (mj := mi_X13_in) (As := [.int x1, .int 2, .int 5]) (rest := []) (T_X13_in eq2) lS_X13_65 oky_X13_in (by decide) (by decide) rfl C1_0 (Nat.le_of_ble_eq_true rfl) dX13_setPage_8 ?_
  refine R_ifeq (tgt := 23) dX13_setPage_11 (by decide) (fun hc => ?_) (fun hc => ?_)
  · rw [if_pos hc] at hf
    refine R_iconst dX13_setPage_23 k_iconst_m1 ?_
    obtain rfl := Option.some.inj hf
    exact R_iretI rfl dX13_setPage_24
  · rw [if_neg hc] at hf
    refine R_iload_n 2 dX13_setPage_14 rfl rfl ?_
    refine R_iconst dX13_setPage_15 k_iconst_2 ?_
    refine R_iconst dX13_setPage_16 k_iconst_5 ?_
    obtain ⟨q3, eq3, hf⟩ := Option.bind_eq_some_iff.mp hf
    refine R_callS (mj := mi_X13_in) (As := [.int x2, .int 2, .int 5]) (rest := []) (T_X13_in eq3) lS_X13_65 oky_X13_in (by decide) (by decide) rfl C1_0 (Nat.le_of_ble_eq_true rfl) dX13_setPage_17 ?_
    refine R_ifne (tgt := 25) dX13_setPage_20 (by decide) (fun hc => ?_) (fun hc => ?_)
    · rw [if_pos hc] at hf
      refine R_iconst dX13_setPage_23 k_iconst_m1 ?_
      obtain rfl := Option.some.inj hf
      exact R_iretI rfl dX13_setPage_24
    · rw [if_neg hc] at hf
      refine R_aload_n 0 dX13_setPage_25 rfl rfl ?_
      obtain ⟨u4, eu4, hf⟩ := Option.bind_eq_some_iff.mp hf
      obtain ⟨h5, eh5, hf⟩ := Option.bind_eq_some_iff.mp hf
      refine R_callV (mj := mi_X13_act) (ci := 11) (q := (RX13, TX13, 24)) (As := []) (rest := []) (T_X13_act eh5) eu4 rfl lV_X13_102 ⟨rfl, oky_X13_act⟩ (by decide) (by decide) rfl C1_0 (Nat.le_of_ble_eq_true rfl) dX13_setPage_26 ?_
      refine R_aload_n 0 dX13_setPage_29 rfl rfl ?_
      refine R_iload_n 1 dX13_setPage_30 rfl rfl ?_
      refine R_iload_n 2 dX13_setPage_31 rfl rfl ?_
      obtain ⟨u6, eu6, hf⟩ := Option.bind_eq_some_iff.mp hf
      obtain ⟨h7, eh7, hf⟩ := Option.bind_eq_some_iff.mp hf
      refine R_callV (mj := mi_X13_lay) (ci := 11) (q := (RX13, TX13, 24)) (As := [.int x1, .int x2]) (rest := []) (T_X13_lay eh7) eu6 rfl lV_X13_47 ⟨rfl, oky_X13_lay⟩ (by decide) (by decide) rfl C1_0 (Nat.le_of_ble_eq_true rfl) dX13_setPage_32 ?_
      refine R_aload_n 0 dX13_setPage_35 rfl rfl ?_
      obtain ⟨u8, eu8, hf⟩ := Option.bind_eq_some_iff.mp hf
      obtain ⟨h9, eh9, hf⟩ := Option.bind_eq_some_iff.mp hf
      refine R_callV (mj := mi_X13_reset) (ci := 11) (q := (RX13, TX13, 24)) (As := []) (rest := []) (T_X13_reset eh9) eu8 rfl lV_X13_51 ⟨rfl, oky_X13_reset⟩ (by decide) (by decide) rfl C1_0 (Nat.le_of_ble_eq_true rfl) dX13_setPage_36 ?_
      refine R_aload_n 0 dX13_setPage_39 rfl rfl ?_
      obtain ⟨u10, eu10, hf⟩ := Option.bind_eq_some_iff.mp hf
      obtain ⟨q11, eq11, hf⟩ := Option.bind_eq_some_iff.mp hf
      refine R_callV (mj := mi_X13_blocks) (ci := 11) (q := (RX13, TX13, 24)) (As := []) (rest := []) (T_X13_blocks eq11) eu10 rfl lV_X13_105 ⟨rfl, oky_X13_blocks⟩ (by decide) (by decide) rfl C1_0 (Nat.le_of_ble_eq_true rfl) dX13_setPage_40 ?_
      obtain rfl := Option.some.inj hf
      exact R_iretI rfl dX13_setPage_43
abbrev mi_X13_isCell : MI := (RX13, yX13_isCell, cX13_isCell, 2, (some FieldType.boolean), 2)
noncomputable def f_X13_isCell (x0 : Option Nat) (x1 : Int32) (h : PH) : Option (Int32 × PH) := (rcv 11 x0 h).bind (fun u1 => (f_X13_cells x0 h).bind (fun q2 => (f_X13_in x1 0 (q2.1 - 1) q2.2).bind (fun q3 => (gb q3.1).bind (fun u4 => some (q3.1, q3.2)))))
theorem T_X13_isCell {K : KT} {x0 : Option Nat} {x1 : Int32} {h : PH} {q : (Int32 × PH)} (hf : f_X13_isCell x0 x1 h = some q) : T K mi_X13_isCell [va_rf x0, .int x1] h (.inl (some (.int q.1))) q.2 := by
  unfold f_X13_isCell at hf
  refine T_of (by decide +kernel) rfl (C1_r (C1_i C1_0)) (Nat.le_of_ble_eq_true rfl) ?_
  show R K mi_X13_isCell h [va_rf x0, .int x1] _ _ 0 [(0, va_rf x0), (1, .int x1)] [] h
  refine R_iload_n 1 dX13_isCell_0 rfl rfl ?_
  refine R_iconst dX13_isCell_1 k_iconst_0 ?_
  refine R_aload_n 0 dX13_isCell_2 rfl rfl ?_
  obtain ⟨u1, eu1, hf⟩ := Option.bind_eq_some_iff.mp hf
  obtain ⟨q2, eq2, hf⟩ := Option.bind_eq_some_iff.mp hf
  refine R_callV (mj := mi_X13_cells) (ci := 11) (q := (RX13, TX13, 24)) (As := []) (rest := [.int 0, .int x1]) (T_X13_cells eq2) eu1 rfl lV_X13_61 ⟨rfl, oky_X13_cells⟩ (by decide) (by decide) rfl (C1_i (C1_i C1_0)) (Nat.le_of_ble_eq_true rfl) dX13_isCell_3 ?_
  refine R_iconst dX13_isCell_6 k_iconst_1 ?_
  refine R_isub dX13_isCell_7 ?_
  obtain ⟨q3, eq3, hf⟩ := Option.bind_eq_some_iff.mp hf
  refine R_callS (mj := mi_X13_in) (As := [.int x1, .int 0, .int (q2.1 - 1)]) (rest := []) (T_X13_in eq3) lS_X13_65 oky_X13_in (by decide) (by decide) rfl C1_0 (Nat.le_of_ble_eq_true rfl) dX13_isCell_8 ?_
  obtain ⟨u4, eu4, hf⟩ := Option.bind_eq_some_iff.mp hf
  obtain rfl := Option.some.inj hf
  exact R_iretZ eu4 rfl dX13_isCell_11
abbrev mi_X13_areNeighbors : MI := (RX13, yX13_areNeighbors, cX13_areNeighbors, 6, (some FieldType.boolean), 1)
noncomputable def f_X13_areNeighbors (x0 : Option Nat) (x1 : Int32) (x2 : Int32) (h : PH) : Option (Int32 × PH) := (gfr 11 1 x0 h).bind (fun t1 => (ald 0 t1 1 h).bind (fun t2 => (nz t2).bind (fun u3 => (nz t2).bind (fun u4 => (nz t2).bind (fun u5 => (nz t2).bind (fun u6 => if ((((x1 / t2) - (x2 / t2)) * ((x1 / t2) - (x2 / t2))) + (((x1 - x1 / t2 * t2) - (x2 - x2 / t2 * t2)) * ((x1 - x1 / t2 * t2) - (x2 - x2 / t2 * t2)))) = 1 then (some (1, h)) else (some (0, h))))))))
theorem T_X13_areNeighbors {K : KT} {x0 : Option Nat} {x1 : Int32} {x2 : Int32} {h : PH} {q : (Int32 × PH)} (hf : f_X13_areNeighbors x0 x1 x2 h = some q) : T K mi_X13_areNeighbors [va_rf x0, .int x1, .int x2] h (.inl (some (.int q.1))) q.2 := by
  unfold f_X13_areNeighbors at hf
  refine T_of (by decide +kernel) rfl (C1_r (C1_i (C1_i C1_0))) (Nat.le_of_ble_eq_true rfl) ?_
  show R K mi_X13_areNeighbors h [va_rf x0, .int x1, .int x2] _ _ 0 [(0, va_rf x0), (1, .int x1), (2, .int x2)] [] h
  refine R_aload_n 0 dX13_areNeighbors_0 rfl rfl ?_
  obtain ⟨t1, et1, hf⟩ := Option.bind_eq_some_iff.mp hf
  refine R_getr lg_X13_7 et1 dX13_areNeighbors_1 ?_
  refine R_iconst dX13_areNeighbors_4 k_iconst_1 ?_
  obtain ⟨t2, et2, hf⟩ := Option.bind_eq_some_iff.mp hf
  refine R_iaload et2 dX13_areNeighbors_5 ?_
  refine R_istore_n (L' := [(3, .int t2), (0, va_rf x0), (1, .int x1), (2, .int x2)]) dX13_areNeighbors_6 rfl (by decide) rfl ?_
  refine R_iload_n 2 dX13_areNeighbors_7 rfl rfl ?_
  refine R_iload_n 0 dX13_areNeighbors_8 rfl rfl ?_
  obtain ⟨u3, eu3, hf⟩ := Option.bind_eq_some_iff.mp hf
  refine R_idiv dX13_areNeighbors_9 (nz_some eu3) ?_
  refine R_iload_n 3 dX13_areNeighbors_10 rfl rfl ?_
  refine R_iload_n 0 dX13_areNeighbors_11 rfl rfl ?_
  obtain ⟨u4, eu4, hf⟩ := Option.bind_eq_some_iff.mp hf
  refine R_idiv dX13_areNeighbors_12 (nz_some eu4) ?_
  refine R_isub dX13_areNeighbors_13 ?_
  refine R_istore (L' := [(4, .int ((x1 / t2) - (x2 / t2))), (3, .int t2), (0, va_rf x0), (1, .int x1), (2, .int x2)]) dX13_areNeighbors_14 (by decide) rfl ?_
  refine R_iload_n 3 dX13_areNeighbors_16 rfl rfl ?_
  refine R_iload_n 1 dX13_areNeighbors_17 rfl rfl ?_
  obtain ⟨u5, eu5, hf⟩ := Option.bind_eq_some_iff.mp hf
  refine R_irem dX13_areNeighbors_18 (nz_some eu5) ?_
  refine R_iload_n 4 dX13_areNeighbors_19 rfl rfl ?_
  refine R_iload_n 1 dX13_areNeighbors_20 rfl rfl ?_
  obtain ⟨u6, eu6, hf⟩ := Option.bind_eq_some_iff.mp hf
  refine R_irem dX13_areNeighbors_21 (nz_some eu6) ?_
  refine R_isub dX13_areNeighbors_22 ?_
  refine R_istore (L' := [(5, .int ((x1 - x1 / t2 * t2) - (x2 - x2 / t2 * t2))), (4, .int ((x1 / t2) - (x2 / t2))), (3, .int t2), (0, va_rf x0), (1, .int x1), (2, .int x2)]) dX13_areNeighbors_23 (by decide) rfl ?_
  refine R_iload 1 dX13_areNeighbors_25 rfl ?_
  refine R_iload 1 dX13_areNeighbors_27 rfl ?_
  refine R_imul dX13_areNeighbors_29 ?_
  refine R_iload 0 dX13_areNeighbors_30 rfl ?_
  refine R_iload 0 dX13_areNeighbors_32 rfl ?_
  refine R_imul dX13_areNeighbors_34 ?_
  refine R_iadd dX13_areNeighbors_35 ?_
  refine R_iconst dX13_areNeighbors_36 k_iconst_1 ?_
  refine R_icne (tgt := 44) dX13_areNeighbors_37 (by decide) (fun hc => ?_) (fun hc => ?_)
  · rw [if_pos hc] at hf
    refine R_iconst dX13_areNeighbors_40 k_iconst_1 ?_
    refine R_goto (tgt := 45) dX13_areNeighbors_41 (by decide) ?_
    obtain rfl := Option.some.inj hf
    exact R_iretZ1 rfl dX13_areNeighbors_45
  · rw [if_neg hc] at hf
    refine R_iconst dX13_areNeighbors_44 k_iconst_0 ?_
    obtain rfl := Option.some.inj hf
    exact R_iretZ0 rfl dX13_areNeighbors_45
theorem lg_X13_31 : LG "EdgeSumsModel" 31 11 15 := ⟨_, _, _, ck_11, by decide, Or.inl q2666⟩
theorem lV_X13_83 : GoodIn lw_all (wsV "EdgeSumsModel" 83 "EdgeSumsModel" yX13_areNeighbors (ws_ yX13_areNeighbors cX13_areNeighbors 6 (some FieldType.boolean))) := lw_V q2750 q2752 qs60 q158 q2753
theorem oky_X13_areNeighbors : okY yX13_areNeighbors 2 := ⟨by decide +kernel, by decide +kernel, by decide +kernel⟩
abbrev mi_X13_isConnected : MI := (RX13, yX13_isConnected, cX13_isConnected, 7, (some FieldType.boolean), 2)
noncomputable def f_X13_isConnected_L188  : Nat → Option Nat → Int32 → Int32 → Int32 → Int32 → PH → Option (Int32 × PH)
  | 0, _, _, _, _, _, _ => none
  | k + 1, x0, x1, x2, x5, x6, h => (rcv 11 x0 h).bind (fun u1 => (f_X13_cells x0 h).bind (fun q2 => if q2.1 ≤ x6 then ((gb x5).bind (fun u3 => some (x5, q2.2))) else (if x5 = 0 then ((f_X13_isConnected_L188 k) x0 x1 x2 0 (x6 + 1) q2.2) else (if x6 = x2 then ((f_X13_isConnected_L188 k) x0 x1 x2 1 (x6 + 1) q2.2) else ((rcv 11 x0 q2.2).bind (fun u4 => (f_X13_blockOf x0 x6 q2.2).bind (fun q5 => if q5.1 = x1 then ((gfr 11 15 x0 q5.2).bind (fun t6 => (ald 0 t6 x6 q5.2).bind (fun t7 => if t7 = 1 then ((f_X13_isConnected_L188 k) x0 x1 x2 1 (x6 + 1) q5.2) else ((f_X13_isConnected_L188 k) x0 x1 x2 0 (x6 + 1) q5.2)))) else ((f_X13_isConnected_L188 k) x0 x1 x2 1 (x6 + 1) q5.2))))))))
theorem f_X13_isConnected_L188_ok {K : KT} {h0 : PH} {a0 : List Value} {q : (Int32 × PH)}  : ∀ (k : Nat) (x0 : Option Nat) (x1 : Int32) (x2 : Int32) (x5 : Int32) (x6 : Int32) (h : PH), f_X13_isConnected_L188  k x0 x1 x2 x5 x6 h = some q → R K mi_X13_isConnected h0 a0 (.inl (some (.int q.1))) q.2 188 [(0, va_rf x0), (1, .int x1), (2, .int x2), (5, .int x5), (6, .int x6)] [] h := by
  intro k
  induction k with
  | zero => intro _ _ _ _ _ _ hf; cases hf
  | succ k ih =>
    intro x0 x1 x2 x5 x6 h hf
    unfold f_X13_isConnected_L188 at hf
    refine R_iload 4 dX13_isConnected_188 rfl ?_
    refine R_aload_n 0 dX13_isConnected_190 rfl rfl ?_
    obtain ⟨u1, eu1, hf⟩ := Option.bind_eq_some_iff.mp hf
    obtain ⟨q2, eq2, hf⟩ := Option.bind_eq_some_iff.mp hf
    refine R_callV (mj := mi_X13_cells) (ci := 11) (q := (RX13, TX13, 24)) (As := []) (rest := [.int x6]) (T_X13_cells eq2) eu1 rfl lV_X13_61 ⟨rfl, oky_X13_cells⟩ (by decide) (by decide) rfl (C1_i C1_0) (Nat.le_of_ble_eq_true rfl) dX13_isConnected_191 ?_
    refine R_icge (tgt := 242) dX13_isConnected_194 (by decide) (fun hc => ?_) (fun hc => ?_)
    · rw [if_pos hc] at hf
      refine R_iload 3 dX13_isConnected_242 rfl ?_
      obtain ⟨u3, eu3, hf⟩ := Option.bind_eq_some_iff.mp hf
      obtain rfl := Option.some.inj hf
      exact R_iretZ eu3 rfl dX13_isConnected_244
    · rw [if_neg hc] at hf
      refine R_iload 3 dX13_isConnected_197 rfl ?_
      refine R_ifeq (tgt := 233) dX13_isConnected_199 (by decide) (fun hc => ?_) (fun hc => ?_)
      · rw [if_pos hc] at hf
        refine R_iconst dX13_isConnected_233 k_iconst_0 ?_
        refine R_istore (L' := [(5, .int 0), (0, va_rf x0), (1, .int x1), (2, .int x2), (6, .int x6)]) dX13_isConnected_234 (by decide) rfl ?_
        refine R_iinc (L' := [(6, .int (x6 + 1)), (5, .int 0), (0, va_rf x0), (1, .int x1), (2, .int x2)]) 4 dX13_isConnected_236 rfl (k_inc_1 _) (by decide) rfl ?_
        refine R_goto (tgt := 188) dX13_isConnected_239 (by decide) ?_
        refine R.sub [2, 3, 4, 1, 0] (L' := [(0, va_rf x0), (1, .int x1), (2, .int x2), (5, .int 0), (6, .int (x6 + 1))]) rfl ?_
        exact ih x0 x1 x2 0 (x6 + 1) q2.2 hf
      · rw [if_neg hc] at hf
        refine R_iload 4 dX13_isConnected_202 rfl ?_
        refine R_iload_n 2 dX13_isConnected_204 rfl rfl ?_
        refine R_iceq (tgt := 229) dX13_isConnected_205 (by decide) (fun hc => ?_) (fun hc => ?_)
        · rw [if_pos hc] at hf
          refine R_iconst dX13_isConnected_229 k_iconst_1 ?_
          refine R_goto (tgt := 234) dX13_isConnected_230 (by decide) ?_
          refine R_istore (L' := [(5, .int 1), (0, va_rf x0), (1, .int x1), (2, .int x2), (6, .int x6)]) dX13_isConnected_234 (by decide) rfl ?_
          refine R_iinc (L' := [(6, .int (x6 + 1)), (5, .int 1), (0, va_rf x0), (1, .int x1), (2, .int x2)]) 4 dX13_isConnected_236 rfl (k_inc_1 _) (by decide) rfl ?_
          refine R_goto (tgt := 188) dX13_isConnected_239 (by decide) ?_
          refine R.sub [2, 3, 4, 1, 0] (L' := [(0, va_rf x0), (1, .int x1), (2, .int x2), (5, .int 1), (6, .int (x6 + 1))]) rfl ?_
          exact ih x0 x1 x2 1 (x6 + 1) q2.2 hf
        · rw [if_neg hc] at hf
          refine R_aload_n 0 dX13_isConnected_208 rfl rfl ?_
          refine R_iload 4 dX13_isConnected_209 rfl ?_
          obtain ⟨u4, eu4, hf⟩ := Option.bind_eq_some_iff.mp hf
          obtain ⟨q5, eq5, hf⟩ := Option.bind_eq_some_iff.mp hf
          refine R_callV (mj := mi_X13_blockOf) (ci := 11) (q := (RX13, TX13, 24)) (As := [.int x6]) (rest := []) (T_X13_blockOf eq5) eu4 rfl lV_X13_72 ⟨rfl, oky_X13_blockOf⟩ (by decide) (by decide) rfl C1_0 (Nat.le_of_ble_eq_true rfl) dX13_isConnected_211 ?_
          refine R_iload_n 1 dX13_isConnected_214 rfl rfl ?_
          refine R_icne (tgt := 229) dX13_isConnected_215 (by decide) (fun hc => ?_) (fun hc => ?_)
          · rw [if_pos hc] at hf
            refine R_aload_n 0 dX13_isConnected_218 rfl rfl ?_
            obtain ⟨t6, et6, hf⟩ := Option.bind_eq_some_iff.mp hf
            refine R_getr lg_X13_31 et6 dX13_isConnected_219 ?_
            refine R_iload 4 dX13_isConnected_222 rfl ?_
            obtain ⟨t7, et7, hf⟩ := Option.bind_eq_some_iff.mp hf
            refine R_iaload et7 dX13_isConnected_224 ?_
            refine R_iconst dX13_isConnected_225 k_iconst_1 ?_
            refine R_icne (tgt := 233) dX13_isConnected_226 (by decide) (fun hc => ?_) (fun hc => ?_)
            · rw [if_pos hc] at hf
              refine R_iconst dX13_isConnected_229 k_iconst_1 ?_
              refine R_goto (tgt := 234) dX13_isConnected_230 (by decide) ?_
              refine R_istore (L' := [(5, .int 1), (0, va_rf x0), (1, .int x1), (2, .int x2), (6, .int x6)]) dX13_isConnected_234 (by decide) rfl ?_
              refine R_iinc (L' := [(6, .int (x6 + 1)), (5, .int 1), (0, va_rf x0), (1, .int x1), (2, .int x2)]) 4 dX13_isConnected_236 rfl (k_inc_1 _) (by decide) rfl ?_
              refine R_goto (tgt := 188) dX13_isConnected_239 (by decide) ?_
              refine R.sub [2, 3, 4, 1, 0] (L' := [(0, va_rf x0), (1, .int x1), (2, .int x2), (5, .int 1), (6, .int (x6 + 1))]) rfl ?_
              exact ih x0 x1 x2 1 (x6 + 1) q5.2 hf
            · rw [if_neg hc] at hf
              refine R_iconst dX13_isConnected_233 k_iconst_0 ?_
              refine R_istore (L' := [(5, .int 0), (0, va_rf x0), (1, .int x1), (2, .int x2), (6, .int x6)]) dX13_isConnected_234 (by decide) rfl ?_
              refine R_iinc (L' := [(6, .int (x6 + 1)), (5, .int 0), (0, va_rf x0), (1, .int x1), (2, .int x2)]) 4 dX13_isConnected_236 rfl (k_inc_1 _) (by decide) rfl ?_
              refine R_goto (tgt := 188) dX13_isConnected_239 (by decide) ?_
              refine R.sub [2, 3, 4, 1, 0] (L' := [(0, va_rf x0), (1, .int x1), (2, .int x2), (5, .int 0), (6, .int (x6 + 1))]) rfl ?_
              exact ih x0 x1 x2 0 (x6 + 1) q5.2 hf
          · rw [if_neg hc] at hf
            refine R_iconst dX13_isConnected_229 k_iconst_1 ?_
            refine R_goto (tgt := 234) dX13_isConnected_230 (by decide) ?_
            refine R_istore (L' := [(5, .int 1), (0, va_rf x0), (1, .int x1), (2, .int x2), (6, .int x6)]) dX13_isConnected_234 (by decide) rfl ?_
            refine R_iinc (L' := [(6, .int (x6 + 1)), (5, .int 1), (0, va_rf x0), (1, .int x1), (2, .int x2)]) 4 dX13_isConnected_236 rfl (k_inc_1 _) (by decide) rfl ?_
            refine R_goto (tgt := 188) dX13_isConnected_239 (by decide) ?_
            refine R.sub [2, 3, 4, 1, 0] (L' := [(0, va_rf x0), (1, .int x1), (2, .int x2), (5, .int 1), (6, .int (x6 + 1))]) rfl ?_
            exact ih x0 x1 x2 1 (x6 + 1) q5.2 hf
noncomputable def f_X13_isConnected_L99 (r76 : Option Nat → Int32 → Int32 → Int32 → PH → Option (Int32 × PH)) (r87 : Option Nat → Int32 → Int32 → Int32 → Int32 → PH → Option (Int32 × PH)) : Nat → Option Nat → Int32 → Int32 → Int32 → Int32 → Int32 → PH → Option (Int32 × PH)
  | 0, _, _, _, _, _, _, _ => none
  | k + 1, x0, x1, x2, x4, x5, x6, h => (rcv 11 x0 h).bind (fun u1 => (f_X13_cells x0 h).bind (fun q2 => if q2.1 ≤ x6 then (r87 x0 x1 x2 x4 (x5 + 1) q2.2) else ((gfr 11 15 x0 q2.2).bind (fun t3 => (ald 0 t3 x5 q2.2).bind (fun t4 => if t4 = 0 then (if x5 = x2 then (r87 x0 x1 x2 x4 (x5 + 1) q2.2) else ((rcv 11 x0 q2.2).bind (fun u5 => (f_X13_blockOf x0 x5 q2.2).bind (fun q6 => if q6.1 = x1 then ((gfr 11 15 x0 q6.2).bind (fun t7 => (ald 0 t7 x6 q6.2).bind (fun t8 => if t8 = 1 then ((rcv 11 x0 q6.2).bind (fun u9 => (f_X13_areNeighbors x0 x5 x6 q6.2).bind (fun q10 => if q10.1 = 0 then ((f_X13_isConnected_L99 r76 r87 k) x0 x1 x2 x4 x5 (x6 + 1) q10.2) else ((gfr 11 15 x0 q10.2).bind (fun t11 => (asi 0 t11 x5 1 q10.2).bind (fun h12 => (f_X13_isConnected_L99 r76 r87 k) x0 x1 x2 1 x5 (x6 + 1) h12)))))) else ((f_X13_isConnected_L99 r76 r87 k) x0 x1 x2 x4 x5 (x6 + 1) q6.2)))) else (r87 x0 x1 x2 x4 (x5 + 1) q6.2))))) else (r87 x0 x1 x2 x4 (x5 + 1) q2.2))))))
theorem f_X13_isConnected_L99_ok {K : KT} {h0 : PH} {a0 : List Value} {q : (Int32 × PH)} {r76 : Option Nat → Int32 → Int32 → Int32 → PH → Option (Int32 × PH)} (hr76 : ∀ (y0 : Option Nat) (y1 : Int32) (y2 : Int32) (y4 : Int32) (h : PH), r76 y0 y1 y2 y4 h = some q → R K mi_X13_isConnected h0 a0 (.inl (some (.int q.1))) q.2 76 [(0, va_rf y0), (1, .int y1), (2, .int y2), (4, .int y4)] [] h) {r87 : Option Nat → Int32 → Int32 → Int32 → Int32 → PH → Option (Int32 × PH)} (hr87 : ∀ (y0 : Option Nat) (y1 : Int32) (y2 : Int32) (y4 : Int32) (y5 : Int32) (h : PH), r87 y0 y1 y2 y4 y5 h = some q → R K mi_X13_isConnected h0 a0 (.inl (some (.int q.1))) q.2 87 [(0, va_rf y0), (1, .int y1), (2, .int y2), (4, .int y4), (5, .int y5)] [] h) : ∀ (k : Nat) (x0 : Option Nat) (x1 : Int32) (x2 : Int32) (x4 : Int32) (x5 : Int32) (x6 : Int32) (h : PH), f_X13_isConnected_L99 r76 r87 k x0 x1 x2 x4 x5 x6 h = some q → R K mi_X13_isConnected h0 a0 (.inl (some (.int q.1))) q.2 99 [(0, va_rf x0), (1, .int x1), (2, .int x2), (4, .int x4), (5, .int x5), (6, .int x6)] [] h := by
  intro k
  induction k with
  | zero => intro _ _ _ _ _ _ _ hf; cases hf
  | succ k ih =>
    intro x0 x1 x2 x4 x5 x6 h hf
    unfold f_X13_isConnected_L99 at hf
    refine R_iload 5 dX13_isConnected_99 rfl ?_
    refine R_aload_n 0 dX13_isConnected_101 rfl rfl ?_
    obtain ⟨u1, eu1, hf⟩ := Option.bind_eq_some_iff.mp hf
    obtain ⟨q2, eq2, hf⟩ := Option.bind_eq_some_iff.mp hf
    refine R_callV (mj := mi_X13_cells) (ci := 11) (q := (RX13, TX13, 24)) (As := []) (rest := [.int x6]) (T_X13_cells eq2) eu1 rfl lV_X13_61 ⟨rfl, oky_X13_cells⟩ (by decide) (by decide) rfl (C1_i C1_0) (Nat.le_of_ble_eq_true rfl) dX13_isConnected_102 ?_
    refine R_icge (tgt := 173) dX13_isConnected_105 (by decide) (fun hc => ?_) (fun hc => ?_)
    · rw [if_pos hc] at hf
      refine R_iinc (L' := [(5, .int (x5 + 1)), (0, va_rf x0), (1, .int x1), (2, .int x2), (4, .int x4), (6, .int x6)]) 4 dX13_isConnected_173 rfl (k_inc_1 _) (by decide) rfl ?_
      refine R_goto (tgt := 87) dX13_isConnected_176 (by decide) ?_
      refine R.sub [1, 2, 3, 4, 0] (L' := [(0, va_rf x0), (1, .int x1), (2, .int x2), (4, .int x4), (5, .int (x5 + 1))]) rfl ?_
      exact hr87 x0 x1 x2 x4 (x5 + 1) q2.2 hf
    · rw [if_neg hc] at hf
      refine R_aload_n 0 dX13_isConnected_108 rfl rfl ?_
      obtain ⟨t3, et3, hf⟩ := Option.bind_eq_some_iff.mp hf
      refine R_getr lg_X13_31 et3 dX13_isConnected_109 ?_
      refine R_iload 4 dX13_isConnected_112 rfl ?_
      obtain ⟨t4, et4, hf⟩ := Option.bind_eq_some_iff.mp hf
      refine R_iaload et4 dX13_isConnected_114 ?_
      refine R_ifne (tgt := 173) dX13_isConnected_115 (by decide) (fun hc => ?_) (fun hc => ?_)
      · rw [if_pos hc] at hf
        refine R_iload 4 dX13_isConnected_118 rfl ?_
        refine R_iload_n 2 dX13_isConnected_120 rfl rfl ?_
        refine R_iceq (tgt := 173) dX13_isConnected_121 (by decide) (fun hc => ?_) (fun hc => ?_)
        · rw [if_pos hc] at hf
          refine R_iinc (L' := [(5, .int (x5 + 1)), (0, va_rf x0), (1, .int x1), (2, .int x2), (4, .int x4), (6, .int x6)]) 4 dX13_isConnected_173 rfl (k_inc_1 _) (by decide) rfl ?_
          refine R_goto (tgt := 87) dX13_isConnected_176 (by decide) ?_
          refine R.sub [1, 2, 3, 4, 0] (L' := [(0, va_rf x0), (1, .int x1), (2, .int x2), (4, .int x4), (5, .int (x5 + 1))]) rfl ?_
          exact hr87 x0 x1 x2 x4 (x5 + 1) q2.2 hf
        · rw [if_neg hc] at hf
          refine R_aload_n 0 dX13_isConnected_124 rfl rfl ?_
          refine R_iload 4 dX13_isConnected_125 rfl ?_
          obtain ⟨u5, eu5, hf⟩ := Option.bind_eq_some_iff.mp hf
          obtain ⟨q6, eq6, hf⟩ := Option.bind_eq_some_iff.mp hf
          refine R_callV (mj := mi_X13_blockOf) (ci := 11) (q := (RX13, TX13, 24)) (As := [.int x5]) (rest := []) (T_X13_blockOf eq6) eu5 rfl lV_X13_72 ⟨rfl, oky_X13_blockOf⟩ (by decide) (by decide) rfl C1_0 (Nat.le_of_ble_eq_true rfl) dX13_isConnected_127 ?_
          refine R_iload_n 1 dX13_isConnected_130 rfl rfl ?_
          refine R_icne (tgt := 173) dX13_isConnected_131 (by decide) (fun hc => ?_) (fun hc => ?_)
          · rw [if_pos hc] at hf
            refine R_aload_n 0 dX13_isConnected_134 rfl rfl ?_
            obtain ⟨t7, et7, hf⟩ := Option.bind_eq_some_iff.mp hf
            refine R_getr lg_X13_31 et7 dX13_isConnected_135 ?_
            refine R_iload 5 dX13_isConnected_138 rfl ?_
            obtain ⟨t8, et8, hf⟩ := Option.bind_eq_some_iff.mp hf
            refine R_iaload et8 dX13_isConnected_140 ?_
            refine R_iconst dX13_isConnected_141 k_iconst_1 ?_
            refine R_icne (tgt := 167) dX13_isConnected_142 (by decide) (fun hc => ?_) (fun hc => ?_)
            · rw [if_pos hc] at hf
              refine R_aload_n 0 dX13_isConnected_145 rfl rfl ?_
              refine R_iload 4 dX13_isConnected_146 rfl ?_
              refine R_iload 5 dX13_isConnected_148 rfl ?_
              obtain ⟨u9, eu9, hf⟩ := Option.bind_eq_some_iff.mp hf
              obtain ⟨q10, eq10, hf⟩ := Option.bind_eq_some_iff.mp hf
              refine R_callV (mj := mi_X13_areNeighbors) (ci := 11) (q := (RX13, TX13, 24)) (As := [.int x5, .int x6]) (rest := []) (T_X13_areNeighbors eq10) eu9 rfl lV_X13_83 ⟨rfl, oky_X13_areNeighbors⟩ (by decide) (by decide) rfl C1_0 (Nat.le_of_ble_eq_true rfl) dX13_isConnected_150 ?_
              refine R_ifeq (tgt := 167) dX13_isConnected_153 (by decide) (fun hc => ?_) (fun hc => ?_)
              · rw [if_pos hc] at hf
                refine R_iinc (L' := [(6, .int (x6 + 1)), (0, va_rf x0), (1, .int x1), (2, .int x2), (4, .int x4), (5, .int x5)]) 5 dX13_isConnected_167 rfl (k_inc_1 _) (by decide) rfl ?_
                refine R_goto (tgt := 99) dX13_isConnected_170 (by decide) ?_
                refine R.sub [1, 2, 3, 4, 5, 0] (L' := [(0, va_rf x0), (1, .int x1), (2, .int x2), (4, .int x4), (5, .int x5), (6, .int (x6 + 1))]) rfl ?_
                exact ih x0 x1 x2 x4 x5 (x6 + 1) q10.2 hf
              · rw [if_neg hc] at hf
                refine R_aload_n 0 dX13_isConnected_156 rfl rfl ?_
                obtain ⟨t11, et11, hf⟩ := Option.bind_eq_some_iff.mp hf
                refine R_getr lg_X13_31 et11 dX13_isConnected_157 ?_
                refine R_iload 4 dX13_isConnected_160 rfl ?_
                refine R_iconst dX13_isConnected_162 k_iconst_1 ?_
                obtain ⟨h12, eh12, hf⟩ := Option.bind_eq_some_iff.mp hf
                refine R_iastore eh12 dX13_isConnected_163 ?_
                refine R_iconst dX13_isConnected_164 k_iconst_1 ?_
                refine R_istore (L' := [(4, .int 1), (0, va_rf x0), (1, .int x1), (2, .int x2), (5, .int x5), (6, .int x6)]) dX13_isConnected_165 (by decide) rfl ?_
                refine R_iinc (L' := [(6, .int (x6 + 1)), (4, .int 1), (0, va_rf x0), (1, .int x1), (2, .int x2), (5, .int x5)]) 5 dX13_isConnected_167 rfl (k_inc_1 _) (by decide) rfl ?_
                refine R_goto (tgt := 99) dX13_isConnected_170 (by decide) ?_
                refine R.sub [2, 3, 4, 1, 5, 0] (L' := [(0, va_rf x0), (1, .int x1), (2, .int x2), (4, .int 1), (5, .int x5), (6, .int (x6 + 1))]) rfl ?_
                exact ih x0 x1 x2 1 x5 (x6 + 1) h12 hf
            · rw [if_neg hc] at hf
              refine R_iinc (L' := [(6, .int (x6 + 1)), (0, va_rf x0), (1, .int x1), (2, .int x2), (4, .int x4), (5, .int x5)]) 5 dX13_isConnected_167 rfl (k_inc_1 _) (by decide) rfl ?_
              refine R_goto (tgt := 99) dX13_isConnected_170 (by decide) ?_
              refine R.sub [1, 2, 3, 4, 5, 0] (L' := [(0, va_rf x0), (1, .int x1), (2, .int x2), (4, .int x4), (5, .int x5), (6, .int (x6 + 1))]) rfl ?_
              exact ih x0 x1 x2 x4 x5 (x6 + 1) q6.2 hf
          · rw [if_neg hc] at hf
            refine R_iinc (L' := [(5, .int (x5 + 1)), (0, va_rf x0), (1, .int x1), (2, .int x2), (4, .int x4), (6, .int x6)]) 4 dX13_isConnected_173 rfl (k_inc_1 _) (by decide) rfl ?_
            refine R_goto (tgt := 87) dX13_isConnected_176 (by decide) ?_
            refine R.sub [1, 2, 3, 4, 0] (L' := [(0, va_rf x0), (1, .int x1), (2, .int x2), (4, .int x4), (5, .int (x5 + 1))]) rfl ?_
            exact hr87 x0 x1 x2 x4 (x5 + 1) q6.2 hf
      · rw [if_neg hc] at hf
        refine R_iinc (L' := [(5, .int (x5 + 1)), (0, va_rf x0), (1, .int x1), (2, .int x2), (4, .int x4), (6, .int x6)]) 4 dX13_isConnected_173 rfl (k_inc_1 _) (by decide) rfl ?_
        refine R_goto (tgt := 87) dX13_isConnected_176 (by decide) ?_
        refine R.sub [1, 2, 3, 4, 0] (L' := [(0, va_rf x0), (1, .int x1), (2, .int x2), (4, .int x4), (5, .int (x5 + 1))]) rfl ?_
        exact hr87 x0 x1 x2 x4 (x5 + 1) q2.2 hf
noncomputable def f_X13_isConnected_L87 (r76 : Option Nat → Int32 → Int32 → Int32 → PH → Option (Int32 × PH)) : Nat → Option Nat → Int32 → Int32 → Int32 → Int32 → PH → Option (Int32 × PH)
  | 0, _, _, _, _, _, _ => none
  | k + 1, x0, x1, x2, x4, x5, h => (rcv 11 x0 h).bind (fun u1 => (f_X13_cells x0 h).bind (fun q2 => if q2.1 ≤ x5 then (r76 x0 x1 x2 x4 q2.2) else (f_X13_isConnected_L99 r76 (f_X13_isConnected_L87 r76 k) FU x0 x1 x2 x4 x5 0 q2.2)))
theorem f_X13_isConnected_L87_ok {K : KT} {h0 : PH} {a0 : List Value} {q : (Int32 × PH)} {r76 : Option Nat → Int32 → Int32 → Int32 → PH → Option (Int32 × PH)} (hr76 : ∀ (y0 : Option Nat) (y1 : Int32) (y2 : Int32) (y4 : Int32) (h : PH), r76 y0 y1 y2 y4 h = some q → R K mi_X13_isConnected h0 a0 (.inl (some (.int q.1))) q.2 76 [(0, va_rf y0), (1, .int y1), (2, .int y2), (4, .int y4)] [] h) : ∀ (k : Nat) (x0 : Option Nat) (x1 : Int32) (x2 : Int32) (x4 : Int32) (x5 : Int32) (h : PH), f_X13_isConnected_L87 r76 k x0 x1 x2 x4 x5 h = some q → R K mi_X13_isConnected h0 a0 (.inl (some (.int q.1))) q.2 87 [(0, va_rf x0), (1, .int x1), (2, .int x2), (4, .int x4), (5, .int x5)] [] h := by
  intro k
  induction k with
  | zero => intro _ _ _ _ _ _ hf; cases hf
  | succ k ih =>
    intro x0 x1 x2 x4 x5 h hf
    unfold f_X13_isConnected_L87 at hf
    refine R_iload 4 dX13_isConnected_87 rfl ?_
    refine R_aload_n 0 dX13_isConnected_89 rfl rfl ?_
    obtain ⟨u1, eu1, hf⟩ := Option.bind_eq_some_iff.mp hf
    obtain ⟨q2, eq2, hf⟩ := Option.bind_eq_some_iff.mp hf
    refine R_callV (mj := mi_X13_cells) (ci := 11) (q := (RX13, TX13, 24)) (As := []) (rest := [.int x5]) (T_X13_cells eq2) eu1 rfl lV_X13_61 ⟨rfl, oky_X13_cells⟩ (by decide) (by decide) rfl (C1_i C1_0) (Nat.le_of_ble_eq_true rfl) dX13_isConnected_90 ?_
    refine R_icge (tgt := 179) dX13_isConnected_93 (by decide) (fun hc => ?_) (fun hc => ?_)
    · rw [if_pos hc] at hf
      refine R_goto (tgt := 76) dX13_isConnected_179 (by decide) ?_
      refine R.sub [0, 1, 2, 3] (L' := [(0, va_rf x0), (1, .int x1), (2, .int x2), (4, .int x4)]) rfl ?_
      exact hr76 x0 x1 x2 x4 q2.2 hf
    · rw [if_neg hc] at hf
      refine R_iconst dX13_isConnected_96 k_iconst_0 ?_
      refine R_istore (L' := [(6, .int 0), (0, va_rf x0), (1, .int x1), (2, .int x2), (4, .int x4), (5, .int x5)]) dX13_isConnected_97 (by decide) rfl ?_
      refine R.sub [1, 2, 3, 4, 5, 0] (L' := [(0, va_rf x0), (1, .int x1), (2, .int x2), (4, .int x4), (5, .int x5), (6, .int 0)]) rfl ?_
      exact f_X13_isConnected_L99_ok hr76 ih FU x0 x1 x2 x4 x5 0 q2.2 hf
noncomputable def f_X13_isConnected_L76  : Nat → Option Nat → Int32 → Int32 → Int32 → PH → Option (Int32 × PH)
  | 0, _, _, _, _, _ => none
  | k + 1, x0, x1, x2, x4, h => if x4 = 0 then (f_X13_isConnected_L188  FU x0 x1 x2 1 0 h) else (f_X13_isConnected_L87 (f_X13_isConnected_L76 k) FU x0 x1 x2 0 0 h)
theorem f_X13_isConnected_L76_ok {K : KT} {h0 : PH} {a0 : List Value} {q : (Int32 × PH)}  : ∀ (k : Nat) (x0 : Option Nat) (x1 : Int32) (x2 : Int32) (x4 : Int32) (h : PH), f_X13_isConnected_L76  k x0 x1 x2 x4 h = some q → R K mi_X13_isConnected h0 a0 (.inl (some (.int q.1))) q.2 76 [(0, va_rf x0), (1, .int x1), (2, .int x2), (4, .int x4)] [] h := by
  intro k
  induction k with
  | zero => intro _ _ _ _ _ hf; cases hf
  | succ k ih =>
    intro x0 x1 x2 x4 h hf
    unfold f_X13_isConnected_L76 at hf
    refine R_iload 3 dX13_isConnected_76 rfl ?_
    refine R_ifeq (tgt := 182) dX13_isConnected_78 (by decide) (fun hc => ?_) (fun hc => ?_)
    · rw [if_pos hc] at hf
      refine R_iconst dX13_isConnected_182 k_iconst_1 ?_
      refine R_istore (L' := [(5, .int 1), (0, va_rf x0), (1, .int x1), (2, .int x2), (4, .int x4)]) dX13_isConnected_183 (by decide) rfl ?_
      refine R_iconst dX13_isConnected_185 k_iconst_0 ?_
      refine R_istore (L' := [(6, .int 0), (5, .int 1), (0, va_rf x0), (1, .int x1), (2, .int x2), (4, .int x4)]) dX13_isConnected_186 (by decide) rfl ?_
      refine R.sub [2, 3, 4, 1, 0] (L' := [(0, va_rf x0), (1, .int x1), (2, .int x2), (5, .int 1), (6, .int 0)]) rfl ?_
      exact f_X13_isConnected_L188_ok  FU x0 x1 x2 1 0 h hf
    · rw [if_neg hc] at hf
      refine R_iconst dX13_isConnected_81 k_iconst_0 ?_
      refine R_istore (L' := [(4, .int 0), (0, va_rf x0), (1, .int x1), (2, .int x2)]) dX13_isConnected_82 (by decide) rfl ?_
      refine R_iconst dX13_isConnected_84 k_iconst_0 ?_
      refine R_istore (L' := [(5, .int 0), (4, .int 0), (0, va_rf x0), (1, .int x1), (2, .int x2)]) dX13_isConnected_85 (by decide) rfl ?_
      refine R.sub [2, 3, 4, 1, 0] (L' := [(0, va_rf x0), (1, .int x1), (2, .int x2), (4, .int 0), (5, .int 0)]) rfl ?_
      exact f_X13_isConnected_L87_ok ih FU x0 x1 x2 0 0 h hf
noncomputable def f_X13_isConnected_L6  : Nat → Option Nat → Int32 → Int32 → Int32 → Int32 → PH → Option (Int32 × PH)
  | 0, _, _, _, _, _, _ => none
  | k + 1, x0, x1, x2, x3, x4, h => (rcv 11 x0 h).bind (fun u1 => (f_X13_cells x0 h).bind (fun q2 => if q2.1 ≤ x4 then (if x3 = (-99) then (some (1, q2.2)) else ((gfr 11 15 x0 q2.2).bind (fun t3 => (asi 0 t3 x3 1 q2.2).bind (fun h4 => f_X13_isConnected_L76  FU x0 x1 x2 1 h4)))) else ((gfr 11 15 x0 q2.2).bind (fun t5 => (asi 0 t5 x4 0 q2.2).bind (fun h6 => if x3 = (-99) then (if x4 = x2 then ((f_X13_isConnected_L6 k) x0 x1 x2 x3 (x4 + 1) h6) else ((rcv 11 x0 h6).bind (fun u7 => (f_X13_blockOf x0 x4 h6).bind (fun q8 => if q8.1 = x1 then ((f_X13_isConnected_L6 k) x0 x1 x2 x4 (x4 + 1) q8.2) else ((f_X13_isConnected_L6 k) x0 x1 x2 x3 (x4 + 1) q8.2))))) else ((f_X13_isConnected_L6 k) x0 x1 x2 x3 (x4 + 1) h6))))))
theorem f_X13_isConnected_L6_ok {K : KT} {h0 : PH} {a0 : List Value} {q : (Int32 × PH)}  : ∀ (k : Nat) (x0 : Option Nat) (x1 : Int32) (x2 : Int32) (x3 : Int32) (x4 : Int32) (h : PH), f_X13_isConnected_L6  k x0 x1 x2 x3 x4 h = some q → R K mi_X13_isConnected h0 a0 (.inl (some (.int q.1))) q.2 6 [(0, va_rf x0), (1, .int x1), (2, .int x2), (3, .int x3), (4, .int x4)] [] h := by
  intro k
  induction k with
  | zero => intro _ _ _ _ _ _ hf; cases hf
  | succ k ih =>
    intro x0 x1 x2 x3 x4 h hf
    unfold f_X13_isConnected_L6 at hf
    refine R_iload 4 dX13_isConnected_6 rfl ?_
    refine R_aload_n 0 dX13_isConnected_8 rfl rfl ?_
    obtain ⟨u1, eu1, hf⟩ := Option.bind_eq_some_iff.mp hf
    obtain ⟨q2, eq2, hf⟩ := Option.bind_eq_some_iff.mp hf
    refine R_callV (mj := mi_X13_cells) (ci := 11) (q := (RX13, TX13, 24)) (As := []) (rest := [.int x4]) (T_X13_cells eq2) eu1 rfl lV_X13_61 ⟨rfl, oky_X13_cells⟩ (by decide) (by decide) rfl (C1_i C1_0) (Nat.le_of_ble_eq_true rfl) dX13_isConnected_9 ?_
    refine R_icge (tgt := 58) dX13_isConnected_12 (by decide) (fun hc => ?_) (fun hc => ?_)
    · rw [if_pos hc] at hf
      refine R_iload_n 3 dX13_isConnected_58 rfl rfl ?_
      refine R_bipush dX13_isConnected_59 k_bipush_m99 ?_
      refine R_icne (tgt := 66) dX13_isConnected_61 (by decide) (fun hc => ?_) (fun hc => ?_)
      · rw [if_pos hc] at hf
        refine R_iconst dX13_isConnected_64 k_iconst_1 ?_
        obtain rfl := Option.some.inj hf
        exact R_iretZ1 rfl dX13_isConnected_65
      · rw [if_neg hc] at hf
        refine R_aload_n 0 dX13_isConnected_66 rfl rfl ?_
        obtain ⟨t3, et3, hf⟩ := Option.bind_eq_some_iff.mp hf
        refine R_getr lg_X13_31 et3 dX13_isConnected_67 ?_
        refine R_iload_n 3 dX13_isConnected_70 rfl rfl ?_
        refine R_iconst dX13_isConnected_71 k_iconst_1 ?_
        obtain ⟨h4, eh4, hf⟩ := Option.bind_eq_some_iff.mp hf
        refine R_iastore eh4 dX13_isConnected_72 ?_
        refine R_iconst dX13_isConnected_73 k_iconst_1 ?_
        refine R_istore (L' := [(4, .int 1), (0, va_rf x0), (1, .int x1), (2, .int x2), (3, .int x3)]) dX13_isConnected_74 (by decide) rfl ?_
        refine R.sub [1, 2, 3, 0] (L' := [(0, va_rf x0), (1, .int x1), (2, .int x2), (4, .int 1)]) rfl ?_
        exact f_X13_isConnected_L76_ok  FU x0 x1 x2 1 h4 hf
    · rw [if_neg hc] at hf
      refine R_aload_n 0 dX13_isConnected_15 rfl rfl ?_
      obtain ⟨t5, et5, hf⟩ := Option.bind_eq_some_iff.mp hf
      refine R_getr lg_X13_31 et5 dX13_isConnected_16 ?_
      refine R_iload 4 dX13_isConnected_19 rfl ?_
      refine R_iconst dX13_isConnected_21 k_iconst_0 ?_
      obtain ⟨h6, eh6, hf⟩ := Option.bind_eq_some_iff.mp hf
      refine R_iastore eh6 dX13_isConnected_22 ?_
      refine R_iload_n 3 dX13_isConnected_23 rfl rfl ?_
      refine R_bipush dX13_isConnected_24 k_bipush_m99 ?_
      refine R_icne (tgt := 50) dX13_isConnected_26 (by decide) (fun hc => ?_) (fun hc => ?_)
      · rw [if_pos hc] at hf
        refine R_iload 4 dX13_isConnected_29 rfl ?_
        refine R_iload_n 2 dX13_isConnected_31 rfl rfl ?_
        refine R_iceq (tgt := 50) dX13_isConnected_32 (by decide) (fun hc => ?_) (fun hc => ?_)
        · rw [if_pos hc] at hf
          refine R_iload_n 3 dX13_isConnected_50 rfl rfl ?_
          refine R_istore_n (L' := [(3, .int x3), (0, va_rf x0), (1, .int x1), (2, .int x2), (4, .int x4)]) dX13_isConnected_51 rfl (by decide) rfl ?_
          refine R_iinc (L' := [(4, .int (x4 + 1)), (3, .int x3), (0, va_rf x0), (1, .int x1), (2, .int x2)]) 4 dX13_isConnected_52 rfl (k_inc_1 _) (by decide) rfl ?_
          refine R_goto (tgt := 6) dX13_isConnected_55 (by decide) ?_
          refine R.sub [2, 3, 4, 1, 0] (L' := [(0, va_rf x0), (1, .int x1), (2, .int x2), (3, .int x3), (4, .int (x4 + 1))]) rfl ?_
          exact ih x0 x1 x2 x3 (x4 + 1) h6 hf
        · rw [if_neg hc] at hf
          refine R_aload_n 0 dX13_isConnected_35 rfl rfl ?_
          refine R_iload 4 dX13_isConnected_36 rfl ?_
          obtain ⟨u7, eu7, hf⟩ := Option.bind_eq_some_iff.mp hf
          obtain ⟨q8, eq8, hf⟩ := Option.bind_eq_some_iff.mp hf
          refine R_callV (mj := mi_X13_blockOf) (ci := 11) (q := (RX13, TX13, 24)) (As := [.int x4]) (rest := []) (T_X13_blockOf eq8) eu7 rfl lV_X13_72 ⟨rfl, oky_X13_blockOf⟩ (by decide) (by decide) rfl C1_0 (Nat.le_of_ble_eq_true rfl) dX13_isConnected_38 ?_
          refine R_iload_n 1 dX13_isConnected_41 rfl rfl ?_
          refine R_icne (tgt := 50) dX13_isConnected_42 (by decide) (fun hc => ?_) (fun hc => ?_)
          · rw [if_pos hc] at hf
            refine R_iload 4 dX13_isConnected_45 rfl ?_
            refine R_goto (tgt := 51) dX13_isConnected_47 (by decide) ?_
            refine R_istore_n (L' := [(3, .int x4), (0, va_rf x0), (1, .int x1), (2, .int x2), (4, .int x4)]) dX13_isConnected_51 rfl (by decide) rfl ?_
            refine R_iinc (L' := [(4, .int (x4 + 1)), (3, .int x4), (0, va_rf x0), (1, .int x1), (2, .int x2)]) 4 dX13_isConnected_52 rfl (k_inc_1 _) (by decide) rfl ?_
            refine R_goto (tgt := 6) dX13_isConnected_55 (by decide) ?_
            refine R.sub [2, 3, 4, 1, 0] (L' := [(0, va_rf x0), (1, .int x1), (2, .int x2), (3, .int x4), (4, .int (x4 + 1))]) rfl ?_
            exact ih x0 x1 x2 x4 (x4 + 1) q8.2 hf
          · rw [if_neg hc] at hf
            refine R_iload_n 3 dX13_isConnected_50 rfl rfl ?_
            refine R_istore_n (L' := [(3, .int x3), (0, va_rf x0), (1, .int x1), (2, .int x2), (4, .int x4)]) dX13_isConnected_51 rfl (by decide) rfl ?_
            refine R_iinc (L' := [(4, .int (x4 + 1)), (3, .int x3), (0, va_rf x0), (1, .int x1), (2, .int x2)]) 4 dX13_isConnected_52 rfl (k_inc_1 _) (by decide) rfl ?_
            refine R_goto (tgt := 6) dX13_isConnected_55 (by decide) ?_
            refine R.sub [2, 3, 4, 1, 0] (L' := [(0, va_rf x0), (1, .int x1), (2, .int x2), (3, .int x3), (4, .int (x4 + 1))]) rfl ?_
            exact ih x0 x1 x2 x3 (x4 + 1) q8.2 hf
      · rw [if_neg hc] at hf
        refine R_iload_n 3 dX13_isConnected_50 rfl rfl ?_
        refine R_istore_n (L' := [(3, .int x3), (0, va_rf x0), (1, .int x1), (2, .int x2), (4, .int x4)]) dX13_isConnected_51 rfl (by decide) rfl ?_
        refine R_iinc (L' := [(4, .int (x4 + 1)), (3, .int x3), (0, va_rf x0), (1, .int x1), (2, .int x2)]) 4 dX13_isConnected_52 rfl (k_inc_1 _) (by decide) rfl ?_
        refine R_goto (tgt := 6) dX13_isConnected_55 (by decide) ?_
        refine R.sub [2, 3, 4, 1, 0] (L' := [(0, va_rf x0), (1, .int x1), (2, .int x2), (3, .int x3), (4, .int (x4 + 1))]) rfl ?_
        exact ih x0 x1 x2 x3 (x4 + 1) h6 hf
noncomputable def f_X13_isConnected (x0 : Option Nat) (x1 : Int32) (x2 : Int32) (h : PH) : Option (Int32 × PH) := f_X13_isConnected_L6  FU x0 x1 x2 (-99) 0 h
theorem T_X13_isConnected {K : KT} {x0 : Option Nat} {x1 : Int32} {x2 : Int32} {h : PH} {q : (Int32 × PH)} (hf : f_X13_isConnected x0 x1 x2 h = some q) : T K mi_X13_isConnected [va_rf x0, .int x1, .int x2] h (.inl (some (.int q.1))) q.2 := by
  unfold f_X13_isConnected at hf
  refine T_of (by decide +kernel) rfl (C1_r (C1_i (C1_i C1_0))) (Nat.le_of_ble_eq_true rfl) ?_
  show R K mi_X13_isConnected h [va_rf x0, .int x1, .int x2] _ _ 0 [(0, va_rf x0), (1, .int x1), (2, .int x2)] [] h
  refine R_bipush dX13_isConnected_0 k_bipush_m99 ?_
  refine R_istore_n (L' := [(3, .int (-99)), (0, va_rf x0), (1, .int x1), (2, .int x2)]) dX13_isConnected_2 rfl (by decide) rfl ?_
  refine R_iconst dX13_isConnected_3 k_iconst_0 ?_
  refine R_istore (L' := [(4, .int 0), (3, .int (-99)), (0, va_rf x0), (1, .int x1), (2, .int x2)]) dX13_isConnected_4 (by decide) rfl ?_
  refine R.sub [2, 3, 4, 1, 0] (L' := [(0, va_rf x0), (1, .int x1), (2, .int x2), (3, .int (-99)), (4, .int 0)]) rfl ?_
  exact f_X13_isConnected_L6_ok  FU x0 x1 x2 (-99) 0 h hf
abbrev mi_X13_empty : MI := (RX13, yX13_empty, cX13_empty, 2, none, 1)
noncomputable def f_X13_empty (x0 : Option Nat) (x1 : Int32) (h : PH) : Option PH := (gfr 11 1 x0 h).bind (fun t1 => (asi 0 t1 (33 + x1) 0 h).bind (fun h2 => (gfr 11 1 x0 h2).bind (fun t3 => (asi 0 t3 (58 + x1) 0 h2).bind (fun h4 => (gfr 11 1 x0 h4).bind (fun t5 => (gfr 11 1 x0 h4).bind (fun t6 => (ald 0 t6 1 h4).bind (fun t7 => (nz t7).bind (fun u8 => (asi 0 t5 (83 + (x1 / t7)) 0 h4).bind (fun h9 => (gfr 11 1 x0 h9).bind (fun t10 => (gfr 11 1 x0 h9).bind (fun t11 => (ald 0 t11 0 h9).bind (fun t12 => (gfr 11 1 x0 h9).bind (fun t13 => (ald 0 t13 1 h9).bind (fun t14 => (nz t14).bind (fun u15 => (asi 0 t10 ((83 + t12) + (x1 - x1 / t14 * t14)) 0 h9).bind (fun h16 => some h16))))))))))))))))
theorem T_X13_empty {K : KT} {x0 : Option Nat} {x1 : Int32} {h : PH} {q : PH} (hf : f_X13_empty x0 x1 h = some q) : T K mi_X13_empty [va_rf x0, .int x1] h (.inl none) q := by
  unfold f_X13_empty at hf
  refine T_of (by decide +kernel) rfl (C1_r (C1_i C1_0)) (Nat.le_of_ble_eq_true rfl) ?_
  show R K mi_X13_empty h [va_rf x0, .int x1] _ _ 0 [(0, va_rf x0), (1, .int x1)] [] h
  refine R_aload_n 0 dX13_empty_0 rfl rfl ?_
  obtain ⟨t1, et1, hf⟩ := Option.bind_eq_some_iff.mp hf
  refine R_getr lg_X13_7 et1 dX13_empty_1 ?_
  refine R_bipush dX13_empty_4 k_bipush_33 ?_
  refine R_iload_n 1 dX13_empty_6 rfl rfl ?_
  refine R_iadd dX13_empty_7 ?_
  refine R_iconst dX13_empty_8 k_iconst_0 ?_
  obtain ⟨h2, eh2, hf⟩ := Option.bind_eq_some_iff.mp hf
  refine R_iastore eh2 dX13_empty_9 ?_
  refine R_aload_n 0 dX13_empty_10 rfl rfl ?_
  obtain ⟨t3, et3, hf⟩ := Option.bind_eq_some_iff.mp hf
  refine R_getr lg_X13_7 et3 dX13_empty_11 ?_
  refine R_bipush dX13_empty_14 k_bipush_58 ?_
  refine R_iload_n 1 dX13_empty_16 rfl rfl ?_
  refine R_iadd dX13_empty_17 ?_
  refine R_iconst dX13_empty_18 k_iconst_0 ?_
  obtain ⟨h4, eh4, hf⟩ := Option.bind_eq_some_iff.mp hf
  refine R_iastore eh4 dX13_empty_19 ?_
  refine R_aload_n 0 dX13_empty_20 rfl rfl ?_
  obtain ⟨t5, et5, hf⟩ := Option.bind_eq_some_iff.mp hf
  refine R_getr lg_X13_7 et5 dX13_empty_21 ?_
  refine R_bipush dX13_empty_24 k_bipush_83 ?_
  refine R_iload_n 1 dX13_empty_26 rfl rfl ?_
  refine R_aload_n 0 dX13_empty_27 rfl rfl ?_
  obtain ⟨t6, et6, hf⟩ := Option.bind_eq_some_iff.mp hf
  refine R_getr lg_X13_7 et6 dX13_empty_28 ?_
  refine R_iconst dX13_empty_31 k_iconst_1 ?_
  obtain ⟨t7, et7, hf⟩ := Option.bind_eq_some_iff.mp hf
  refine R_iaload et7 dX13_empty_32 ?_
  obtain ⟨u8, eu8, hf⟩ := Option.bind_eq_some_iff.mp hf
  refine R_idiv dX13_empty_33 (nz_some eu8) ?_
  refine R_iadd dX13_empty_34 ?_
  refine R_iconst dX13_empty_35 k_iconst_0 ?_
  obtain ⟨h9, eh9, hf⟩ := Option.bind_eq_some_iff.mp hf
  refine R_iastore eh9 dX13_empty_36 ?_
  refine R_aload_n 0 dX13_empty_37 rfl rfl ?_
  obtain ⟨t10, et10, hf⟩ := Option.bind_eq_some_iff.mp hf
  refine R_getr lg_X13_7 et10 dX13_empty_38 ?_
  refine R_bipush dX13_empty_41 k_bipush_83 ?_
  refine R_aload_n 0 dX13_empty_43 rfl rfl ?_
  obtain ⟨t11, et11, hf⟩ := Option.bind_eq_some_iff.mp hf
  refine R_getr lg_X13_7 et11 dX13_empty_44 ?_
  refine R_iconst dX13_empty_47 k_iconst_0 ?_
  obtain ⟨t12, et12, hf⟩ := Option.bind_eq_some_iff.mp hf
  refine R_iaload et12 dX13_empty_48 ?_
  refine R_iadd dX13_empty_49 ?_
  refine R_iload_n 1 dX13_empty_50 rfl rfl ?_
  refine R_aload_n 0 dX13_empty_51 rfl rfl ?_
  obtain ⟨t13, et13, hf⟩ := Option.bind_eq_some_iff.mp hf
  refine R_getr lg_X13_7 et13 dX13_empty_52 ?_
  refine R_iconst dX13_empty_55 k_iconst_1 ?_
  obtain ⟨t14, et14, hf⟩ := Option.bind_eq_some_iff.mp hf
  refine R_iaload et14 dX13_empty_56 ?_
  obtain ⟨u15, eu15, hf⟩ := Option.bind_eq_some_iff.mp hf
  refine R_irem dX13_empty_57 (nz_some eu15) ?_
  refine R_iadd dX13_empty_58 ?_
  refine R_iconst dX13_empty_59 k_iconst_0 ?_
  obtain ⟨h16, eh16, hf⟩ := Option.bind_eq_some_iff.mp hf
  refine R_iastore eh16 dX13_empty_60 ?_
  obtain rfl := Option.some.inj hf
  exact R_return rfl dX13_empty_61
theorem lV_X13_89 : GoodIn lw_all (wsV "EdgeSumsModel" 89 "EdgeSumsModel" yX13_empty (ws_ yX13_empty cX13_empty 2 none)) := lw_V q2762 q2764 qs63 q158 q2765
theorem oky_X13_empty : okY yX13_empty 1 := ⟨by decide +kernel, by decide +kernel, by decide +kernel⟩
abbrev mi_X13_emptyBlock : MI := (RX13, yX13_emptyBlock, cX13_emptyBlock, 3, none, 2)
noncomputable def f_X13_emptyBlock_L2  : Nat → Option Nat → Int32 → Int32 → PH → Option PH
  | 0, _, _, _, _ => none
  | k + 1, x0, x1, x2, h => (rcv 11 x0 h).bind (fun u1 => (f_X13_cells x0 h).bind (fun q2 => if q2.1 ≤ x2 then (some q2.2) else ((rcv 11 x0 q2.2).bind (fun u3 => (f_X13_blockOf x0 x2 q2.2).bind (fun q4 => if q4.1 = x1 then ((rcv 11 x0 q4.2).bind (fun u5 => (f_X13_empty x0 x2 q4.2).bind (fun h6 => (f_X13_emptyBlock_L2 k) x0 x1 (x2 + 1) h6))) else ((f_X13_emptyBlock_L2 k) x0 x1 (x2 + 1) q4.2))))))
theorem f_X13_emptyBlock_L2_ok {K : KT} {h0 : PH} {a0 : List Value} {q : PH}  : ∀ (k : Nat) (x0 : Option Nat) (x1 : Int32) (x2 : Int32) (h : PH), f_X13_emptyBlock_L2  k x0 x1 x2 h = some q → R K mi_X13_emptyBlock h0 a0 (.inl none) q 2 [(0, va_rf x0), (1, .int x1), (2, .int x2)] [] h := by
  intro k
  induction k with
  | zero => intro _ _ _ _ hf; cases hf
  | succ k ih =>
    intro x0 x1 x2 h hf
    unfold f_X13_emptyBlock_L2 at hf
    refine R_iload_n 2 dX13_emptyBlock_2 rfl rfl ?_
    refine R_aload_n 0 dX13_emptyBlock_3 rfl rfl ?_
    obtain ⟨u1, eu1, hf⟩ := Option.bind_eq_some_iff.mp hf
    obtain ⟨q2, eq2, hf⟩ := Option.bind_eq_some_iff.mp hf
    refine R_callV (mj := mi_X13_cells) (ci := 11) (q := (RX13, TX13, 24)) (As := []) (rest := [.int x2]) (T_X13_cells eq2) eu1 rfl lV_X13_61 ⟨rfl, oky_X13_cells⟩ (by decide) (by decide) rfl (C1_i C1_0) (Nat.le_of_ble_eq_true rfl) dX13_emptyBlock_4 ?_
    refine R_icge (tgt := 30) dX13_emptyBlock_7 (by decide) (fun hc => ?_) (fun hc => ?_)
    · rw [if_pos hc] at hf
      obtain rfl := Option.some.inj hf
      exact R_return rfl dX13_emptyBlock_30
    · rw [if_neg hc] at hf
      refine R_aload_n 0 dX13_emptyBlock_10 rfl rfl ?_
      refine R_iload_n 2 dX13_emptyBlock_11 rfl rfl ?_
      obtain ⟨u3, eu3, hf⟩ := Option.bind_eq_some_iff.mp hf
      obtain ⟨q4, eq4, hf⟩ := Option.bind_eq_some_iff.mp hf
      refine R_callV (mj := mi_X13_blockOf) (ci := 11) (q := (RX13, TX13, 24)) (As := [.int x2]) (rest := []) (T_X13_blockOf eq4) eu3 rfl lV_X13_72 ⟨rfl, oky_X13_blockOf⟩ (by decide) (by decide) rfl C1_0 (Nat.le_of_ble_eq_true rfl) dX13_emptyBlock_12 ?_
      refine R_iload_n 1 dX13_emptyBlock_15 rfl rfl ?_
      refine R_icne (tgt := 24) dX13_emptyBlock_16 (by decide) (fun hc => ?_) (fun hc => ?_)
      · rw [if_pos hc] at hf
        refine R_aload_n 0 dX13_emptyBlock_19 rfl rfl ?_
        refine R_iload_n 2 dX13_emptyBlock_20 rfl rfl ?_
        obtain ⟨u5, eu5, hf⟩ := Option.bind_eq_some_iff.mp hf
        obtain ⟨h6, eh6, hf⟩ := Option.bind_eq_some_iff.mp hf
        refine R_callV (mj := mi_X13_empty) (ci := 11) (q := (RX13, TX13, 24)) (As := [.int x2]) (rest := []) (T_X13_empty eh6) eu5 rfl lV_X13_89 ⟨rfl, oky_X13_empty⟩ (by decide) (by decide) rfl C1_0 (Nat.le_of_ble_eq_true rfl) dX13_emptyBlock_21 ?_
        refine R_iinc (L' := [(2, .int (x2 + 1)), (0, va_rf x0), (1, .int x1)]) 2 dX13_emptyBlock_24 rfl (k_inc_1 _) (by decide) rfl ?_
        refine R_goto (tgt := 2) dX13_emptyBlock_27 (by decide) ?_
        refine R.sub [1, 2, 0] (L' := [(0, va_rf x0), (1, .int x1), (2, .int (x2 + 1))]) rfl ?_
        exact ih x0 x1 (x2 + 1) h6 hf
      · rw [if_neg hc] at hf
        refine R_iinc (L' := [(2, .int (x2 + 1)), (0, va_rf x0), (1, .int x1)]) 2 dX13_emptyBlock_24 rfl (k_inc_1 _) (by decide) rfl ?_
        refine R_goto (tgt := 2) dX13_emptyBlock_27 (by decide) ?_
        refine R.sub [1, 2, 0] (L' := [(0, va_rf x0), (1, .int x1), (2, .int (x2 + 1))]) rfl ?_
        exact ih x0 x1 (x2 + 1) q4.2 hf
noncomputable def f_X13_emptyBlock (x0 : Option Nat) (x1 : Int32) (h : PH) : Option PH := f_X13_emptyBlock_L2  FU x0 x1 0 h
theorem T_X13_emptyBlock {K : KT} {x0 : Option Nat} {x1 : Int32} {h : PH} {q : PH} (hf : f_X13_emptyBlock x0 x1 h = some q) : T K mi_X13_emptyBlock [va_rf x0, .int x1] h (.inl none) q := by
  unfold f_X13_emptyBlock at hf
  refine T_of (by decide +kernel) rfl (C1_r (C1_i C1_0)) (Nat.le_of_ble_eq_true rfl) ?_
  show R K mi_X13_emptyBlock h [va_rf x0, .int x1] _ _ 0 [(0, va_rf x0), (1, .int x1)] [] h
  refine R_iconst dX13_emptyBlock_0 k_iconst_0 ?_
  refine R_istore_n (L' := [(2, .int 0), (0, va_rf x0), (1, .int x1)]) dX13_emptyBlock_1 rfl (by decide) rfl ?_
  refine R.sub [1, 2, 0] (L' := [(0, va_rf x0), (1, .int x1), (2, .int 0)]) rfl ?_
  exact f_X13_emptyBlock_L2_ok  FU x0 x1 0 h hf
theorem lg_X13_28 : LG "EdgeSumsModel" 28 11 14 := ⟨_, _, _, ck_11, by decide, Or.inl q2665⟩
abbrev mi_X13_renumber : MI := (RX13, yX13_renumber, cX13_renumber, 4, (some FieldType.int), 2)
noncomputable def f_X13_renumber_L57 (r38 : Option Nat → Int32 → Int32 → PH → Option (Int32 × PH)) : Nat → Option Nat → Int32 → Int32 → Int32 → PH → Option (Int32 × PH)
  | 0, _, _, _, _, _ => none
  | k + 1, x0, x1, x2, x3, h => (rcv 11 x0 h).bind (fun u1 => (f_X13_cells x0 h).bind (fun q2 => if q2.1 ≤ x3 then (r38 x0 (x1 + 1) (x2 + 1) q2.2) else ((gfr 11 14 x0 q2.2).bind (fun t3 => (ald 0 t3 x3 q2.2).bind (fun t4 => (gfr 11 14 x0 q2.2).bind (fun t5 => (ald 0 t5 x2 q2.2).bind (fun t6 => if t4 = t6 then ((gfr 11 15 x0 q2.2).bind (fun t7 => (asi 0 t7 x3 1 q2.2).bind (fun h8 => (gfr 11 1 x0 h8).bind (fun t9 => (asi 0 t9 (8 + x3) x1 h8).bind (fun h10 => (f_X13_renumber_L57 r38 k) x0 x1 x2 (x3 + 1) h10))))) else ((f_X13_renumber_L57 r38 k) x0 x1 x2 (x3 + 1) q2.2))))))))
theorem f_X13_renumber_L57_ok {K : KT} {h0 : PH} {a0 : List Value} {q : (Int32 × PH)} {r38 : Option Nat → Int32 → Int32 → PH → Option (Int32 × PH)} (hr38 : ∀ (y0 : Option Nat) (y1 : Int32) (y2 : Int32) (h : PH), r38 y0 y1 y2 h = some q → R K mi_X13_renumber h0 a0 (.inl (some (.int q.1))) q.2 38 [(0, va_rf y0), (1, .int y1), (2, .int y2)] [] h) : ∀ (k : Nat) (x0 : Option Nat) (x1 : Int32) (x2 : Int32) (x3 : Int32) (h : PH), f_X13_renumber_L57 r38 k x0 x1 x2 x3 h = some q → R K mi_X13_renumber h0 a0 (.inl (some (.int q.1))) q.2 57 [(0, va_rf x0), (1, .int x1), (2, .int x2), (3, .int x3)] [] h := by
  intro k
  induction k with
  | zero => intro _ _ _ _ _ hf; cases hf
  | succ k ih =>
    intro x0 x1 x2 x3 h hf
    unfold f_X13_renumber_L57 at hf
    refine R_iload_n 3 dX13_renumber_57 rfl rfl ?_
    refine R_aload_n 0 dX13_renumber_58 rfl rfl ?_
    obtain ⟨u1, eu1, hf⟩ := Option.bind_eq_some_iff.mp hf
    obtain ⟨q2, eq2, hf⟩ := Option.bind_eq_some_iff.mp hf
    refine R_callV (mj := mi_X13_cells) (ci := 11) (q := (RX13, TX13, 24)) (As := []) (rest := [.int x3]) (T_X13_cells eq2) eu1 rfl lV_X13_61 ⟨rfl, oky_X13_cells⟩ (by decide) (by decide) rfl (C1_i C1_0) (Nat.le_of_ble_eq_true rfl) dX13_renumber_59 ?_
    refine R_icge (tgt := 103) dX13_renumber_62 (by decide) (fun hc => ?_) (fun hc => ?_)
    · rw [if_pos hc] at hf
      refine R_iinc (L' := [(1, .int (x1 + 1)), (0, va_rf x0), (2, .int x2), (3, .int x3)]) 1 dX13_renumber_103 rfl (k_inc_1 _) (by decide) rfl ?_
      refine R_iinc (L' := [(2, .int (x2 + 1)), (1, .int (x1 + 1)), (0, va_rf x0), (3, .int x3)]) 2 dX13_renumber_106 rfl (k_inc_1 _) (by decide) rfl ?_
      refine R_goto (tgt := 38) dX13_renumber_109 (by decide) ?_
      refine R.sub [2, 1, 0] (L' := [(0, va_rf x0), (1, .int (x1 + 1)), (2, .int (x2 + 1))]) rfl ?_
      exact hr38 x0 (x1 + 1) (x2 + 1) q2.2 hf
    · rw [if_neg hc] at hf
      refine R_aload_n 0 dX13_renumber_65 rfl rfl ?_
      obtain ⟨t3, et3, hf⟩ := Option.bind_eq_some_iff.mp hf
      refine R_getr lg_X13_28 et3 dX13_renumber_66 ?_
      refine R_iload_n 3 dX13_renumber_69 rfl rfl ?_
      obtain ⟨t4, et4, hf⟩ := Option.bind_eq_some_iff.mp hf
      refine R_iaload et4 dX13_renumber_70 ?_
      refine R_aload_n 0 dX13_renumber_71 rfl rfl ?_
      obtain ⟨t5, et5, hf⟩ := Option.bind_eq_some_iff.mp hf
      refine R_getr lg_X13_28 et5 dX13_renumber_72 ?_
      refine R_iload_n 2 dX13_renumber_75 rfl rfl ?_
      obtain ⟨t6, et6, hf⟩ := Option.bind_eq_some_iff.mp hf
      refine R_iaload et6 dX13_renumber_76 ?_
      refine R_icne (tgt := 97) dX13_renumber_77 (by decide) (fun hc => ?_) (fun hc => ?_)
      · rw [if_pos hc] at hf
        refine R_aload_n 0 dX13_renumber_80 rfl rfl ?_
        obtain ⟨t7, et7, hf⟩ := Option.bind_eq_some_iff.mp hf
        refine R_getr lg_X13_31 et7 dX13_renumber_81 ?_
        refine R_iload_n 3 dX13_renumber_84 rfl rfl ?_
        refine R_iconst dX13_renumber_85 k_iconst_1 ?_
        obtain ⟨h8, eh8, hf⟩ := Option.bind_eq_some_iff.mp hf
        refine R_iastore eh8 dX13_renumber_86 ?_
        refine R_aload_n 0 dX13_renumber_87 rfl rfl ?_
        obtain ⟨t9, et9, hf⟩ := Option.bind_eq_some_iff.mp hf
        refine R_getr lg_X13_7 et9 dX13_renumber_88 ?_
        refine R_bipush dX13_renumber_91 k_bipush_8 ?_
        refine R_iload_n 3 dX13_renumber_93 rfl rfl ?_
        refine R_iadd dX13_renumber_94 ?_
        refine R_iload_n 1 dX13_renumber_95 rfl rfl ?_
        obtain ⟨h10, eh10, hf⟩ := Option.bind_eq_some_iff.mp hf
        refine R_iastore eh10 dX13_renumber_96 ?_
        refine R_iinc (L' := [(3, .int (x3 + 1)), (0, va_rf x0), (1, .int x1), (2, .int x2)]) 3 dX13_renumber_97 rfl (k_inc_1 _) (by decide) rfl ?_
        refine R_goto (tgt := 57) dX13_renumber_100 (by decide) ?_
        refine R.sub [1, 2, 3, 0] (L' := [(0, va_rf x0), (1, .int x1), (2, .int x2), (3, .int (x3 + 1))]) rfl ?_
        exact ih x0 x1 x2 (x3 + 1) h10 hf
      · rw [if_neg hc] at hf
        refine R_iinc (L' := [(3, .int (x3 + 1)), (0, va_rf x0), (1, .int x1), (2, .int x2)]) 3 dX13_renumber_97 rfl (k_inc_1 _) (by decide) rfl ?_
        refine R_goto (tgt := 57) dX13_renumber_100 (by decide) ?_
        refine R.sub [1, 2, 3, 0] (L' := [(0, va_rf x0), (1, .int x1), (2, .int x2), (3, .int (x3 + 1))]) rfl ?_
        exact ih x0 x1 x2 (x3 + 1) q2.2 hf
noncomputable def f_X13_renumber_L38  : Nat → Option Nat → Int32 → Int32 → PH → Option (Int32 × PH)
  | 0, _, _, _, _ => none
  | k + 1, x0, x1, x2, h => (rcv 11 x0 h).bind (fun u1 => (f_X13_cells x0 h).bind (fun q2 => if q2.1 ≤ x2 then (some (x1, q2.2)) else ((gfr 11 15 x0 q2.2).bind (fun t3 => (ald 0 t3 x2 q2.2).bind (fun t4 => if t4 = 0 then (f_X13_renumber_L57 (f_X13_renumber_L38 k) FU x0 x1 x2 x2 q2.2) else ((f_X13_renumber_L38 k) x0 x1 (x2 + 1) q2.2))))))
theorem f_X13_renumber_L38_ok {K : KT} {h0 : PH} {a0 : List Value} {q : (Int32 × PH)}  : ∀ (k : Nat) (x0 : Option Nat) (x1 : Int32) (x2 : Int32) (h : PH), f_X13_renumber_L38  k x0 x1 x2 h = some q → R K mi_X13_renumber h0 a0 (.inl (some (.int q.1))) q.2 38 [(0, va_rf x0), (1, .int x1), (2, .int x2)] [] h := by
  intro k
  induction k with
  | zero => intro _ _ _ _ hf; cases hf
  | succ k ih =>
    intro x0 x1 x2 h hf
    unfold f_X13_renumber_L38 at hf
    refine R_iload_n 2 dX13_renumber_38 rfl rfl ?_
    refine R_aload_n 0 dX13_renumber_39 rfl rfl ?_
    obtain ⟨u1, eu1, hf⟩ := Option.bind_eq_some_iff.mp hf
    obtain ⟨q2, eq2, hf⟩ := Option.bind_eq_some_iff.mp hf
    refine R_callV (mj := mi_X13_cells) (ci := 11) (q := (RX13, TX13, 24)) (As := []) (rest := [.int x2]) (T_X13_cells eq2) eu1 rfl lV_X13_61 ⟨rfl, oky_X13_cells⟩ (by decide) (by decide) rfl (C1_i C1_0) (Nat.le_of_ble_eq_true rfl) dX13_renumber_40 ?_
    refine R_icge (tgt := 112) dX13_renumber_43 (by decide) (fun hc => ?_) (fun hc => ?_)
    · rw [if_pos hc] at hf
      refine R_iload_n 1 dX13_renumber_112 rfl rfl ?_
      obtain rfl := Option.some.inj hf
      exact R_iretI rfl dX13_renumber_113
    · rw [if_neg hc] at hf
      refine R_aload_n 0 dX13_renumber_46 rfl rfl ?_
      obtain ⟨t3, et3, hf⟩ := Option.bind_eq_some_iff.mp hf
      refine R_getr lg_X13_31 et3 dX13_renumber_47 ?_
      refine R_iload_n 2 dX13_renumber_50 rfl rfl ?_
      obtain ⟨t4, et4, hf⟩ := Option.bind_eq_some_iff.mp hf
      refine R_iaload et4 dX13_renumber_51 ?_
      refine R_ifne (tgt := 106) dX13_renumber_52 (by decide) (fun hc => ?_) (fun hc => ?_)
      · rw [if_pos hc] at hf
        refine R_iload_n 2 dX13_renumber_55 rfl rfl ?_
        refine R_istore_n (L' := [(3, .int x2), (0, va_rf x0), (1, .int x1), (2, .int x2)]) dX13_renumber_56 rfl (by decide) rfl ?_
        refine R.sub [1, 2, 3, 0] (L' := [(0, va_rf x0), (1, .int x1), (2, .int x2), (3, .int x2)]) rfl ?_
        exact f_X13_renumber_L57_ok ih FU x0 x1 x2 x2 q2.2 hf
      · rw [if_neg hc] at hf
        refine R_iinc (L' := [(2, .int (x2 + 1)), (0, va_rf x0), (1, .int x1)]) 2 dX13_renumber_106 rfl (k_inc_1 _) (by decide) rfl ?_
        refine R_goto (tgt := 38) dX13_renumber_109 (by decide) ?_
        refine R.sub [1, 2, 0] (L' := [(0, va_rf x0), (1, .int x1), (2, .int (x2 + 1))]) rfl ?_
        exact ih x0 x1 (x2 + 1) q2.2 hf
noncomputable def f_X13_renumber_L2  : Nat → Option Nat → Int32 → PH → Option (Int32 × PH)
  | 0, _, _, _ => none
  | k + 1, x0, x1, h => (rcv 11 x0 h).bind (fun u1 => (f_X13_cells x0 h).bind (fun q2 => if q2.1 ≤ x1 then (f_X13_renumber_L38  FU x0 0 0 q2.2) else ((gfr 11 14 x0 q2.2).bind (fun t3 => (rcv 11 x0 q2.2).bind (fun u4 => (f_X13_blockOf x0 x1 q2.2).bind (fun q5 => (asi 0 t3 x1 q5.1 q5.2).bind (fun h6 => (gfr 11 15 x0 h6).bind (fun t7 => (asi 0 t7 x1 0 h6).bind (fun h8 => (f_X13_renumber_L2 k) x0 (x1 + 1) h8)))))))))
theorem f_X13_renumber_L2_ok {K : KT} {h0 : PH} {a0 : List Value} {q : (Int32 × PH)}  : ∀ (k : Nat) (x0 : Option Nat) (x1 : Int32) (h : PH), f_X13_renumber_L2  k x0 x1 h = some q → R K mi_X13_renumber h0 a0 (.inl (some (.int q.1))) q.2 2 [(0, va_rf x0), (1, .int x1)] [] h := by
  intro k
  induction k with
  | zero => intro _ _ _ hf; cases hf
  | succ k ih =>
    intro x0 x1 h hf
    unfold f_X13_renumber_L2 at hf
    refine R_iload_n 1 dX13_renumber_2 rfl rfl ?_
    refine R_aload_n 0 dX13_renumber_3 rfl rfl ?_
    obtain ⟨u1, eu1, hf⟩ := Option.bind_eq_some_iff.mp hf
    obtain ⟨q2, eq2, hf⟩ := Option.bind_eq_some_iff.mp hf
    refine R_callV (mj := mi_X13_cells) (ci := 11) (q := (RX13, TX13, 24)) (As := []) (rest := [.int x1]) (T_X13_cells eq2) eu1 rfl lV_X13_61 ⟨rfl, oky_X13_cells⟩ (by decide) (by decide) rfl (C1_i C1_0) (Nat.le_of_ble_eq_true rfl) dX13_renumber_4 ?_
    refine R_icge (tgt := 34) dX13_renumber_7 (by decide) (fun hc => ?_) (fun hc => ?_)
    · rw [if_pos hc] at hf
      refine R_iconst dX13_renumber_34 k_iconst_0 ?_
      refine R_istore_n (L' := [(1, .int 0), (0, va_rf x0)]) dX13_renumber_35 rfl (by decide) rfl ?_
      refine R_iconst dX13_renumber_36 k_iconst_0 ?_
      refine R_istore_n (L' := [(2, .int 0), (1, .int 0), (0, va_rf x0)]) dX13_renumber_37 rfl (by decide) rfl ?_
      refine R.sub [2, 1, 0] (L' := [(0, va_rf x0), (1, .int 0), (2, .int 0)]) rfl ?_
      exact f_X13_renumber_L38_ok  FU x0 0 0 q2.2 hf
    · rw [if_neg hc] at hf
      refine R_aload_n 0 dX13_renumber_10 rfl rfl ?_
      obtain ⟨t3, et3, hf⟩ := Option.bind_eq_some_iff.mp hf
      refine R_getr lg_X13_28 et3 dX13_renumber_11 ?_
      refine R_iload_n 1 dX13_renumber_14 rfl rfl ?_
      refine R_aload_n 0 dX13_renumber_15 rfl rfl ?_
      refine R_iload_n 1 dX13_renumber_16 rfl rfl ?_
      obtain ⟨u4, eu4, hf⟩ := Option.bind_eq_some_iff.mp hf
      obtain ⟨q5, eq5, hf⟩ := Option.bind_eq_some_iff.mp hf
      refine R_callV (mj := mi_X13_blockOf) (ci := 11) (q := (RX13, TX13, 24)) (As := [.int x1]) (rest := [.int x1, va_rf t3]) (T_X13_blockOf eq5) eu4 rfl lV_X13_72 ⟨rfl, oky_X13_blockOf⟩ (by decide) (by decide) rfl (C1_i (C1_r C1_0)) (Nat.le_of_ble_eq_true rfl) dX13_renumber_17 ?_
      obtain ⟨h6, eh6, hf⟩ := Option.bind_eq_some_iff.mp hf
      refine R_iastore eh6 dX13_renumber_20 ?_
      refine R_aload_n 0 dX13_renumber_21 rfl rfl ?_
      obtain ⟨t7, et7, hf⟩ := Option.bind_eq_some_iff.mp hf
      refine R_getr lg_X13_31 et7 dX13_renumber_22 ?_
      refine R_iload_n 1 dX13_renumber_25 rfl rfl ?_
      refine R_iconst dX13_renumber_26 k_iconst_0 ?_
      obtain ⟨h8, eh8, hf⟩ := Option.bind_eq_some_iff.mp hf
      refine R_iastore eh8 dX13_renumber_27 ?_
      refine R_iinc (L' := [(1, .int (x1 + 1)), (0, va_rf x0)]) 1 dX13_renumber_28 rfl (k_inc_1 _) (by decide) rfl ?_
      refine R_goto (tgt := 2) dX13_renumber_31 (by decide) ?_
      refine R.sub [1, 0] (L' := [(0, va_rf x0), (1, .int (x1 + 1))]) rfl ?_
      exact ih x0 (x1 + 1) h8 hf
noncomputable def f_X13_renumber (x0 : Option Nat) (h : PH) : Option (Int32 × PH) := f_X13_renumber_L2  FU x0 0 h
theorem T_X13_renumber {K : KT} {x0 : Option Nat} {h : PH} {q : (Int32 × PH)} (hf : f_X13_renumber x0 h = some q) : T K mi_X13_renumber [va_rf x0] h (.inl (some (.int q.1))) q.2 := by
  unfold f_X13_renumber at hf
  refine T_of (by decide +kernel) rfl (C1_r C1_0) (Nat.le_of_ble_eq_true rfl) ?_
  show R K mi_X13_renumber h [va_rf x0] _ _ 0 [(0, va_rf x0)] [] h
  refine R_iconst dX13_renumber_0 k_iconst_0 ?_
  refine R_istore_n (L' := [(1, .int 0), (0, va_rf x0)]) dX13_renumber_1 rfl (by decide) rfl ?_
  refine R.sub [1, 0] (L' := [(0, va_rf x0), (1, .int 0)]) rfl ?_
  exact f_X13_renumber_L2_ok  FU x0 0 h hf
theorem lV_X13_108 : GoodIn lw_all (wsV "EdgeSumsModel" 108 "EdgeSumsModel" yX13_isCell (ws_ yX13_isCell cX13_isCell 2 (some FieldType.boolean))) := lw_V q2746 q2748 qs59 q158 q2749
theorem oky_X13_isCell : okY yX13_isCell 1 := ⟨by decide +kernel, by decide +kernel, by decide +kernel⟩
theorem lV_X13_112 : GoodIn lw_all (wsV "EdgeSumsModel" 112 "EdgeSumsModel" yX13_isConnected (ws_ yX13_isConnected cX13_isConnected 7 (some FieldType.boolean))) := lw_V q2754 q2756 qs61 q158 q2757
theorem oky_X13_isConnected : okY yX13_isConnected 2 := ⟨by decide +kernel, by decide +kernel, by decide +kernel⟩
theorem lV_X13_115 : GoodIn lw_all (wsV "EdgeSumsModel" 115 "EdgeSumsModel" yX13_emptyBlock (ws_ yX13_emptyBlock cX13_emptyBlock 3 none)) := lw_V q2758 q2760 qs62 q158 q2761
theorem oky_X13_emptyBlock : okY yX13_emptyBlock 1 := ⟨by decide +kernel, by decide +kernel, by decide +kernel⟩
theorem lV_X13_118 : GoodIn lw_all (wsV "EdgeSumsModel" 118 "EdgeSumsModel" yX13_renumber (ws_ yX13_renumber cX13_renumber 4 (some FieldType.int))) := lw_V q2766 q2768 qs64 q158 q2769
theorem oky_X13_renumber : okY yX13_renumber 0 := ⟨by decide +kernel, by decide +kernel, by decide +kernel⟩
abbrev mi_X13_moveCell : MI := (RX13, yX13_moveCell, cX13_moveCell, 6, (some FieldType.int), 6)
noncomputable def f_X13_moveCell (x0 : Option Nat) (x1 : Int32) (x2 : Int32) (h : PH) : Option (Int32 × PH) := (pf 11 0 x0 (.int 0) h).bind (fun h1 => (rcv 11 x0 h1).bind (fun u2 => (f_X13_isCell x0 x1 h1).bind (fun q3 => if q3.1 = 0 then (some ((-1), q3.2)) else ((rcv 11 x0 q3.2).bind (fun u4 => (f_X13_isCell x0 x2 q3.2).bind (fun q5 => if q5.1 = 0 then (some ((-1), q5.2)) else ((rcv 11 x0 q5.2).bind (fun u6 => (f_X13_areNeighbors x0 x1 x2 q5.2).bind (fun q7 => if q7.1 = 0 then (some ((-1), q7.2)) else ((rcv 11 x0 q7.2).bind (fun u8 => (f_X13_blockOf x0 x1 q7.2).bind (fun q9 => (rcv 11 x0 q9.2).bind (fun u10 => (f_X13_blockOf x0 x2 q9.2).bind (fun q11 => if q9.1 = q11.1 then (some ((-2), q11.2)) else ((rcv 11 x0 q11.2).bind (fun u12 => (f_X13_isConnected x0 q9.1 x1 q11.2).bind (fun q13 => if q13.1 = 0 then (some ((-2), q13.2)) else ((rcv 11 x0 q13.2).bind (fun u14 => (f_X13_blockSize x0 q11.1 q13.2).bind (fun q15 => if q15.1 = 6 then (some ((-3), q15.2)) else ((rcv 11 x0 q15.2).bind (fun u16 => (f_X13_act x0 q15.2).bind (fun h17 => (rcv 11 x0 h17).bind (fun u18 => (f_X13_emptyBlock x0 q9.1 h17).bind (fun h19 => (rcv 11 x0 h19).bind (fun u20 => (f_X13_emptyBlock x0 q11.1 h19).bind (fun h21 => (gfr 11 1 x0 h21).bind (fun t22 => (asi 0 t22 (8 + x1) q11.1 h21).bind (fun h23 => (rcv 11 x0 h23).bind (fun u24 => (f_X13_renumber x0 h23).bind (fun q25 => (rcv 11 x0 q25.2).bind (fun u26 => (f_X13_reset x0 q25.2).bind (fun h27 => some (q25.1, h27))))))))))))))))))))))))))))))))))
theorem T_X13_moveCell {K : KT} {x0 : Option Nat} {x1 : Int32} {x2 : Int32} {h : PH} {q : (Int32 × PH)} (hf : f_X13_moveCell x0 x1 x2 h = some q) : T K mi_X13_moveCell [va_rf x0, .int x1, .int x2] h (.inl (some (.int q.1))) q.2 := by
  unfold f_X13_moveCell at hf
  refine T_of (by decide +kernel) rfl (C1_r (C1_i (C1_i C1_0))) (Nat.le_of_ble_eq_true rfl) ?_
  show R K mi_X13_moveCell h [va_rf x0, .int x1, .int x2] _ _ 0 [(0, va_rf x0), (1, .int x1), (2, .int x2)] [] h
  refine R_aload_n 0 dX13_moveCell_0 rfl rfl ?_
  refine R_iconst dX13_moveCell_1 k_iconst_0 ?_
  obtain ⟨h1, eh1, hf⟩ := Option.bind_eq_some_iff.mp hf
  refine R_putI (fp_X13_43 rfl) eh1 dX13_moveCell_2 ?_
  refine R_aload_n 0 dX13_moveCell_5 rfl rfl ?_
  refine R_iload_n 1 dX13_moveCell_6 rfl rfl ?_
  obtain ⟨u2, eu2, hf⟩ := Option.bind_eq_some_iff.mp hf
  obtain ⟨q3, eq3, hf⟩ := Option.bind_eq_some_iff.mp hf
  refine R_callV (mj := mi_X13_isCell) (ci := 11) (q := (RX13, TX13, 24)) (As := [.int x1]) (rest := []) (T_X13_isCell eq3) eu2 rfl lV_X13_108 ⟨rfl, oky_X13_isCell⟩ (by decide) (by decide) rfl C1_0 (Nat.le_of_ble_eq_true rfl) dX13_moveCell_7 ?_
  refine R_ifeq (tgt := 30) dX13_moveCell_10 (by decide) (fun hc => ?_) (fun hc => ?_)
  · rw [if_pos hc] at hf
    refine R_iconst dX13_moveCell_30 k_iconst_m1 ?_
    obtain rfl := Option.some.inj hf
    exact R_iretI rfl dX13_moveCell_31
  · rw [if_neg hc] at hf
    refine R_aload_n 0 dX13_moveCell_13 rfl rfl ?_
    refine R_iload_n 2 dX13_moveCell_14 rfl rfl ?_
    obtain ⟨u4, eu4, hf⟩ := Option.bind_eq_some_iff.mp hf
    obtain ⟨q5, eq5, hf⟩ := Option.bind_eq_some_iff.mp hf
    refine R_callV (mj := mi_X13_isCell) (ci := 11) (q := (RX13, TX13, 24)) (As := [.int x2]) (rest := []) (T_X13_isCell eq5) eu4 rfl lV_X13_108 ⟨rfl, oky_X13_isCell⟩ (by decide) (by decide) rfl C1_0 (Nat.le_of_ble_eq_true rfl) dX13_moveCell_15 ?_
    refine R_ifeq (tgt := 30) dX13_moveCell_18 (by decide) (fun hc => ?_) (fun hc => ?_)
    · rw [if_pos hc] at hf
      refine R_iconst dX13_moveCell_30 k_iconst_m1 ?_
      obtain rfl := Option.some.inj hf
      exact R_iretI rfl dX13_moveCell_31
    · rw [if_neg hc] at hf
      refine R_aload_n 0 dX13_moveCell_21 rfl rfl ?_
      refine R_iload_n 1 dX13_moveCell_22 rfl rfl ?_
      refine R_iload_n 2 dX13_moveCell_23 rfl rfl ?_
      obtain ⟨u6, eu6, hf⟩ := Option.bind_eq_some_iff.mp hf
      obtain ⟨q7, eq7, hf⟩ := Option.bind_eq_some_iff.mp hf
      refine R_callV (mj := mi_X13_areNeighbors) (ci := 11) (q := (RX13, TX13, 24)) (As := [.int x1, .int x2]) (rest := []) (T_X13_areNeighbors eq7) eu6 rfl lV_X13_83 ⟨rfl, oky_X13_areNeighbors⟩ (by decide) (by decide) rfl C1_0 (Nat.le_of_ble_eq_true rfl) dX13_moveCell_24 ?_
      refine R_ifne (tgt := 32) dX13_moveCell_27 (by decide) (fun hc => ?_) (fun hc => ?_)
      · rw [if_pos hc] at hf
        refine R_iconst dX13_moveCell_30 k_iconst_m1 ?_
        obtain rfl := Option.some.inj hf
        exact R_iretI rfl dX13_moveCell_31
      · rw [if_neg hc] at hf
        refine R_aload_n 0 dX13_moveCell_32 rfl rfl ?_
        refine R_iload_n 1 dX13_moveCell_33 rfl rfl ?_
        obtain ⟨u8, eu8, hf⟩ := Option.bind_eq_some_iff.mp hf
        obtain ⟨q9, eq9, hf⟩ := Option.bind_eq_some_iff.mp hf
        refine R_callV (mj := mi_X13_blockOf) (ci := 11) (q := (RX13, TX13, 24)) (As := [.int x1]) (rest := []) (T_X13_blockOf eq9) eu8 rfl lV_X13_72 ⟨rfl, oky_X13_blockOf⟩ (by decide) (by decide) rfl C1_0 (Nat.le_of_ble_eq_true rfl) dX13_moveCell_34 ?_
        refine R_istore_n (L' := [(3, .int q9.1), (0, va_rf x0), (1, .int x1), (2, .int x2)]) dX13_moveCell_37 rfl (by decide) rfl ?_
        refine R_aload_n 1 dX13_moveCell_38 rfl rfl ?_
        refine R_iload_n 3 dX13_moveCell_39 rfl rfl ?_
        obtain ⟨u10, eu10, hf⟩ := Option.bind_eq_some_iff.mp hf
        obtain ⟨q11, eq11, hf⟩ := Option.bind_eq_some_iff.mp hf
        refine R_callV (mj := mi_X13_blockOf) (ci := 11) (q := (RX13, TX13, 24)) (As := [.int x2]) (rest := []) (T_X13_blockOf eq11) eu10 rfl lV_X13_72 ⟨rfl, oky_X13_blockOf⟩ (by decide) (by decide) rfl C1_0 (Nat.le_of_ble_eq_true rfl) dX13_moveCell_40 ?_
        refine R_istore (L' := [(4, .int q11.1), (3, .int q9.1), (0, va_rf x0), (1, .int x1), (2, .int x2)]) dX13_moveCell_43 (by decide) rfl ?_
        refine R_iload_n 1 dX13_moveCell_45 rfl rfl ?_
        refine R_iload 0 dX13_moveCell_46 rfl ?_
        refine R_iceq (tgt := 60) dX13_moveCell_48 (by decide) (fun hc => ?_) (fun hc => ?_)
        · rw [if_pos hc] at hf
          refine R_bipush dX13_moveCell_60 k_bipush_m2 ?_
          obtain rfl := Option.some.inj hf
          exact R_iretI rfl dX13_moveCell_62
        · rw [if_neg hc] at hf
          refine R_aload_n 2 dX13_moveCell_51 rfl rfl ?_
          refine R_iload_n 1 dX13_moveCell_52 rfl rfl ?_
          refine R_iload_n 3 dX13_moveCell_53 rfl rfl ?_
          obtain ⟨u12, eu12, hf⟩ := Option.bind_eq_some_iff.mp hf
          obtain ⟨q13, eq13, hf⟩ := Option.bind_eq_some_iff.mp hf
          refine R_callV (mj := mi_X13_isConnected) (ci := 11) (q := (RX13, TX13, 24)) (As := [.int q9.1, .int x1]) (rest := []) (T_X13_isConnected eq13) eu12 rfl lV_X13_112 ⟨rfl, oky_X13_isConnected⟩ (by decide) (by decide) rfl C1_0 (Nat.le_of_ble_eq_true rfl) dX13_moveCell_54 ?_
          refine R_ifne (tgt := 63) dX13_moveCell_57 (by decide) (fun hc => ?_) (fun hc => ?_)
          · rw [if_pos hc] at hf
            refine R_bipush dX13_moveCell_60 k_bipush_m2 ?_
            obtain rfl := Option.some.inj hf
            exact R_iretI rfl dX13_moveCell_62
          · rw [if_neg hc] at hf
            refine R_aload_n 2 dX13_moveCell_63 rfl rfl ?_
            refine R_iload 0 dX13_moveCell_64 rfl ?_
            obtain ⟨u14, eu14, hf⟩ := Option.bind_eq_some_iff.mp hf
            obtain ⟨q15, eq15, hf⟩ := Option.bind_eq_some_iff.mp hf
            refine R_callV (mj := mi_X13_blockSize) (ci := 11) (q := (RX13, TX13, 24)) (As := [.int q11.1]) (rest := []) (T_X13_blockSize eq15) eu14 rfl lV_X13_76 ⟨rfl, oky_X13_blockSize⟩ (by decide) (by decide) rfl C1_0 (Nat.le_of_ble_eq_true rfl) dX13_moveCell_66 ?_
            refine R_bipush dX13_moveCell_69 k_bipush_6 ?_
            refine R_icne (tgt := 77) dX13_moveCell_71 (by decide) (fun hc => ?_) (fun hc => ?_)
            · rw [if_pos hc] at hf
              refine R_bipush dX13_moveCell_74 k_bipush_m3 ?_
              obtain rfl := Option.some.inj hf
              exact R_iretI rfl dX13_moveCell_76
            · rw [if_neg hc] at hf
              refine R_aload_n 2 dX13_moveCell_77 rfl rfl ?_
              obtain ⟨u16, eu16, hf⟩ := Option.bind_eq_some_iff.mp hf
              obtain ⟨h17, eh17, hf⟩ := Option.bind_eq_some_iff.mp hf
              refine R_callV (mj := mi_X13_act) (ci := 11) (q := (RX13, TX13, 24)) (As := []) (rest := []) (T_X13_act eh17) eu16 rfl lV_X13_102 ⟨rfl, oky_X13_act⟩ (by decide) (by decide) rfl C1_0 (Nat.le_of_ble_eq_true rfl) dX13_moveCell_78 ?_
              refine R_aload_n 2 dX13_moveCell_81 rfl rfl ?_
              refine R_iload_n 1 dX13_moveCell_82 rfl rfl ?_
              obtain ⟨u18, eu18, hf⟩ := Option.bind_eq_some_iff.mp hf
              obtain ⟨h19, eh19, hf⟩ := Option.bind_eq_some_iff.mp hf
              refine R_callV (mj := mi_X13_emptyBlock) (ci := 11) (q := (RX13, TX13, 24)) (As := [.int q9.1]) (rest := []) (T_X13_emptyBlock eh19) eu18 rfl lV_X13_115 ⟨rfl, oky_X13_emptyBlock⟩ (by decide) (by decide) rfl C1_0 (Nat.le_of_ble_eq_true rfl) dX13_moveCell_83 ?_
              refine R_aload_n 2 dX13_moveCell_86 rfl rfl ?_
              refine R_iload 0 dX13_moveCell_87 rfl ?_
              obtain ⟨u20, eu20, hf⟩ := Option.bind_eq_some_iff.mp hf
              obtain ⟨h21, eh21, hf⟩ := Option.bind_eq_some_iff.mp hf
              refine R_callV (mj := mi_X13_emptyBlock) (ci := 11) (q := (RX13, TX13, 24)) (As := [.int q11.1]) (rest := []) (T_X13_emptyBlock eh21) eu20 rfl lV_X13_115 ⟨rfl, oky_X13_emptyBlock⟩ (by decide) (by decide) rfl C1_0 (Nat.le_of_ble_eq_true rfl) dX13_moveCell_89 ?_
              refine R_aload_n 2 dX13_moveCell_92 rfl rfl ?_
              obtain ⟨t22, et22, hf⟩ := Option.bind_eq_some_iff.mp hf
              refine R_getr lg_X13_7 et22 dX13_moveCell_93 ?_
              refine R_bipush dX13_moveCell_96 k_bipush_8 ?_
              refine R_iload_n 3 dX13_moveCell_98 rfl rfl ?_
              refine R_iadd dX13_moveCell_99 ?_
              refine R_iload 0 dX13_moveCell_100 rfl ?_
              obtain ⟨h23, eh23, hf⟩ := Option.bind_eq_some_iff.mp hf
              refine R_iastore eh23 dX13_moveCell_102 ?_
              refine R_aload_n 2 dX13_moveCell_103 rfl rfl ?_
              obtain ⟨u24, eu24, hf⟩ := Option.bind_eq_some_iff.mp hf
              obtain ⟨q25, eq25, hf⟩ := Option.bind_eq_some_iff.mp hf
              refine R_callV (mj := mi_X13_renumber) (ci := 11) (q := (RX13, TX13, 24)) (As := []) (rest := []) (T_X13_renumber eq25) eu24 rfl lV_X13_118 ⟨rfl, oky_X13_renumber⟩ (by decide) (by decide) rfl C1_0 (Nat.le_of_ble_eq_true rfl) dX13_moveCell_104 ?_
              refine R_istore (L' := [(5, .int q25.1), (4, .int q11.1), (3, .int q9.1), (0, va_rf x0), (1, .int x1), (2, .int x2)]) dX13_moveCell_107 (by decide) rfl ?_
              refine R_aload_n 3 dX13_moveCell_109 rfl rfl ?_
              obtain ⟨u26, eu26, hf⟩ := Option.bind_eq_some_iff.mp hf
              obtain ⟨h27, eh27, hf⟩ := Option.bind_eq_some_iff.mp hf
              refine R_callV (mj := mi_X13_reset) (ci := 11) (q := (RX13, TX13, 24)) (As := []) (rest := []) (T_X13_reset eh27) eu26 rfl lV_X13_51 ⟨rfl, oky_X13_reset⟩ (by decide) (by decide) rfl C1_0 (Nat.le_of_ble_eq_true rfl) dX13_moveCell_110 ?_
              refine R_iload 0 dX13_moveCell_113 rfl ?_
              obtain rfl := Option.some.inj hf
              exact R_iretI rfl dX13_moveCell_115
abbrev mi_X13_splitCell : MI := (RX13, yX13_splitCell, cX13_splitCell, 3, (some FieldType.int), 6)
noncomputable def f_X13_splitCell (x0 : Option Nat) (x1 : Int32) (h : PH) : Option (Int32 × PH) := (pf 11 0 x0 (.int 0) h).bind (fun h1 => (rcv 11 x0 h1).bind (fun u2 => (f_X13_isCell x0 x1 h1).bind (fun q3 => if q3.1 = 0 then (some ((-1), q3.2)) else ((rcv 11 x0 q3.2).bind (fun u4 => (f_X13_mostIn x0 x1 q3.2).bind (fun q5 => if q5.1 = 1 then (some ((-2), q5.2)) else ((rcv 11 x0 q5.2).bind (fun u6 => (f_X13_blockOf x0 x1 q5.2).bind (fun q7 => (rcv 11 x0 q7.2).bind (fun u8 => (f_X13_isConnected x0 q7.1 x1 q7.2).bind (fun q9 => if q9.1 = 0 then (some ((-2), q9.2)) else ((rcv 11 x0 q9.2).bind (fun u10 => (f_X13_act x0 q9.2).bind (fun h11 => (rcv 11 x0 h11).bind (fun u12 => (f_X13_blockOf x0 x1 h11).bind (fun q13 => (rcv 11 x0 q13.2).bind (fun u14 => (f_X13_emptyBlock x0 q13.1 q13.2).bind (fun h15 => (gfr 11 1 x0 h15).bind (fun t16 => (asi 0 t16 (8 + x1) 25 h15).bind (fun h17 => (rcv 11 x0 h17).bind (fun u18 => (f_X13_renumber x0 h17).bind (fun q19 => (rcv 11 x0 q19.2).bind (fun u20 => (f_X13_reset x0 q19.2).bind (fun h21 => some (q19.1, h21)))))))))))))))))))))))))
theorem T_X13_splitCell {K : KT} {x0 : Option Nat} {x1 : Int32} {h : PH} {q : (Int32 × PH)} (hf : f_X13_splitCell x0 x1 h = some q) : T K mi_X13_splitCell [va_rf x0, .int x1] h (.inl (some (.int q.1))) q.2 := by
  unfold f_X13_splitCell at hf
  refine T_of (by decide +kernel) rfl (C1_r (C1_i C1_0)) (Nat.le_of_ble_eq_true rfl) ?_
  show R K mi_X13_splitCell h [va_rf x0, .int x1] _ _ 0 [(0, va_rf x0), (1, .int x1)] [] h
  refine R_aload_n 0 dX13_splitCell_0 rfl rfl ?_
  refine R_iconst dX13_splitCell_1 k_iconst_0 ?_
  obtain ⟨h1, eh1, hf⟩ := Option.bind_eq_some_iff.mp hf
  refine R_putI (fp_X13_43 rfl) eh1 dX13_splitCell_2 ?_
  refine R_aload_n 0 dX13_splitCell_5 rfl rfl ?_
  refine R_iload_n 1 dX13_splitCell_6 rfl rfl ?_
  obtain ⟨u2, eu2, hf⟩ := Option.bind_eq_some_iff.mp hf
  obtain ⟨q3, eq3, hf⟩ := Option.bind_eq_some_iff.mp hf
  refine R_callV (mj := mi_X13_isCell) (ci := 11) (q := (RX13, TX13, 24)) (As := [.int x1]) (rest := []) (T_X13_isCell eq3) eu2 rfl lV_X13_108 ⟨rfl, oky_X13_isCell⟩ (by decide) (by decide) rfl C1_0 (Nat.le_of_ble_eq_true rfl) dX13_splitCell_7 ?_
  refine R_ifne (tgt := 15) dX13_splitCell_10 (by decide) (fun hc => ?_) (fun hc => ?_)
  · rw [if_pos hc] at hf
    refine R_iconst dX13_splitCell_13 k_iconst_m1 ?_
    obtain rfl := Option.some.inj hf
    exact R_iretI rfl dX13_splitCell_14
  · rw [if_neg hc] at hf
    refine R_aload_n 0 dX13_splitCell_15 rfl rfl ?_
    refine R_iload_n 1 dX13_splitCell_16 rfl rfl ?_
    obtain ⟨u4, eu4, hf⟩ := Option.bind_eq_some_iff.mp hf
    obtain ⟨q5, eq5, hf⟩ := Option.bind_eq_some_iff.mp hf
    refine R_callV (mj := mi_X13_mostIn) (ci := 11) (q := (RX13, TX13, 24)) (As := [.int x1]) (rest := []) (T_X13_mostIn eq5) eu4 rfl lV_X13_121 ⟨rfl, oky_X13_mostIn⟩ (by decide) (by decide) rfl C1_0 (Nat.le_of_ble_eq_true rfl) dX13_splitCell_17 ?_
    refine R_iconst dX13_splitCell_20 k_iconst_1 ?_
    refine R_iceq (tgt := 37) dX13_splitCell_21 (by decide) (fun hc => ?_) (fun hc => ?_)
    · rw [if_pos hc] at hf
      refine R_bipush dX13_splitCell_37 k_bipush_m2 ?_
      obtain rfl := Option.some.inj hf
      exact R_iretI rfl dX13_splitCell_39
    · rw [if_neg hc] at hf
      refine R_aload_n 0 dX13_splitCell_24 rfl rfl ?_
      refine R_aload_n 0 dX13_splitCell_25 rfl rfl ?_
      refine R_iload_n 1 dX13_splitCell_26 rfl rfl ?_
      obtain ⟨u6, eu6, hf⟩ := Option.bind_eq_some_iff.mp hf
      obtain ⟨q7, eq7, hf⟩ := Option.bind_eq_some_iff.mp hf
      refine R_callV (mj := mi_X13_blockOf) (ci := 11) (q := (RX13, TX13, 24)) (As := [.int x1]) (rest := [va_rf x0]) (T_X13_blockOf eq7) eu6 rfl lV_X13_72 ⟨rfl, oky_X13_blockOf⟩ (by decide) (by decide) rfl (C1_r C1_0) (Nat.le_of_ble_eq_true rfl) dX13_splitCell_27 ?_
      refine R_iload_n 1 dX13_splitCell_30 rfl rfl ?_
      obtain ⟨u8, eu8, hf⟩ := Option.bind_eq_some_iff.mp hf
      obtain ⟨q9, eq9, hf⟩ := Option.bind_eq_some_iff.mp hf
      refine R_callV (mj := mi_X13_isConnected) (ci := 11) (q := (RX13, TX13, 24)) (As := [.int q7.1, .int x1]) (rest := []) (T_X13_isConnected eq9) eu8 rfl lV_X13_112 ⟨rfl, oky_X13_isConnected⟩ (by decide) (by decide) rfl C1_0 (Nat.le_of_ble_eq_true rfl) dX13_splitCell_31 ?_
      refine R_ifne (tgt := 40) dX13_splitCell_34 (by decide) (fun hc => ?_) (fun hc => ?_)
      · rw [if_pos hc] at hf
        refine R_bipush dX13_splitCell_37 k_bipush_m2 ?_
        obtain rfl := Option.some.inj hf
        exact R_iretI rfl dX13_splitCell_39
      · rw [if_neg hc] at hf
        refine R_aload_n 0 dX13_splitCell_40 rfl rfl ?_
        obtain ⟨u10, eu10, hf⟩ := Option.bind_eq_some_iff.mp hf
        obtain ⟨h11, eh11, hf⟩ := Option.bind_eq_some_iff.mp hf
        refine R_callV (mj := mi_X13_act) (ci := 11) (q := (RX13, TX13, 24)) (As := []) (rest := []) (T_X13_act eh11) eu10 rfl lV_X13_102 ⟨rfl, oky_X13_act⟩ (by decide) (by decide) rfl C1_0 (Nat.le_of_ble_eq_true rfl) dX13_splitCell_41 ?_
        refine R_aload_n 0 dX13_splitCell_44 rfl rfl ?_
        refine R_aload_n 0 dX13_splitCell_45 rfl rfl ?_
        refine R_iload_n 1 dX13_splitCell_46 rfl rfl ?_
        obtain ⟨u12, eu12, hf⟩ := Option.bind_eq_some_iff.mp hf
        obtain ⟨q13, eq13, hf⟩ := Option.bind_eq_some_iff.mp hf
        refine R_callV (mj := mi_X13_blockOf) (ci := 11) (q := (RX13, TX13, 24)) (As := [.int x1]) (rest := [va_rf x0]) (T_X13_blockOf eq13) eu12 rfl lV_X13_72 ⟨rfl, oky_X13_blockOf⟩ (by decide) (by decide) rfl (C1_r C1_0) (Nat.le_of_ble_eq_true rfl) dX13_splitCell_47 ?_
        obtain ⟨u14, eu14, hf⟩ := Option.bind_eq_some_iff.mp hf
        obtain ⟨h15, eh15, hf⟩ := Option.bind_eq_some_iff.mp hf
        refine R_callV (mj := mi_X13_emptyBlock) (ci := 11) (q := (RX13, TX13, 24)) (As := [.int q13.1]) (rest := []) (T_X13_emptyBlock eh15) eu14 rfl lV_X13_115 ⟨rfl, oky_X13_emptyBlock⟩ (by decide) (by decide) rfl C1_0 (Nat.le_of_ble_eq_true rfl) dX13_splitCell_50 ?_
        refine R_aload_n 0 dX13_splitCell_53 rfl rfl ?_
        obtain ⟨t16, et16, hf⟩ := Option.bind_eq_some_iff.mp hf
        refine R_getr lg_X13_7 et16 dX13_splitCell_54 ?_
        refine R_bipush dX13_splitCell_57 k_bipush_8 ?_
        refine R_iload_n 1 dX13_splitCell_59 rfl rfl ?_
        refine R_iadd dX13_splitCell_60 ?_
        refine R_bipush dX13_splitCell_61 k_bipush_25 ?_
        obtain ⟨h17, eh17, hf⟩ := Option.bind_eq_some_iff.mp hf
        refine R_iastore eh17 dX13_splitCell_63 ?_
        refine R_aload_n 0 dX13_splitCell_64 rfl rfl ?_
        obtain ⟨u18, eu18, hf⟩ := Option.bind_eq_some_iff.mp hf
        obtain ⟨q19, eq19, hf⟩ := Option.bind_eq_some_iff.mp hf
        refine R_callV (mj := mi_X13_renumber) (ci := 11) (q := (RX13, TX13, 24)) (As := []) (rest := []) (T_X13_renumber eq19) eu18 rfl lV_X13_118 ⟨rfl, oky_X13_renumber⟩ (by decide) (by decide) rfl C1_0 (Nat.le_of_ble_eq_true rfl) dX13_splitCell_65 ?_
        refine R_istore_n (L' := [(2, .int q19.1), (0, va_rf x0), (1, .int x1)]) dX13_splitCell_68 rfl (by decide) rfl ?_
        refine R_aload_n 1 dX13_splitCell_69 rfl rfl ?_
        obtain ⟨u20, eu20, hf⟩ := Option.bind_eq_some_iff.mp hf
        obtain ⟨h21, eh21, hf⟩ := Option.bind_eq_some_iff.mp hf
        refine R_callV (mj := mi_X13_reset) (ci := 11) (q := (RX13, TX13, 24)) (As := []) (rest := []) (T_X13_reset eh21) eu20 rfl lV_X13_51 ⟨rfl, oky_X13_reset⟩ (by decide) (by decide) rfl C1_0 (Nat.le_of_ble_eq_true rfl) dX13_splitCell_70 ?_
        refine R_iload_n 0 dX13_splitCell_73 rfl rfl ?_
        obtain rfl := Option.some.inj hf
        exact R_iretI rfl dX13_splitCell_74
theorem lg_X13_37 : LG "EdgeSumsModel" 37 11 17 := ⟨_, _, _, ck_11, by decide, Or.inl q2668⟩
abbrev mi_X13_bring : MI := (RX13, yX13_bring, cX13_bring, 3, none, 1)
noncomputable def f_X13_bring (x0 : Option Nat) (x1 : Int32) (x2 : Int32) (h : PH) : Option PH := (gfr 11 17 x0 h).bind (fun t1 => (gfr 11 1 x0 h).bind (fun t2 => (ald 0 t2 (8 + x2) h).bind (fun t3 => (asi 0 t1 (8 + x1) t3 h).bind (fun h4 => (gfr 11 17 x0 h4).bind (fun t5 => (gfr 11 1 x0 h4).bind (fun t6 => (ald 0 t6 (33 + x2) h4).bind (fun t7 => (asi 0 t5 (33 + x1) t7 h4).bind (fun h8 => (gfr 11 17 x0 h8).bind (fun t9 => (gfr 11 1 x0 h8).bind (fun t10 => (ald 0 t10 (58 + x2) h8).bind (fun t11 => (asi 0 t9 (58 + x1) t11 h8).bind (fun h12 => some h12))))))))))))
theorem T_X13_bring {K : KT} {x0 : Option Nat} {x1 : Int32} {x2 : Int32} {h : PH} {q : PH} (hf : f_X13_bring x0 x1 x2 h = some q) : T K mi_X13_bring [va_rf x0, .int x1, .int x2] h (.inl none) q := by
  unfold f_X13_bring at hf
  refine T_of (by decide +kernel) rfl (C1_r (C1_i (C1_i C1_0))) (Nat.le_of_ble_eq_true rfl) ?_
  show R K mi_X13_bring h [va_rf x0, .int x1, .int x2] _ _ 0 [(0, va_rf x0), (1, .int x1), (2, .int x2)] [] h
  refine R_aload_n 0 dX13_bring_0 rfl rfl ?_
  obtain ⟨t1, et1, hf⟩ := Option.bind_eq_some_iff.mp hf
  refine R_getr lg_X13_37 et1 dX13_bring_1 ?_
  refine R_bipush dX13_bring_4 k_bipush_8 ?_
  refine R_iload_n 1 dX13_bring_6 rfl rfl ?_
  refine R_iadd dX13_bring_7 ?_
  refine R_aload_n 0 dX13_bring_8 rfl rfl ?_
  obtain ⟨t2, et2, hf⟩ := Option.bind_eq_some_iff.mp hf
  refine R_getr lg_X13_7 et2 dX13_bring_9 ?_
  refine R_bipush dX13_bring_12 k_bipush_8 ?_
  refine R_iload_n 2 dX13_bring_14 rfl rfl ?_
  refine R_iadd dX13_bring_15 ?_
  obtain ⟨t3, et3, hf⟩ := Option.bind_eq_some_iff.mp hf
  refine R_iaload et3 dX13_bring_16 ?_
  obtain ⟨h4, eh4, hf⟩ := Option.bind_eq_some_iff.mp hf
  refine R_iastore eh4 dX13_bring_17 ?_
  refine R_aload_n 0 dX13_bring_18 rfl rfl ?_
  obtain ⟨t5, et5, hf⟩ := Option.bind_eq_some_iff.mp hf
  refine R_getr lg_X13_37 et5 dX13_bring_19 ?_
  refine R_bipush dX13_bring_22 k_bipush_33 ?_
  refine R_iload_n 1 dX13_bring_24 rfl rfl ?_
  refine R_iadd dX13_bring_25 ?_
  refine R_aload_n 0 dX13_bring_26 rfl rfl ?_
  obtain ⟨t6, et6, hf⟩ := Option.bind_eq_some_iff.mp hf
  refine R_getr lg_X13_7 et6 dX13_bring_27 ?_
  refine R_bipush dX13_bring_30 k_bipush_33 ?_
  refine R_iload_n 2 dX13_bring_32 rfl rfl ?_
  refine R_iadd dX13_bring_33 ?_
  obtain ⟨t7, et7, hf⟩ := Option.bind_eq_some_iff.mp hf
  refine R_iaload et7 dX13_bring_34 ?_
  obtain ⟨h8, eh8, hf⟩ := Option.bind_eq_some_iff.mp hf
  refine R_iastore eh8 dX13_bring_35 ?_
  refine R_aload_n 0 dX13_bring_36 rfl rfl ?_
  obtain ⟨t9, et9, hf⟩ := Option.bind_eq_some_iff.mp hf
  refine R_getr lg_X13_37 et9 dX13_bring_37 ?_
  refine R_bipush dX13_bring_40 k_bipush_58 ?_
  refine R_iload_n 1 dX13_bring_42 rfl rfl ?_
  refine R_iadd dX13_bring_43 ?_
  refine R_aload_n 0 dX13_bring_44 rfl rfl ?_
  obtain ⟨t10, et10, hf⟩ := Option.bind_eq_some_iff.mp hf
  refine R_getr lg_X13_7 et10 dX13_bring_45 ?_
  refine R_bipush dX13_bring_48 k_bipush_58 ?_
  refine R_iload_n 2 dX13_bring_50 rfl rfl ?_
  refine R_iadd dX13_bring_51 ?_
  obtain ⟨t11, et11, hf⟩ := Option.bind_eq_some_iff.mp hf
  refine R_iaload et11 dX13_bring_52 ?_
  obtain ⟨h12, eh12, hf⟩ := Option.bind_eq_some_iff.mp hf
  refine R_iastore eh12 dX13_bring_53 ?_
  obtain rfl := Option.some.inj hf
  exact R_return rfl dX13_bring_54
abbrev mi_X13_lines : MI := (RX13, yX13_lines, cX13_lines, 1, (some FieldType.int), 1)
noncomputable def f_X13_lines (x0 : Option Nat) (h : PH) : Option (Int32 × PH) := (gfr 11 1 x0 h).bind (fun t1 => (ald 0 t1 0 h).bind (fun t2 => (gfr 11 1 x0 h).bind (fun t3 => (ald 0 t3 1 h).bind (fun t4 => some (t2 + t4, h)))))
theorem T_X13_lines {K : KT} {x0 : Option Nat} {h : PH} {q : (Int32 × PH)} (hf : f_X13_lines x0 h = some q) : T K mi_X13_lines [va_rf x0] h (.inl (some (.int q.1))) q.2 := by
  unfold f_X13_lines at hf
  refine T_of (by decide +kernel) rfl (C1_r C1_0) (Nat.le_of_ble_eq_true rfl) ?_
  show R K mi_X13_lines h [va_rf x0] _ _ 0 [(0, va_rf x0)] [] h
  refine R_aload_n 0 dX13_lines_0 rfl rfl ?_
  obtain ⟨t1, et1, hf⟩ := Option.bind_eq_some_iff.mp hf
  refine R_getr lg_X13_7 et1 dX13_lines_1 ?_
  refine R_iconst dX13_lines_4 k_iconst_0 ?_
  obtain ⟨t2, et2, hf⟩ := Option.bind_eq_some_iff.mp hf
  refine R_iaload et2 dX13_lines_5 ?_
  refine R_aload_n 0 dX13_lines_6 rfl rfl ?_
  obtain ⟨t3, et3, hf⟩ := Option.bind_eq_some_iff.mp hf
  refine R_getr lg_X13_7 et3 dX13_lines_7 ?_
  refine R_iconst dX13_lines_10 k_iconst_1 ?_
  obtain ⟨t4, et4, hf⟩ := Option.bind_eq_some_iff.mp hf
  refine R_iaload et4 dX13_lines_11 ?_
  refine R_iadd dX13_lines_12 ?_
  obtain rfl := Option.some.inj hf
  exact R_iretI rfl dX13_lines_13
abbrev mi_X13_takeOther : MI := (RX13, yX13_takeOther, cX13_takeOther, 4, none, 1)
noncomputable def f_X13_takeOther_L71  : Nat → Option Nat → Int32 → Int32 → Int32 → PH → Option PH
  | 0, _, _, _, _, _ => none
  | k + 1, x0, x1, x2, x3, h => if (x1 + x2) ≤ x3 then ((gfr 11 1 x0 h).bind (fun t1 => (asi 0 t1 0 x1 h).bind (fun h2 => (gfr 11 1 x0 h2).bind (fun t3 => (asi 0 t3 1 x2 h2).bind (fun h4 => some h4))))) else ((gfr 11 1 x0 h).bind (fun t5 => (gfr 11 17 x0 h).bind (fun t6 => (ald 0 t6 (83 + x3) h).bind (fun t7 => (asi 0 t5 (83 + x3) t7 h).bind (fun h8 => (f_X13_takeOther_L71 k) x0 x1 x2 (x3 + 1) h8)))))
theorem f_X13_takeOther_L71_ok {K : KT} {h0 : PH} {a0 : List Value} {q : PH}  : ∀ (k : Nat) (x0 : Option Nat) (x1 : Int32) (x2 : Int32) (x3 : Int32) (h : PH), f_X13_takeOther_L71  k x0 x1 x2 x3 h = some q → R K mi_X13_takeOther h0 a0 (.inl none) q 71 [(0, va_rf x0), (1, .int x1), (2, .int x2), (3, .int x3)] [] h := by
  intro k
  induction k with
  | zero => intro _ _ _ _ _ hf; cases hf
  | succ k ih =>
    intro x0 x1 x2 x3 h hf
    unfold f_X13_takeOther_L71 at hf
    refine R_iload_n 3 dX13_takeOther_71 rfl rfl ?_
    refine R_iload_n 1 dX13_takeOther_72 rfl rfl ?_
    refine R_iload_n 2 dX13_takeOther_73 rfl rfl ?_
    refine R_iadd dX13_takeOther_74 ?_
    refine R_icge (tgt := 102) dX13_takeOther_75 (by decide) (fun hc => ?_) (fun hc => ?_)
    · rw [if_pos hc] at hf
      refine R_aload_n 0 dX13_takeOther_102 rfl rfl ?_
      obtain ⟨t1, et1, hf⟩ := Option.bind_eq_some_iff.mp hf
      refine R_getr lg_X13_7 et1 dX13_takeOther_103 ?_
      refine R_iconst dX13_takeOther_106 k_iconst_0 ?_
      refine R_iload_n 1 dX13_takeOther_107 rfl rfl ?_
      obtain ⟨h2, eh2, hf⟩ := Option.bind_eq_some_iff.mp hf
      refine R_iastore eh2 dX13_takeOther_108 ?_
      refine R_aload_n 0 dX13_takeOther_109 rfl rfl ?_
      obtain ⟨t3, et3, hf⟩ := Option.bind_eq_some_iff.mp hf
      refine R_getr lg_X13_7 et3 dX13_takeOther_110 ?_
      refine R_iconst dX13_takeOther_113 k_iconst_1 ?_
      refine R_iload_n 2 dX13_takeOther_114 rfl rfl ?_
      obtain ⟨h4, eh4, hf⟩ := Option.bind_eq_some_iff.mp hf
      refine R_iastore eh4 dX13_takeOther_115 ?_
      obtain rfl := Option.some.inj hf
      exact R_return rfl dX13_takeOther_116
    · rw [if_neg hc] at hf
      refine R_aload_n 0 dX13_takeOther_78 rfl rfl ?_
      obtain ⟨t5, et5, hf⟩ := Option.bind_eq_some_iff.mp hf
      refine R_getr lg_X13_7 et5 dX13_takeOther_79 ?_
      refine R_bipush dX13_takeOther_82 k_bipush_83 ?_
      refine R_iload_n 3 dX13_takeOther_84 rfl rfl ?_
      refine R_iadd dX13_takeOther_85 ?_
      refine R_aload_n 0 dX13_takeOther_86 rfl rfl ?_
      obtain ⟨t6, et6, hf⟩ := Option.bind_eq_some_iff.mp hf
      refine R_getr lg_X13_37 et6 dX13_takeOther_87 ?_
      refine R_bipush dX13_takeOther_90 k_bipush_83 ?_
      refine R_iload_n 3 dX13_takeOther_92 rfl rfl ?_
      refine R_iadd dX13_takeOther_93 ?_
      obtain ⟨t7, et7, hf⟩ := Option.bind_eq_some_iff.mp hf
      refine R_iaload et7 dX13_takeOther_94 ?_
      obtain ⟨h8, eh8, hf⟩ := Option.bind_eq_some_iff.mp hf
      refine R_iastore eh8 dX13_takeOther_95 ?_
      refine R_iinc (L' := [(3, .int (x3 + 1)), (0, va_rf x0), (1, .int x1), (2, .int x2)]) 3 dX13_takeOther_96 rfl (k_inc_1 _) (by decide) rfl ?_
      refine R_goto (tgt := 71) dX13_takeOther_99 (by decide) ?_
      refine R.sub [1, 2, 3, 0] (L' := [(0, va_rf x0), (1, .int x1), (2, .int x2), (3, .int (x3 + 1))]) rfl ?_
      exact ih x0 x1 x2 (x3 + 1) h8 hf
noncomputable def f_X13_takeOther_L2  : Nat → Option Nat → Int32 → Int32 → Int32 → PH → Option PH
  | 0, _, _, _, _, _ => none
  | k + 1, x0, x1, x2, x3, h => if (x1 * x2) ≤ x3 then (f_X13_takeOther_L71  FU x0 x1 x2 0 h) else ((gfr 11 1 x0 h).bind (fun t1 => (gfr 11 17 x0 h).bind (fun t2 => (ald 0 t2 (8 + x3) h).bind (fun t3 => (asi 0 t1 (8 + x3) t3 h).bind (fun h4 => (gfr 11 1 x0 h4).bind (fun t5 => (gfr 11 17 x0 h4).bind (fun t6 => (ald 0 t6 (33 + x3) h4).bind (fun t7 => (asi 0 t5 (33 + x3) t7 h4).bind (fun h8 => (gfr 11 1 x0 h8).bind (fun t9 => (gfr 11 17 x0 h8).bind (fun t10 => (ald 0 t10 (58 + x3) h8).bind (fun t11 => (asi 0 t9 (58 + x3) t11 h8).bind (fun h12 => (f_X13_takeOther_L2 k) x0 x1 x2 (x3 + 1) h12)))))))))))))
theorem f_X13_takeOther_L2_ok {K : KT} {h0 : PH} {a0 : List Value} {q : PH}  : ∀ (k : Nat) (x0 : Option Nat) (x1 : Int32) (x2 : Int32) (x3 : Int32) (h : PH), f_X13_takeOther_L2  k x0 x1 x2 x3 h = some q → R K mi_X13_takeOther h0 a0 (.inl none) q 2 [(0, va_rf x0), (1, .int x1), (2, .int x2), (3, .int x3)] [] h := by
  intro k
  induction k with
  | zero => intro _ _ _ _ _ hf; cases hf
  | succ k ih =>
    intro x0 x1 x2 x3 h hf
    unfold f_X13_takeOther_L2 at hf
    refine R_iload_n 3 dX13_takeOther_2 rfl rfl ?_
    refine R_iload_n 1 dX13_takeOther_3 rfl rfl ?_
    refine R_iload_n 2 dX13_takeOther_4 rfl rfl ?_
    refine R_imul dX13_takeOther_5 ?_
    refine R_icge (tgt := 69) dX13_takeOther_6 (by decide) (fun hc => ?_) (fun hc => ?_)
    · rw [if_pos hc] at hf
      refine R_iconst dX13_takeOther_69 k_iconst_0 ?_
      refine R_istore_n (L' := [(3, .int 0), (0, va_rf x0), (1, .int x1), (2, .int x2)]) dX13_takeOther_70 rfl (by decide) rfl ?_
      refine R.sub [1, 2, 3, 0] (L' := [(0, va_rf x0), (1, .int x1), (2, .int x2), (3, .int 0)]) rfl ?_
      exact f_X13_takeOther_L71_ok  FU x0 x1 x2 0 h hf
    · rw [if_neg hc] at hf
      refine R_aload_n 0 dX13_takeOther_9 rfl rfl ?_
      obtain ⟨t1, et1, hf⟩ := Option.bind_eq_some_iff.mp hf
      refine R_getr lg_X13_7 et1 dX13_takeOther_10 ?_
      refine R_bipush dX13_takeOther_13 k_bipush_8 ?_
      refine R_iload_n 3 dX13_takeOther_15 rfl rfl ?_
      refine R_iadd dX13_takeOther_16 ?_
      refine R_aload_n 0 dX13_takeOther_17 rfl rfl ?_
      obtain ⟨t2, et2, hf⟩ := Option.bind_eq_some_iff.mp hf
      refine R_getr lg_X13_37 et2 dX13_takeOther_18 ?_
      refine R_bipush dX13_takeOther_21 k_bipush_8 ?_
      refine R_iload_n 3 dX13_takeOther_23 rfl rfl ?_
      refine R_iadd dX13_takeOther_24 ?_
      obtain ⟨t3, et3, hf⟩ := Option.bind_eq_some_iff.mp hf
      refine R_iaload et3 dX13_takeOther_25 ?_
      obtain ⟨h4, eh4, hf⟩ := Option.bind_eq_some_iff.mp hf
      refine R_iastore eh4 dX13_takeOther_26 ?_
      refine R_aload_n 0 dX13_takeOther_27 rfl rfl ?_
      obtain ⟨t5, et5, hf⟩ := Option.bind_eq_some_iff.mp hf
      refine R_getr lg_X13_7 et5 dX13_takeOther_28 ?_
      refine R_bipush dX13_takeOther_31 k_bipush_33 ?_
      refine R_iload_n 3 dX13_takeOther_33 rfl rfl ?_
      refine R_iadd dX13_takeOther_34 ?_
      refine R_aload_n 0 dX13_takeOther_35 rfl rfl ?_
      obtain ⟨t6, et6, hf⟩ := Option.bind_eq_some_iff.mp hf
      refine R_getr lg_X13_37 et6 dX13_takeOther_36 ?_
      refine R_bipush dX13_takeOther_39 k_bipush_33 ?_
      refine R_iload_n 3 dX13_takeOther_41 rfl rfl ?_
      refine R_iadd dX13_takeOther_42 ?_
      obtain ⟨t7, et7, hf⟩ := Option.bind_eq_some_iff.mp hf
      refine R_iaload et7 dX13_takeOther_43 ?_
      obtain ⟨h8, eh8, hf⟩ := Option.bind_eq_some_iff.mp hf
      refine R_iastore eh8 dX13_takeOther_44 ?_
      refine R_aload_n 0 dX13_takeOther_45 rfl rfl ?_
      obtain ⟨t9, et9, hf⟩ := Option.bind_eq_some_iff.mp hf
      refine R_getr lg_X13_7 et9 dX13_takeOther_46 ?_
      refine R_bipush dX13_takeOther_49 k_bipush_58 ?_
      refine R_iload_n 3 dX13_takeOther_51 rfl rfl ?_
      refine R_iadd dX13_takeOther_52 ?_
      refine R_aload_n 0 dX13_takeOther_53 rfl rfl ?_
      obtain ⟨t10, et10, hf⟩ := Option.bind_eq_some_iff.mp hf
      refine R_getr lg_X13_37 et10 dX13_takeOther_54 ?_
      refine R_bipush dX13_takeOther_57 k_bipush_58 ?_
      refine R_iload_n 3 dX13_takeOther_59 rfl rfl ?_
      refine R_iadd dX13_takeOther_60 ?_
      obtain ⟨t11, et11, hf⟩ := Option.bind_eq_some_iff.mp hf
      refine R_iaload et11 dX13_takeOther_61 ?_
      obtain ⟨h12, eh12, hf⟩ := Option.bind_eq_some_iff.mp hf
      refine R_iastore eh12 dX13_takeOther_62 ?_
      refine R_iinc (L' := [(3, .int (x3 + 1)), (0, va_rf x0), (1, .int x1), (2, .int x2)]) 3 dX13_takeOther_63 rfl (k_inc_1 _) (by decide) rfl ?_
      refine R_goto (tgt := 2) dX13_takeOther_66 (by decide) ?_
      refine R.sub [1, 2, 3, 0] (L' := [(0, va_rf x0), (1, .int x1), (2, .int x2), (3, .int (x3 + 1))]) rfl ?_
      exact ih x0 x1 x2 (x3 + 1) h12 hf
noncomputable def f_X13_takeOther (x0 : Option Nat) (x1 : Int32) (x2 : Int32) (h : PH) : Option PH := f_X13_takeOther_L2  FU x0 x1 x2 0 h
theorem T_X13_takeOther {K : KT} {x0 : Option Nat} {x1 : Int32} {x2 : Int32} {h : PH} {q : PH} (hf : f_X13_takeOther x0 x1 x2 h = some q) : T K mi_X13_takeOther [va_rf x0, .int x1, .int x2] h (.inl none) q := by
  unfold f_X13_takeOther at hf
  refine T_of (by decide +kernel) rfl (C1_r (C1_i (C1_i C1_0))) (Nat.le_of_ble_eq_true rfl) ?_
  show R K mi_X13_takeOther h [va_rf x0, .int x1, .int x2] _ _ 0 [(0, va_rf x0), (1, .int x1), (2, .int x2)] [] h
  refine R_iconst dX13_takeOther_0 k_iconst_0 ?_
  refine R_istore_n (L' := [(3, .int 0), (0, va_rf x0), (1, .int x1), (2, .int x2)]) dX13_takeOther_1 rfl (by decide) rfl ?_
  refine R.sub [1, 2, 3, 0] (L' := [(0, va_rf x0), (1, .int x1), (2, .int x2), (3, .int 0)]) rfl ?_
  exact f_X13_takeOther_L2_ok  FU x0 x1 x2 0 h hf
theorem lV_X13_69 : GoodIn lw_all (wsV "EdgeSumsModel" 69 "EdgeSumsModel" yX13_lines (ws_ yX13_lines cX13_lines 1 (some FieldType.int))) := lw_V q2782 q2784 qs66 q158 q2785
theorem oky_X13_lines : okY yX13_lines 0 := ⟨by decide +kernel, by decide +kernel, by decide +kernel⟩
theorem lV_X13_127 : GoodIn lw_all (wsV "EdgeSumsModel" 127 "EdgeSumsModel" yX13_takeOther (ws_ yX13_takeOther cX13_takeOther 4 none)) := lw_V q2786 q2788 qs67 q158 q2789
theorem oky_X13_takeOther : okY yX13_takeOther 2 := ⟨by decide +kernel, by decide +kernel, by decide +kernel⟩
theorem lV_X13_124 : GoodIn lw_all (wsV "EdgeSumsModel" 124 "EdgeSumsModel" yX13_bring (ws_ yX13_bring cX13_bring 3 none)) := lw_V q2778 q2780 qs65 q158 q2781
theorem oky_X13_bring : okY yX13_bring 2 := ⟨by decide +kernel, by decide +kernel, by decide +kernel⟩
abbrev mi_X13_mirror : MI := (RX13, yX13_mirror, cX13_mirror, 3, (some FieldType.int), 6)
noncomputable def f_X13_mirror_B102 (r52 : Option Nat → Int32 → Int32 → PH → Option (Int32 × PH)) (x0 : Option Nat) (x1 : Int32) (x2 : Int32) (s0 : Option Nat) (s1 : Int32) (s2 : Option Nat) (s3 : Int32) (s4 : Int32) (h : PH) : Option (Int32 × PH) := (ald 0 s2 (s3 + s4) h).bind (fun t1 => (asi 0 s0 s1 t1 h).bind (fun h2 => r52 x0 x1 (x2 + 1) h2))
theorem f_X13_mirror_B102_ok {K : KT} {h0 : PH} {a0 : List Value} {q : (Int32 × PH)} {r52 : Option Nat → Int32 → Int32 → PH → Option (Int32 × PH)} (hr52 : ∀ (y0 : Option Nat) (y1 : Int32) (y2 : Int32) (h : PH), r52 y0 y1 y2 h = some q → R K mi_X13_mirror h0 a0 (.inl (some (.int q.1))) q.2 52 [(0, va_rf y0), (1, .int y1), (2, .int y2)] [] h) (x0 : Option Nat) (x1 : Int32) (x2 : Int32) (s0 : Option Nat) (s1 : Int32) (s2 : Option Nat) (s3 : Int32) (s4 : Int32) (h : PH) (hf : f_X13_mirror_B102 r52 x0 x1 x2 s0 s1 s2 s3 s4 h = some q) : R K mi_X13_mirror h0 a0 (.inl (some (.int q.1))) q.2 102 [(0, va_rf x0), (1, .int x1), (2, .int x2)] [.int s4, .int s3, va_rf s2, .int s1, va_rf s0] h := by
  unfold f_X13_mirror_B102 at hf
  refine R_iadd dX13_mirror_102 ?_
  obtain ⟨t1, et1, hf⟩ := Option.bind_eq_some_iff.mp hf
  refine R_iaload et1 dX13_mirror_103 ?_
  obtain ⟨h2, eh2, hf⟩ := Option.bind_eq_some_iff.mp hf
  refine R_iastore eh2 dX13_mirror_104 ?_
  refine R_iinc (L' := [(2, .int (x2 + 1)), (0, va_rf x0), (1, .int x1)]) 2 dX13_mirror_105 rfl (k_inc_1 _) (by decide) rfl ?_
  refine R_goto (tgt := 52) dX13_mirror_108 (by decide) ?_
  refine R.sub [1, 2, 0] (L' := [(0, va_rf x0), (1, .int x1), (2, .int (x2 + 1))]) rfl ?_
  exact hr52 x0 x1 (x2 + 1) h2 hf
noncomputable def f_X13_mirror_L52  : Nat → Option Nat → Int32 → Int32 → PH → Option (Int32 × PH)
  | 0, _, _, _, _ => none
  | k + 1, x0, x1, x2, h => (rcv 11 x0 h).bind (fun u1 => (f_X13_lines x0 h).bind (fun q2 => if q2.1 ≤ x2 then ((gfr 11 1 x0 q2.2).bind (fun t3 => (ald 0 t3 0 q2.2).bind (fun t4 => (rcv 11 x0 q2.2).bind (fun u5 => (f_X13_takeOther x0 t4 x1 q2.2).bind (fun h6 => (rcv 11 x0 h6).bind (fun u7 => (f_X13_renumber x0 h6).bind (fun q8 => (rcv 11 x0 q8.2).bind (fun u9 => (f_X13_reset x0 q8.2).bind (fun h10 => some (q8.1, h10)))))))))) else ((gfr 11 17 x0 q2.2).bind (fun t11 => (gfr 11 1 x0 q2.2).bind (fun t12 => (gfr 11 1 x0 q2.2).bind (fun t13 => (ald 0 t13 0 q2.2).bind (fun t14 => if t14 ≤ x2 then ((gfr 11 1 x0 q2.2).bind (fun t15 => (ald 0 t15 0 q2.2).bind (fun t16 => f_X13_mirror_B102 (f_X13_mirror_L52 k) x0 x1 x2 t11 (83 + x2) t12 83 ((((2 * t16) + x1) - 1) - x2) q2.2))) else (f_X13_mirror_B102 (f_X13_mirror_L52 k) x0 x1 x2 t11 (83 + x2) t12 83 x2 q2.2))))))))
theorem f_X13_mirror_L52_ok {K : KT} {h0 : PH} {a0 : List Value} {q : (Int32 × PH)}  : ∀ (k : Nat) (x0 : Option Nat) (x1 : Int32) (x2 : Int32) (h : PH), f_X13_mirror_L52  k x0 x1 x2 h = some q → R K mi_X13_mirror h0 a0 (.inl (some (.int q.1))) q.2 52 [(0, va_rf x0), (1, .int x1), (2, .int x2)] [] h := by
  intro k
  induction k with
  | zero => intro _ _ _ _ hf; cases hf
  | succ k ih =>
    intro x0 x1 x2 h hf
    unfold f_X13_mirror_L52 at hf
    refine R_iload_n 2 dX13_mirror_52 rfl rfl ?_
    refine R_aload_n 0 dX13_mirror_53 rfl rfl ?_
    obtain ⟨u1, eu1, hf⟩ := Option.bind_eq_some_iff.mp hf
    obtain ⟨q2, eq2, hf⟩ := Option.bind_eq_some_iff.mp hf
    refine R_callV (mj := mi_X13_lines) (ci := 11) (q := (RX13, TX13, 24)) (As := []) (rest := [.int x2]) (T_X13_lines eq2) eu1 rfl lV_X13_69 ⟨rfl, oky_X13_lines⟩ (by decide) (by decide) rfl (C1_i C1_0) (Nat.le_of_ble_eq_true rfl) dX13_mirror_54 ?_
    refine R_icge (tgt := 111) dX13_mirror_57 (by decide) (fun hc => ?_) (fun hc => ?_)
    · rw [if_pos hc] at hf
      refine R_aload_n 0 dX13_mirror_111 rfl rfl ?_
      refine R_aload_n 0 dX13_mirror_112 rfl rfl ?_
      obtain ⟨t3, et3, hf⟩ := Option.bind_eq_some_iff.mp hf
      refine R_getr lg_X13_7 et3 dX13_mirror_113 ?_
      refine R_iconst dX13_mirror_116 k_iconst_0 ?_
      obtain ⟨t4, et4, hf⟩ := Option.bind_eq_some_iff.mp hf
      refine R_iaload et4 dX13_mirror_117 ?_
      refine R_iload_n 1 dX13_mirror_118 rfl rfl ?_
      obtain ⟨u5, eu5, hf⟩ := Option.bind_eq_some_iff.mp hf
      obtain ⟨h6, eh6, hf⟩ := Option.bind_eq_some_iff.mp hf
      refine R_callV (mj := mi_X13_takeOther) (ci := 11) (q := (RX13, TX13, 24)) (As := [.int t4, .int x1]) (rest := []) (T_X13_takeOther eh6) eu5 rfl lV_X13_127 ⟨rfl, oky_X13_takeOther⟩ (by decide) (by decide) rfl C1_0 (Nat.le_of_ble_eq_true rfl) dX13_mirror_119 ?_
      refine R_aload_n 0 dX13_mirror_122 rfl rfl ?_
      obtain ⟨u7, eu7, hf⟩ := Option.bind_eq_some_iff.mp hf
      obtain ⟨q8, eq8, hf⟩ := Option.bind_eq_some_iff.mp hf
      refine R_callV (mj := mi_X13_renumber) (ci := 11) (q := (RX13, TX13, 24)) (As := []) (rest := []) (T_X13_renumber eq8) eu7 rfl lV_X13_118 ⟨rfl, oky_X13_renumber⟩ (by decide) (by decide) rfl C1_0 (Nat.le_of_ble_eq_true rfl) dX13_mirror_123 ?_
      refine R_istore_n (L' := [(2, .int q8.1), (0, va_rf x0), (1, .int x1)]) dX13_mirror_126 rfl (by decide) rfl ?_
      refine R_aload_n 1 dX13_mirror_127 rfl rfl ?_
      obtain ⟨u9, eu9, hf⟩ := Option.bind_eq_some_iff.mp hf
      obtain ⟨h10, eh10, hf⟩ := Option.bind_eq_some_iff.mp hf
      refine R_callV (mj := mi_X13_reset) (ci := 11) (q := (RX13, TX13, 24)) (As := []) (rest := []) (T_X13_reset eh10) eu9 rfl lV_X13_51 ⟨rfl, oky_X13_reset⟩ (by decide) (by decide) rfl C1_0 (Nat.le_of_ble_eq_true rfl) dX13_mirror_128 ?_
      refine R_iload_n 0 dX13_mirror_131 rfl rfl ?_
      obtain rfl := Option.some.inj hf
      exact R_iretI rfl dX13_mirror_132
    · rw [if_neg hc] at hf
      refine R_aload_n 0 dX13_mirror_60 rfl rfl ?_
      obtain ⟨t11, et11, hf⟩ := Option.bind_eq_some_iff.mp hf
      refine R_getr lg_X13_37 et11 dX13_mirror_61 ?_
      refine R_bipush dX13_mirror_64 k_bipush_83 ?_
      refine R_iload_n 2 dX13_mirror_66 rfl rfl ?_
      refine R_iadd dX13_mirror_67 ?_
      refine R_aload_n 0 dX13_mirror_68 rfl rfl ?_
      obtain ⟨t12, et12, hf⟩ := Option.bind_eq_some_iff.mp hf
      refine R_getr lg_X13_7 et12 dX13_mirror_69 ?_
      refine R_bipush dX13_mirror_72 k_bipush_83 ?_
      refine R_iload_n 2 dX13_mirror_74 rfl rfl ?_
      refine R_aload_n 0 dX13_mirror_75 rfl rfl ?_
      obtain ⟨t13, et13, hf⟩ := Option.bind_eq_some_iff.mp hf
      refine R_getr lg_X13_7 et13 dX13_mirror_76 ?_
      refine R_iconst dX13_mirror_79 k_iconst_0 ?_
      obtain ⟨t14, et14, hf⟩ := Option.bind_eq_some_iff.mp hf
      refine R_iaload et14 dX13_mirror_80 ?_
      refine R_icge (tgt := 88) dX13_mirror_81 (by decide) (fun hc => ?_) (fun hc => ?_)
      · rw [if_pos hc] at hf
        refine R_iconst dX13_mirror_88 k_iconst_2 ?_
        refine R_aload_n 0 dX13_mirror_89 rfl rfl ?_
        obtain ⟨t15, et15, hf⟩ := Option.bind_eq_some_iff.mp hf
        refine R_getr lg_X13_7 et15 dX13_mirror_90 ?_
        refine R_iconst dX13_mirror_93 k_iconst_0 ?_
        obtain ⟨t16, et16, hf⟩ := Option.bind_eq_some_iff.mp hf
        refine R_iaload et16 dX13_mirror_94 ?_
        refine R_imul dX13_mirror_95 ?_
        refine R_iload_n 1 dX13_mirror_96 rfl rfl ?_
        refine R_iadd dX13_mirror_97 ?_
        refine R_iconst dX13_mirror_98 k_iconst_1 ?_
        refine R_isub dX13_mirror_99 ?_
        refine R_iload_n 2 dX13_mirror_100 rfl rfl ?_
        refine R_isub dX13_mirror_101 ?_
        exact f_X13_mirror_B102_ok ih x0 x1 x2 t11 (83 + x2) t12 83 ((((2 * t16) + x1) - 1) - x2) q2.2 hf
      · rw [if_neg hc] at hf
        refine R_iload_n 2 dX13_mirror_84 rfl rfl ?_
        refine R_goto (tgt := 102) dX13_mirror_85 (by decide) ?_
        exact f_X13_mirror_B102_ok ih x0 x1 x2 t11 (83 + x2) t12 83 x2 q2.2 hf
noncomputable def f_X13_mirror_L18  : Nat → Option Nat → Int32 → Int32 → PH → Option (Int32 × PH)
  | 0, _, _, _, _ => none
  | k + 1, x0, x1, x2, h => (rcv 11 x0 h).bind (fun u1 => (f_X13_cells x0 h).bind (fun q2 => if q2.1 ≤ x2 then (f_X13_mirror_L52  FU x0 x1 0 q2.2) else ((nz x1).bind (fun u3 => (nz x1).bind (fun u4 => (rcv 11 x0 q2.2).bind (fun u5 => (f_X13_bring x0 x2 (((((x2 / x1) * x1) + x1) - 1) - (x2 - x2 / x1 * x1)) q2.2).bind (fun h6 => (f_X13_mirror_L18 k) x0 x1 (x2 + 1) h6)))))))
theorem f_X13_mirror_L18_ok {K : KT} {h0 : PH} {a0 : List Value} {q : (Int32 × PH)}  : ∀ (k : Nat) (x0 : Option Nat) (x1 : Int32) (x2 : Int32) (h : PH), f_X13_mirror_L18  k x0 x1 x2 h = some q → R K mi_X13_mirror h0 a0 (.inl (some (.int q.1))) q.2 18 [(0, va_rf x0), (1, .int x1), (2, .int x2)] [] h := by
  intro k
  induction k with
  | zero => intro _ _ _ _ hf; cases hf
  | succ k ih =>
    intro x0 x1 x2 h hf
    unfold f_X13_mirror_L18 at hf
    refine R_iload_n 2 dX13_mirror_18 rfl rfl ?_
    refine R_aload_n 0 dX13_mirror_19 rfl rfl ?_
    obtain ⟨u1, eu1, hf⟩ := Option.bind_eq_some_iff.mp hf
    obtain ⟨q2, eq2, hf⟩ := Option.bind_eq_some_iff.mp hf
    refine R_callV (mj := mi_X13_cells) (ci := 11) (q := (RX13, TX13, 24)) (As := []) (rest := [.int x2]) (T_X13_cells eq2) eu1 rfl lV_X13_61 ⟨rfl, oky_X13_cells⟩ (by decide) (by decide) rfl (C1_i C1_0) (Nat.le_of_ble_eq_true rfl) dX13_mirror_20 ?_
    refine R_icge (tgt := 50) dX13_mirror_23 (by decide) (fun hc => ?_) (fun hc => ?_)
    · rw [if_pos hc] at hf
      refine R_iconst dX13_mirror_50 k_iconst_0 ?_
      refine R_istore_n (L' := [(2, .int 0), (0, va_rf x0), (1, .int x1)]) dX13_mirror_51 rfl (by decide) rfl ?_
      refine R.sub [1, 2, 0] (L' := [(0, va_rf x0), (1, .int x1), (2, .int 0)]) rfl ?_
      exact f_X13_mirror_L52_ok  FU x0 x1 0 q2.2 hf
    · rw [if_neg hc] at hf
      refine R_aload_n 0 dX13_mirror_26 rfl rfl ?_
      refine R_iload_n 2 dX13_mirror_27 rfl rfl ?_
      refine R_iload_n 2 dX13_mirror_28 rfl rfl ?_
      refine R_iload_n 1 dX13_mirror_29 rfl rfl ?_
      obtain ⟨u3, eu3, hf⟩ := Option.bind_eq_some_iff.mp hf
      refine R_idiv dX13_mirror_30 (nz_some eu3) ?_
      refine R_iload_n 1 dX13_mirror_31 rfl rfl ?_
      refine R_imul dX13_mirror_32 ?_
      refine R_iload_n 1 dX13_mirror_33 rfl rfl ?_
      refine R_iadd dX13_mirror_34 ?_
      refine R_iconst dX13_mirror_35 k_iconst_1 ?_
      refine R_isub dX13_mirror_36 ?_
      refine R_iload_n 2 dX13_mirror_37 rfl rfl ?_
      refine R_iload_n 1 dX13_mirror_38 rfl rfl ?_
      obtain ⟨u4, eu4, hf⟩ := Option.bind_eq_some_iff.mp hf
      refine R_irem dX13_mirror_39 (nz_some eu4) ?_
      refine R_isub dX13_mirror_40 ?_
      obtain ⟨u5, eu5, hf⟩ := Option.bind_eq_some_iff.mp hf
      obtain ⟨h6, eh6, hf⟩ := Option.bind_eq_some_iff.mp hf
      refine R_callV (mj := mi_X13_bring) (ci := 11) (q := (RX13, TX13, 24)) (As := [.int x2, .int (((((x2 / x1) * x1) + x1) - 1) - (x2 - x2 / x1 * x1))]) (rest := []) (T_X13_bring eh6) eu5 rfl lV_X13_124 ⟨rfl, oky_X13_bring⟩ (by decide) (by decide) rfl C1_0 (Nat.le_of_ble_eq_true rfl) dX13_mirror_41 ?_
      refine R_iinc (L' := [(2, .int (x2 + 1)), (0, va_rf x0), (1, .int x1)]) 2 dX13_mirror_44 rfl (k_inc_1 _) (by decide) rfl ?_
      refine R_goto (tgt := 18) dX13_mirror_47 (by decide) ?_
      refine R.sub [1, 2, 0] (L' := [(0, va_rf x0), (1, .int x1), (2, .int (x2 + 1))]) rfl ?_
      exact ih x0 x1 (x2 + 1) h6 hf
noncomputable def f_X13_mirror (x0 : Option Nat) (h : PH) : Option (Int32 × PH) := (pf 11 0 x0 (.int 0) h).bind (fun h1 => (rcv 11 x0 h1).bind (fun u2 => (f_X13_act x0 h1).bind (fun h3 => (gfr 11 1 x0 h3).bind (fun t4 => (ald 0 t4 1 h3).bind (fun t5 => f_X13_mirror_L18  FU x0 t5 0 h3)))))
theorem T_X13_mirror {K : KT} {x0 : Option Nat} {h : PH} {q : (Int32 × PH)} (hf : f_X13_mirror x0 h = some q) : T K mi_X13_mirror [va_rf x0] h (.inl (some (.int q.1))) q.2 := by
  unfold f_X13_mirror at hf
  refine T_of (by decide +kernel) rfl (C1_r C1_0) (Nat.le_of_ble_eq_true rfl) ?_
  show R K mi_X13_mirror h [va_rf x0] _ _ 0 [(0, va_rf x0)] [] h
  refine R_aload_n 0 dX13_mirror_0 rfl rfl ?_
  refine R_iconst dX13_mirror_1 k_iconst_0 ?_
  obtain ⟨h1, eh1, hf⟩ := Option.bind_eq_some_iff.mp hf
  refine R_putI (fp_X13_43 rfl) eh1 dX13_mirror_2 ?_
  refine R_aload_n 0 dX13_mirror_5 rfl rfl ?_
  obtain ⟨u2, eu2, hf⟩ := Option.bind_eq_some_iff.mp hf
  obtain ⟨h3, eh3, hf⟩ := Option.bind_eq_some_iff.mp hf
  refine R_callV (mj := mi_X13_act) (ci := 11) (q := (RX13, TX13, 24)) (As := []) (rest := []) (T_X13_act eh3) eu2 rfl lV_X13_102 ⟨rfl, oky_X13_act⟩ (by decide) (by decide) rfl C1_0 (Nat.le_of_ble_eq_true rfl) dX13_mirror_6 ?_
  refine R_aload_n 0 dX13_mirror_9 rfl rfl ?_
  obtain ⟨t4, et4, hf⟩ := Option.bind_eq_some_iff.mp hf
  refine R_getr lg_X13_7 et4 dX13_mirror_10 ?_
  refine R_iconst dX13_mirror_13 k_iconst_1 ?_
  obtain ⟨t5, et5, hf⟩ := Option.bind_eq_some_iff.mp hf
  refine R_iaload et5 dX13_mirror_14 ?_
  refine R_istore_n (L' := [(1, .int t5), (0, va_rf x0)]) dX13_mirror_15 rfl (by decide) rfl ?_
  refine R_iconst dX13_mirror_16 k_iconst_0 ?_
  refine R_istore_n (L' := [(2, .int 0), (1, .int t5), (0, va_rf x0)]) dX13_mirror_17 rfl (by decide) rfl ?_
  refine R.sub [2, 1, 0] (L' := [(0, va_rf x0), (1, .int t5), (2, .int 0)]) rfl ?_
  exact f_X13_mirror_L18_ok  FU x0 t5 0 h3 hf
abbrev mi_X13_renumberTurned : MI := (RX13, yX13_renumberTurned, cX13_renumberTurned, 2, none, 3)
noncomputable def f_X13_renumberTurned (x0 : Option Nat) (h : PH) : Option PH := (rcv 11 x0 h).bind (fun u1 => (f_X13_renumber x0 h).bind (fun q2 => some q2.2))
theorem T_X13_renumberTurned {K : KT} {x0 : Option Nat} {h : PH} {q : PH} (hf : f_X13_renumberTurned x0 h = some q) : T K mi_X13_renumberTurned [va_rf x0] h (.inl none) q := by
  unfold f_X13_renumberTurned at hf
  refine T_of (by decide +kernel) rfl (C1_r C1_0) (Nat.le_of_ble_eq_true rfl) ?_
  show R K mi_X13_renumberTurned h [va_rf x0] _ _ 0 [(0, va_rf x0)] [] h
  refine R_aload_n 0 dX13_renumberTurned_0 rfl rfl ?_
  obtain ⟨u1, eu1, hf⟩ := Option.bind_eq_some_iff.mp hf
  obtain ⟨q2, eq2, hf⟩ := Option.bind_eq_some_iff.mp hf
  refine R_callV (mj := mi_X13_renumber) (ci := 11) (q := (RX13, TX13, 24)) (As := []) (rest := []) (T_X13_renumber eq2) eu1 rfl lV_X13_118 ⟨rfl, oky_X13_renumber⟩ (by decide) (by decide) rfl C1_0 (Nat.le_of_ble_eq_true rfl) dX13_renumberTurned_1 ?_
  refine R_istore_n (L' := [(1, .int q2.1), (0, va_rf x0)]) dX13_renumberTurned_4 rfl (by decide) rfl ?_
  obtain rfl := Option.some.inj hf
  exact R_return rfl dX13_renumberTurned_5
theorem lV_X13_130 : GoodIn lw_all (wsV "EdgeSumsModel" 130 "EdgeSumsModel" yX13_renumberTurned (ws_ yX13_renumberTurned cX13_renumberTurned 2 none)) := lw_V q2794 q2796 qs68 q158 q2797
theorem oky_X13_renumberTurned : okY yX13_renumberTurned 0 := ⟨by decide +kernel, by decide +kernel, by decide +kernel⟩
abbrev mi_X13_turn : MI := (RX13, yX13_turn, cX13_turn, 5, (some FieldType.int), 6)
noncomputable def f_X13_turn_B112 (r73 : Option Nat → Int32 → Int32 → Int32 → PH → Option (Int32 × PH)) (x0 : Option Nat) (x1 : Int32) (x2 : Int32) (x3 : Int32) (s0 : Option Nat) (s1 : Int32) (s2 : Option Nat) (s3 : Int32) (s4 : Int32) (h : PH) : Option (Int32 × PH) := (ald 0 s2 (s3 + s4) h).bind (fun t1 => (asi 0 s0 s1 t1 h).bind (fun h2 => r73 x0 x1 x2 (x3 + 1) h2))
theorem f_X13_turn_B112_ok {K : KT} {h0 : PH} {a0 : List Value} {q : (Int32 × PH)} {r73 : Option Nat → Int32 → Int32 → Int32 → PH → Option (Int32 × PH)} (hr73 : ∀ (y0 : Option Nat) (y1 : Int32) (y2 : Int32) (y3 : Int32) (h : PH), r73 y0 y1 y2 y3 h = some q → R K mi_X13_turn h0 a0 (.inl (some (.int q.1))) q.2 73 [(0, va_rf y0), (1, .int y1), (2, .int y2), (3, .int y3)] [] h) (x0 : Option Nat) (x1 : Int32) (x2 : Int32) (x3 : Int32) (s0 : Option Nat) (s1 : Int32) (s2 : Option Nat) (s3 : Int32) (s4 : Int32) (h : PH) (hf : f_X13_turn_B112 r73 x0 x1 x2 x3 s0 s1 s2 s3 s4 h = some q) : R K mi_X13_turn h0 a0 (.inl (some (.int q.1))) q.2 112 [(0, va_rf x0), (1, .int x1), (2, .int x2), (3, .int x3)] [.int s4, .int s3, va_rf s2, .int s1, va_rf s0] h := by
  unfold f_X13_turn_B112 at hf
  refine R_iadd dX13_turn_112 ?_
  obtain ⟨t1, et1, hf⟩ := Option.bind_eq_some_iff.mp hf
  refine R_iaload et1 dX13_turn_113 ?_
  obtain ⟨h2, eh2, hf⟩ := Option.bind_eq_some_iff.mp hf
  refine R_iastore eh2 dX13_turn_114 ?_
  refine R_iinc (L' := [(3, .int (x3 + 1)), (0, va_rf x0), (1, .int x1), (2, .int x2)]) 3 dX13_turn_115 rfl (k_inc_1 _) (by decide) rfl ?_
  refine R_goto (tgt := 73) dX13_turn_118 (by decide) ?_
  refine R.sub [1, 2, 3, 0] (L' := [(0, va_rf x0), (1, .int x1), (2, .int x2), (3, .int (x3 + 1))]) rfl ?_
  exact hr73 x0 x1 x2 (x3 + 1) h2 hf
noncomputable def f_X13_turn_L73  : Nat → Option Nat → Int32 → Int32 → Int32 → PH → Option (Int32 × PH)
  | 0, _, _, _, _, _ => none
  | k + 1, x0, x1, x2, x3, h => if (x1 + x2) ≤ x3 then ((rcv 11 x0 h).bind (fun u1 => (f_X13_takeOther x0 x1 x2 h).bind (fun h2 => (rcv 11 x0 h2).bind (fun u3 => (f_X13_renumberTurned x0 h2).bind (fun h4 => (rcv 11 x0 h4).bind (fun u5 => (f_X13_reset x0 h4).bind (fun h6 => some (x1, h6)))))))) else ((gfr 11 17 x0 h).bind (fun t7 => (gfr 11 1 x0 h).bind (fun t8 => if x1 ≤ x3 then (f_X13_turn_B112 (f_X13_turn_L73 k) x0 x1 x2 x3 t7 (83 + x3) t8 83 ((x2 - 1) - (x3 - x1)) h) else (f_X13_turn_B112 (f_X13_turn_L73 k) x0 x1 x2 x3 t7 (83 + x3) t8 83 (x2 + x3) h))))
theorem f_X13_turn_L73_ok {K : KT} {h0 : PH} {a0 : List Value} {q : (Int32 × PH)}  : ∀ (k : Nat) (x0 : Option Nat) (x1 : Int32) (x2 : Int32) (x3 : Int32) (h : PH), f_X13_turn_L73  k x0 x1 x2 x3 h = some q → R K mi_X13_turn h0 a0 (.inl (some (.int q.1))) q.2 73 [(0, va_rf x0), (1, .int x1), (2, .int x2), (3, .int x3)] [] h := by
  intro k
  induction k with
  | zero => intro _ _ _ _ _ hf; cases hf
  | succ k ih =>
    intro x0 x1 x2 x3 h hf
    unfold f_X13_turn_L73 at hf
    refine R_iload_n 3 dX13_turn_73 rfl rfl ?_
    refine R_iload_n 1 dX13_turn_74 rfl rfl ?_
    refine R_iload_n 2 dX13_turn_75 rfl rfl ?_
    refine R_iadd dX13_turn_76 ?_
    refine R_icge (tgt := 121) dX13_turn_77 (by decide) (fun hc => ?_) (fun hc => ?_)
    · rw [if_pos hc] at hf
      refine R_aload_n 0 dX13_turn_121 rfl rfl ?_
      refine R_iload_n 1 dX13_turn_122 rfl rfl ?_
      refine R_iload_n 2 dX13_turn_123 rfl rfl ?_
      obtain ⟨u1, eu1, hf⟩ := Option.bind_eq_some_iff.mp hf
      obtain ⟨h2, eh2, hf⟩ := Option.bind_eq_some_iff.mp hf
      refine R_callV (mj := mi_X13_takeOther) (ci := 11) (q := (RX13, TX13, 24)) (As := [.int x1, .int x2]) (rest := []) (T_X13_takeOther eh2) eu1 rfl lV_X13_127 ⟨rfl, oky_X13_takeOther⟩ (by decide) (by decide) rfl C1_0 (Nat.le_of_ble_eq_true rfl) dX13_turn_124 ?_
      refine R_aload_n 0 dX13_turn_127 rfl rfl ?_
      obtain ⟨u3, eu3, hf⟩ := Option.bind_eq_some_iff.mp hf
      obtain ⟨h4, eh4, hf⟩ := Option.bind_eq_some_iff.mp hf
      refine R_callV (mj := mi_X13_renumberTurned) (ci := 11) (q := (RX13, TX13, 24)) (As := []) (rest := []) (T_X13_renumberTurned eh4) eu3 rfl lV_X13_130 ⟨rfl, oky_X13_renumberTurned⟩ (by decide) (by decide) rfl C1_0 (Nat.le_of_ble_eq_true rfl) dX13_turn_128 ?_
      refine R_aload_n 0 dX13_turn_131 rfl rfl ?_
      obtain ⟨u5, eu5, hf⟩ := Option.bind_eq_some_iff.mp hf
      obtain ⟨h6, eh6, hf⟩ := Option.bind_eq_some_iff.mp hf
      refine R_callV (mj := mi_X13_reset) (ci := 11) (q := (RX13, TX13, 24)) (As := []) (rest := []) (T_X13_reset eh6) eu5 rfl lV_X13_51 ⟨rfl, oky_X13_reset⟩ (by decide) (by decide) rfl C1_0 (Nat.le_of_ble_eq_true rfl) dX13_turn_132 ?_
      refine R_iload_n 1 dX13_turn_135 rfl rfl ?_
      obtain rfl := Option.some.inj hf
      exact R_iretI rfl dX13_turn_136
    · rw [if_neg hc] at hf
      refine R_aload_n 0 dX13_turn_80 rfl rfl ?_
      obtain ⟨t7, et7, hf⟩ := Option.bind_eq_some_iff.mp hf
      refine R_getr lg_X13_37 et7 dX13_turn_81 ?_
      refine R_bipush dX13_turn_84 k_bipush_83 ?_
      refine R_iload_n 3 dX13_turn_86 rfl rfl ?_
      refine R_iadd dX13_turn_87 ?_
      refine R_aload_n 0 dX13_turn_88 rfl rfl ?_
      obtain ⟨t8, et8, hf⟩ := Option.bind_eq_some_iff.mp hf
      refine R_getr lg_X13_7 et8 dX13_turn_89 ?_
      refine R_bipush dX13_turn_92 k_bipush_83 ?_
      refine R_iload_n 3 dX13_turn_94 rfl rfl ?_
      refine R_iload_n 1 dX13_turn_95 rfl rfl ?_
      refine R_icge (tgt := 105) dX13_turn_96 (by decide) (fun hc => ?_) (fun hc => ?_)
      · rw [if_pos hc] at hf
        refine R_iload_n 2 dX13_turn_105 rfl rfl ?_
        refine R_iconst dX13_turn_106 k_iconst_1 ?_
        refine R_isub dX13_turn_107 ?_
        refine R_iload_n 3 dX13_turn_108 rfl rfl ?_
        refine R_iload_n 1 dX13_turn_109 rfl rfl ?_
        refine R_isub dX13_turn_110 ?_
        refine R_isub dX13_turn_111 ?_
        exact f_X13_turn_B112_ok ih x0 x1 x2 x3 t7 (83 + x3) t8 83 ((x2 - 1) - (x3 - x1)) h hf
      · rw [if_neg hc] at hf
        refine R_iload_n 2 dX13_turn_99 rfl rfl ?_
        refine R_iload_n 3 dX13_turn_100 rfl rfl ?_
        refine R_iadd dX13_turn_101 ?_
        refine R_goto (tgt := 112) dX13_turn_102 (by decide) ?_
        exact f_X13_turn_B112_ok ih x0 x1 x2 x3 t7 (83 + x3) t8 83 (x2 + x3) h hf
noncomputable def f_X13_turn_L33 (r25 : Option Nat → Int32 → Int32 → Int32 → PH → Option (Int32 × PH)) : Nat → Option Nat → Int32 → Int32 → Int32 → Int32 → PH → Option (Int32 × PH)
  | 0, _, _, _, _, _, _ => none
  | k + 1, x0, x1, x2, x3, x4, h => if x2 ≤ x4 then (r25 x0 x1 x2 (x3 + 1) h) else ((rcv 11 x0 h).bind (fun u1 => (f_X13_bring x0 ((x2 * x3) + x4) ((x1 * ((x2 - 1) - x4)) + x3) h).bind (fun h2 => (f_X13_turn_L33 r25 k) x0 x1 x2 x3 (x4 + 1) h2)))
theorem f_X13_turn_L33_ok {K : KT} {h0 : PH} {a0 : List Value} {q : (Int32 × PH)} {r25 : Option Nat → Int32 → Int32 → Int32 → PH → Option (Int32 × PH)} (hr25 : ∀ (y0 : Option Nat) (y1 : Int32) (y2 : Int32) (y3 : Int32) (h : PH), r25 y0 y1 y2 y3 h = some q → R K mi_X13_turn h0 a0 (.inl (some (.int q.1))) q.2 25 [(0, va_rf y0), (1, .int y1), (2, .int y2), (3, .int y3)] [] h) : ∀ (k : Nat) (x0 : Option Nat) (x1 : Int32) (x2 : Int32) (x3 : Int32) (x4 : Int32) (h : PH), f_X13_turn_L33 r25 k x0 x1 x2 x3 x4 h = some q → R K mi_X13_turn h0 a0 (.inl (some (.int q.1))) q.2 33 [(0, va_rf x0), (1, .int x1), (2, .int x2), (3, .int x3), (4, .int x4)] [] h := by
  intro k
  induction k with
  | zero => intro _ _ _ _ _ _ hf; cases hf
  | succ k ih =>
    intro x0 x1 x2 x3 x4 h hf
    unfold f_X13_turn_L33 at hf
    refine R_iload 4 dX13_turn_33 rfl ?_
    refine R_iload_n 2 dX13_turn_35 rfl rfl ?_
    refine R_icge (tgt := 65) dX13_turn_36 (by decide) (fun hc => ?_) (fun hc => ?_)
    · rw [if_pos hc] at hf
      refine R_iinc (L' := [(3, .int (x3 + 1)), (0, va_rf x0), (1, .int x1), (2, .int x2), (4, .int x4)]) 3 dX13_turn_65 rfl (k_inc_1 _) (by decide) rfl ?_
      refine R_goto (tgt := 25) dX13_turn_68 (by decide) ?_
      refine R.sub [1, 2, 3, 0] (L' := [(0, va_rf x0), (1, .int x1), (2, .int x2), (3, .int (x3 + 1))]) rfl ?_
      exact hr25 x0 x1 x2 (x3 + 1) h hf
    · rw [if_neg hc] at hf
      refine R_aload_n 0 dX13_turn_39 rfl rfl ?_
      refine R_iload_n 2 dX13_turn_40 rfl rfl ?_
      refine R_iload_n 3 dX13_turn_41 rfl rfl ?_
      refine R_imul dX13_turn_42 ?_
      refine R_iload 4 dX13_turn_43 rfl ?_
      refine R_iadd dX13_turn_45 ?_
      refine R_iload_n 1 dX13_turn_46 rfl rfl ?_
      refine R_iload_n 2 dX13_turn_47 rfl rfl ?_
      refine R_iconst dX13_turn_48 k_iconst_1 ?_
      refine R_isub dX13_turn_49 ?_
      refine R_iload 4 dX13_turn_50 rfl ?_
      refine R_isub dX13_turn_52 ?_
      refine R_imul dX13_turn_53 ?_
      refine R_iload_n 3 dX13_turn_54 rfl rfl ?_
      refine R_iadd dX13_turn_55 ?_
      obtain ⟨u1, eu1, hf⟩ := Option.bind_eq_some_iff.mp hf
      obtain ⟨h2, eh2, hf⟩ := Option.bind_eq_some_iff.mp hf
      refine R_callV (mj := mi_X13_bring) (ci := 11) (q := (RX13, TX13, 24)) (As := [.int ((x2 * x3) + x4), .int ((x1 * ((x2 - 1) - x4)) + x3)]) (rest := []) (T_X13_bring eh2) eu1 rfl lV_X13_124 ⟨rfl, oky_X13_bring⟩ (by decide) (by decide) rfl C1_0 (Nat.le_of_ble_eq_true rfl) dX13_turn_56 ?_
      refine R_iinc (L' := [(4, .int (x4 + 1)), (0, va_rf x0), (1, .int x1), (2, .int x2), (3, .int x3)]) 4 dX13_turn_59 rfl (k_inc_1 _) (by decide) rfl ?_
      refine R_goto (tgt := 33) dX13_turn_62 (by decide) ?_
      refine R.sub [1, 2, 3, 4, 0] (L' := [(0, va_rf x0), (1, .int x1), (2, .int x2), (3, .int x3), (4, .int (x4 + 1))]) rfl ?_
      exact ih x0 x1 x2 x3 (x4 + 1) h2 hf
noncomputable def f_X13_turn_L25  : Nat → Option Nat → Int32 → Int32 → Int32 → PH → Option (Int32 × PH)
  | 0, _, _, _, _, _ => none
  | k + 1, x0, x1, x2, x3, h => if x1 ≤ x3 then (f_X13_turn_L73  FU x0 x1 x2 0 h) else (f_X13_turn_L33 (f_X13_turn_L25 k) FU x0 x1 x2 x3 0 h)
theorem f_X13_turn_L25_ok {K : KT} {h0 : PH} {a0 : List Value} {q : (Int32 × PH)}  : ∀ (k : Nat) (x0 : Option Nat) (x1 : Int32) (x2 : Int32) (x3 : Int32) (h : PH), f_X13_turn_L25  k x0 x1 x2 x3 h = some q → R K mi_X13_turn h0 a0 (.inl (some (.int q.1))) q.2 25 [(0, va_rf x0), (1, .int x1), (2, .int x2), (3, .int x3)] [] h := by
  intro k
  induction k with
  | zero => intro _ _ _ _ _ hf; cases hf
  | succ k ih =>
    intro x0 x1 x2 x3 h hf
    unfold f_X13_turn_L25 at hf
    refine R_iload_n 3 dX13_turn_25 rfl rfl ?_
    refine R_iload_n 1 dX13_turn_26 rfl rfl ?_
    refine R_icge (tgt := 71) dX13_turn_27 (by decide) (fun hc => ?_) (fun hc => ?_)
    · rw [if_pos hc] at hf
      refine R_iconst dX13_turn_71 k_iconst_0 ?_
      refine R_istore_n (L' := [(3, .int 0), (0, va_rf x0), (1, .int x1), (2, .int x2)]) dX13_turn_72 rfl (by decide) rfl ?_
      refine R.sub [1, 2, 3, 0] (L' := [(0, va_rf x0), (1, .int x1), (2, .int x2), (3, .int 0)]) rfl ?_
      exact f_X13_turn_L73_ok  FU x0 x1 x2 0 h hf
    · rw [if_neg hc] at hf
      refine R_iconst dX13_turn_30 k_iconst_0 ?_
      refine R_istore (L' := [(4, .int 0), (0, va_rf x0), (1, .int x1), (2, .int x2), (3, .int x3)]) dX13_turn_31 (by decide) rfl ?_
      refine R.sub [1, 2, 3, 4, 0] (L' := [(0, va_rf x0), (1, .int x1), (2, .int x2), (3, .int x3), (4, .int 0)]) rfl ?_
      exact f_X13_turn_L33_ok ih FU x0 x1 x2 x3 0 h hf
noncomputable def f_X13_turn (x0 : Option Nat) (h : PH) : Option (Int32 × PH) := (pf 11 0 x0 (.int 0) h).bind (fun h1 => (rcv 11 x0 h1).bind (fun u2 => (f_X13_act x0 h1).bind (fun h3 => (gfr 11 1 x0 h3).bind (fun t4 => (ald 0 t4 1 h3).bind (fun t5 => (gfr 11 1 x0 h3).bind (fun t6 => (ald 0 t6 0 h3).bind (fun t7 => f_X13_turn_L25  FU x0 t5 t7 0 h3)))))))
theorem T_X13_turn {K : KT} {x0 : Option Nat} {h : PH} {q : (Int32 × PH)} (hf : f_X13_turn x0 h = some q) : T K mi_X13_turn [va_rf x0] h (.inl (some (.int q.1))) q.2 := by
  unfold f_X13_turn at hf
  refine T_of (by decide +kernel) rfl (C1_r C1_0) (Nat.le_of_ble_eq_true rfl) ?_
  show R K mi_X13_turn h [va_rf x0] _ _ 0 [(0, va_rf x0)] [] h
  refine R_aload_n 0 dX13_turn_0 rfl rfl ?_
  refine R_iconst dX13_turn_1 k_iconst_0 ?_
  obtain ⟨h1, eh1, hf⟩ := Option.bind_eq_some_iff.mp hf
  refine R_putI (fp_X13_43 rfl) eh1 dX13_turn_2 ?_
  refine R_aload_n 0 dX13_turn_5 rfl rfl ?_
  obtain ⟨u2, eu2, hf⟩ := Option.bind_eq_some_iff.mp hf
  obtain ⟨h3, eh3, hf⟩ := Option.bind_eq_some_iff.mp hf
  refine R_callV (mj := mi_X13_act) (ci := 11) (q := (RX13, TX13, 24)) (As := []) (rest := []) (T_X13_act eh3) eu2 rfl lV_X13_102 ⟨rfl, oky_X13_act⟩ (by decide) (by decide) rfl C1_0 (Nat.le_of_ble_eq_true rfl) dX13_turn_6 ?_
  refine R_aload_n 0 dX13_turn_9 rfl rfl ?_
  obtain ⟨t4, et4, hf⟩ := Option.bind_eq_some_iff.mp hf
  refine R_getr lg_X13_7 et4 dX13_turn_10 ?_
  refine R_iconst dX13_turn_13 k_iconst_1 ?_
  obtain ⟨t5, et5, hf⟩ := Option.bind_eq_some_iff.mp hf
  refine R_iaload et5 dX13_turn_14 ?_
  refine R_istore_n (L' := [(1, .int t5), (0, va_rf x0)]) dX13_turn_15 rfl (by decide) rfl ?_
  refine R_aload_n 1 dX13_turn_16 rfl rfl ?_
  obtain ⟨t6, et6, hf⟩ := Option.bind_eq_some_iff.mp hf
  refine R_getr lg_X13_7 et6 dX13_turn_17 ?_
  refine R_iconst dX13_turn_20 k_iconst_0 ?_
  obtain ⟨t7, et7, hf⟩ := Option.bind_eq_some_iff.mp hf
  refine R_iaload et7 dX13_turn_21 ?_
  refine R_istore_n (L' := [(2, .int t7), (1, .int t5), (0, va_rf x0)]) dX13_turn_22 rfl (by decide) rfl ?_
  refine R_iconst dX13_turn_23 k_iconst_0 ?_
  refine R_istore_n (L' := [(3, .int 0), (2, .int t7), (1, .int t5), (0, va_rf x0)]) dX13_turn_24 rfl (by decide) rfl ?_
  refine R.sub [3, 2, 1, 0] (L' := [(0, va_rf x0), (1, .int t5), (2, .int t7), (3, .int 0)]) rfl ?_
  exact f_X13_turn_L25_ok  FU x0 t5 t7 0 h3 hf
abbrev mi_X13_isTaken : MI := (RX13, yX13_isTaken, cX13_isTaken, 5, (some FieldType.boolean), 2)
noncomputable def f_X13_isTaken_L5  : Nat → Option Nat → Int32 → Int32 → Int32 → Int32 → PH → Option (Int32 × PH)
  | 0, _, _, _, _, _, _ => none
  | k + 1, x0, x1, x2, x3, x4, h => (rcv 11 x0 h).bind (fun u1 => (f_X13_cells x0 h).bind (fun q2 => if q2.1 ≤ x4 then ((gb x3).bind (fun u3 => some (x3, q2.2))) else (if x3 = 0 then (if x4 = x1 then ((f_X13_isTaken_L5 k) x0 x1 x2 0 (x4 + 1) q2.2) else ((rcv 11 x0 q2.2).bind (fun u4 => (f_X13_blockOf x0 x4 q2.2).bind (fun q5 => (rcv 11 x0 q5.2).bind (fun u6 => (f_X13_blockOf x0 x1 q5.2).bind (fun q7 => if q5.1 = q7.1 then ((rcv 11 x0 q7.2).bind (fun u8 => (f_X13_numberOf x0 x4 q7.2).bind (fun q9 => if q9.1 = x2 then ((f_X13_isTaken_L5 k) x0 x1 x2 1 (x4 + 1) q9.2) else ((f_X13_isTaken_L5 k) x0 x1 x2 0 (x4 + 1) q9.2)))) else ((f_X13_isTaken_L5 k) x0 x1 x2 0 (x4 + 1) q7.2))))))) else ((f_X13_isTaken_L5 k) x0 x1 x2 1 (x4 + 1) q2.2))))
theorem f_X13_isTaken_L5_ok {K : KT} {h0 : PH} {a0 : List Value} {q : (Int32 × PH)}  : ∀ (k : Nat) (x0 : Option Nat) (x1 : Int32) (x2 : Int32) (x3 : Int32) (x4 : Int32) (h : PH), f_X13_isTaken_L5  k x0 x1 x2 x3 x4 h = some q → R K mi_X13_isTaken h0 a0 (.inl (some (.int q.1))) q.2 5 [(0, va_rf x0), (1, .int x1), (2, .int x2), (3, .int x3), (4, .int x4)] [] h := by
  intro k
  induction k with
  | zero => intro _ _ _ _ _ _ hf; cases hf
  | succ k ih =>
    intro x0 x1 x2 x3 x4 h hf
    unfold f_X13_isTaken_L5 at hf
    refine R_iload 4 dX13_isTaken_5 rfl ?_
    refine R_aload_n 0 dX13_isTaken_7 rfl rfl ?_
    obtain ⟨u1, eu1, hf⟩ := Option.bind_eq_some_iff.mp hf
    obtain ⟨q2, eq2, hf⟩ := Option.bind_eq_some_iff.mp hf
    refine R_callV (mj := mi_X13_cells) (ci := 11) (q := (RX13, TX13, 24)) (As := []) (rest := [.int x4]) (T_X13_cells eq2) eu1 rfl lV_X13_61 ⟨rfl, oky_X13_cells⟩ (by decide) (by decide) rfl (C1_i C1_0) (Nat.le_of_ble_eq_true rfl) dX13_isTaken_8 ?_
    refine R_icge (tgt := 60) dX13_isTaken_11 (by decide) (fun hc => ?_) (fun hc => ?_)
    · rw [if_pos hc] at hf
      refine R_iload_n 3 dX13_isTaken_60 rfl rfl ?_
      obtain ⟨u3, eu3, hf⟩ := Option.bind_eq_some_iff.mp hf
      obtain rfl := Option.some.inj hf
      exact R_iretZ eu3 rfl dX13_isTaken_61
    · rw [if_neg hc] at hf
      refine R_iload_n 3 dX13_isTaken_14 rfl rfl ?_
      refine R_ifne (tgt := 48) dX13_isTaken_15 (by decide) (fun hc => ?_) (fun hc => ?_)
      · rw [if_pos hc] at hf
        refine R_iload 4 dX13_isTaken_18 rfl ?_
        refine R_iload_n 1 dX13_isTaken_20 rfl rfl ?_
        refine R_iceq (tgt := 52) dX13_isTaken_21 (by decide) (fun hc => ?_) (fun hc => ?_)
        · rw [if_pos hc] at hf
          refine R_iconst dX13_isTaken_52 k_iconst_0 ?_
          refine R_istore_n (L' := [(3, .int 0), (0, va_rf x0), (1, .int x1), (2, .int x2), (4, .int x4)]) dX13_isTaken_53 rfl (by decide) rfl ?_
          refine R_iinc (L' := [(4, .int (x4 + 1)), (3, .int 0), (0, va_rf x0), (1, .int x1), (2, .int x2)]) 4 dX13_isTaken_54 rfl (k_inc_1 _) (by decide) rfl ?_
          refine R_goto (tgt := 5) dX13_isTaken_57 (by decide) ?_
          refine R.sub [2, 3, 4, 1, 0] (L' := [(0, va_rf x0), (1, .int x1), (2, .int x2), (3, .int 0), (4, .int (x4 + 1))]) rfl ?_
          exact ih x0 x1 x2 0 (x4 + 1) q2.2 hf
        · rw [if_neg hc] at hf
          refine R_aload_n 0 dX13_isTaken_24 rfl rfl ?_
          refine R_iload 4 dX13_isTaken_25 rfl ?_
          obtain ⟨u4, eu4, hf⟩ := Option.bind_eq_some_iff.mp hf
          obtain ⟨q5, eq5, hf⟩ := Option.bind_eq_some_iff.mp hf
          refine R_callV (mj := mi_X13_blockOf) (ci := 11) (q := (RX13, TX13, 24)) (As := [.int x4]) (rest := []) (T_X13_blockOf eq5) eu4 rfl lV_X13_72 ⟨rfl, oky_X13_blockOf⟩ (by decide) (by decide) rfl C1_0 (Nat.le_of_ble_eq_true rfl) dX13_isTaken_27 ?_
          refine R_aload_n 0 dX13_isTaken_30 rfl rfl ?_
          refine R_iload_n 1 dX13_isTaken_31 rfl rfl ?_
          obtain ⟨u6, eu6, hf⟩ := Option.bind_eq_some_iff.mp hf
          obtain ⟨q7, eq7, hf⟩ := Option.bind_eq_some_iff.mp hf
          refine R_callV (mj := mi_X13_blockOf) (ci := 11) (q := (RX13, TX13, 24)) (As := [.int x1]) (rest := [.int q5.1]) (T_X13_blockOf eq7) eu6 rfl lV_X13_72 ⟨rfl, oky_X13_blockOf⟩ (by decide) (by decide) rfl (C1_i C1_0) (Nat.le_of_ble_eq_true rfl) dX13_isTaken_32 ?_
          refine R_icne (tgt := 52) dX13_isTaken_35 (by decide) (fun hc => ?_) (fun hc => ?_)
          · rw [if_pos hc] at hf
            refine R_aload_n 0 dX13_isTaken_38 rfl rfl ?_
            refine R_iload 4 dX13_isTaken_39 rfl ?_
            obtain ⟨u8, eu8, hf⟩ := Option.bind_eq_some_iff.mp hf
            obtain ⟨q9, eq9, hf⟩ := Option.bind_eq_some_iff.mp hf
            refine R_callV (mj := mi_X13_numberOf) (ci := 11) (q := (RX13, TX13, 24)) (As := [.int x4]) (rest := []) (T_X13_numberOf eq9) eu8 rfl lV_X13_99 ⟨rfl, oky_X13_numberOf⟩ (by decide) (by decide) rfl C1_0 (Nat.le_of_ble_eq_true rfl) dX13_isTaken_41 ?_
            refine R_iload_n 2 dX13_isTaken_44 rfl rfl ?_
            refine R_icne (tgt := 52) dX13_isTaken_45 (by decide) (fun hc => ?_) (fun hc => ?_)
            · rw [if_pos hc] at hf
              refine R_iconst dX13_isTaken_48 k_iconst_1 ?_
              refine R_goto (tgt := 53) dX13_isTaken_49 (by decide) ?_
              refine R_istore_n (L' := [(3, .int 1), (0, va_rf x0), (1, .int x1), (2, .int x2), (4, .int x4)]) dX13_isTaken_53 rfl (by decide) rfl ?_
              refine R_iinc (L' := [(4, .int (x4 + 1)), (3, .int 1), (0, va_rf x0), (1, .int x1), (2, .int x2)]) 4 dX13_isTaken_54 rfl (k_inc_1 _) (by decide) rfl ?_
              refine R_goto (tgt := 5) dX13_isTaken_57 (by decide) ?_
              refine R.sub [2, 3, 4, 1, 0] (L' := [(0, va_rf x0), (1, .int x1), (2, .int x2), (3, .int 1), (4, .int (x4 + 1))]) rfl ?_
              exact ih x0 x1 x2 1 (x4 + 1) q9.2 hf
            · rw [if_neg hc] at hf
              refine R_iconst dX13_isTaken_52 k_iconst_0 ?_
              refine R_istore_n (L' := [(3, .int 0), (0, va_rf x0), (1, .int x1), (2, .int x2), (4, .int x4)]) dX13_isTaken_53 rfl (by decide) rfl ?_
              refine R_iinc (L' := [(4, .int (x4 + 1)), (3, .int 0), (0, va_rf x0), (1, .int x1), (2, .int x2)]) 4 dX13_isTaken_54 rfl (k_inc_1 _) (by decide) rfl ?_
              refine R_goto (tgt := 5) dX13_isTaken_57 (by decide) ?_
              refine R.sub [2, 3, 4, 1, 0] (L' := [(0, va_rf x0), (1, .int x1), (2, .int x2), (3, .int 0), (4, .int (x4 + 1))]) rfl ?_
              exact ih x0 x1 x2 0 (x4 + 1) q9.2 hf
          · rw [if_neg hc] at hf
            refine R_iconst dX13_isTaken_52 k_iconst_0 ?_
            refine R_istore_n (L' := [(3, .int 0), (0, va_rf x0), (1, .int x1), (2, .int x2), (4, .int x4)]) dX13_isTaken_53 rfl (by decide) rfl ?_
            refine R_iinc (L' := [(4, .int (x4 + 1)), (3, .int 0), (0, va_rf x0), (1, .int x1), (2, .int x2)]) 4 dX13_isTaken_54 rfl (k_inc_1 _) (by decide) rfl ?_
            refine R_goto (tgt := 5) dX13_isTaken_57 (by decide) ?_
            refine R.sub [2, 3, 4, 1, 0] (L' := [(0, va_rf x0), (1, .int x1), (2, .int x2), (3, .int 0), (4, .int (x4 + 1))]) rfl ?_
            exact ih x0 x1 x2 0 (x4 + 1) q7.2 hf
      · rw [if_neg hc] at hf
        refine R_iconst dX13_isTaken_48 k_iconst_1 ?_
        refine R_goto (tgt := 53) dX13_isTaken_49 (by decide) ?_
        refine R_istore_n (L' := [(3, .int 1), (0, va_rf x0), (1, .int x1), (2, .int x2), (4, .int x4)]) dX13_isTaken_53 rfl (by decide) rfl ?_
        refine R_iinc (L' := [(4, .int (x4 + 1)), (3, .int 1), (0, va_rf x0), (1, .int x1), (2, .int x2)]) 4 dX13_isTaken_54 rfl (k_inc_1 _) (by decide) rfl ?_
        refine R_goto (tgt := 5) dX13_isTaken_57 (by decide) ?_
        refine R.sub [2, 3, 4, 1, 0] (L' := [(0, va_rf x0), (1, .int x1), (2, .int x2), (3, .int 1), (4, .int (x4 + 1))]) rfl ?_
        exact ih x0 x1 x2 1 (x4 + 1) q2.2 hf
noncomputable def f_X13_isTaken (x0 : Option Nat) (x1 : Int32) (x2 : Int32) (h : PH) : Option (Int32 × PH) := f_X13_isTaken_L5  FU x0 x1 x2 0 0 h
theorem T_X13_isTaken {K : KT} {x0 : Option Nat} {x1 : Int32} {x2 : Int32} {h : PH} {q : (Int32 × PH)} (hf : f_X13_isTaken x0 x1 x2 h = some q) : T K mi_X13_isTaken [va_rf x0, .int x1, .int x2] h (.inl (some (.int q.1))) q.2 := by
  unfold f_X13_isTaken at hf
  refine T_of (by decide +kernel) rfl (C1_r (C1_i (C1_i C1_0))) (Nat.le_of_ble_eq_true rfl) ?_
  show R K mi_X13_isTaken h [va_rf x0, .int x1, .int x2] _ _ 0 [(0, va_rf x0), (1, .int x1), (2, .int x2)] [] h
  refine R_iconst dX13_isTaken_0 k_iconst_0 ?_
  refine R_istore_n (L' := [(3, .int 0), (0, va_rf x0), (1, .int x1), (2, .int x2)]) dX13_isTaken_1 rfl (by decide) rfl ?_
  refine R_iconst dX13_isTaken_2 k_iconst_0 ?_
  refine R_istore (L' := [(4, .int 0), (3, .int 0), (0, va_rf x0), (1, .int x1), (2, .int x2)]) dX13_isTaken_3 (by decide) rfl ?_
  refine R.sub [2, 3, 4, 1, 0] (L' := [(0, va_rf x0), (1, .int x1), (2, .int x2), (3, .int 0), (4, .int 0)]) rfl ?_
  exact f_X13_isTaken_L5_ok  FU x0 x1 x2 0 0 h hf
theorem lV_X13_133 : GoodIn lw_all (wsV "EdgeSumsModel" 133 "EdgeSumsModel" yX13_isTaken (ws_ yX13_isTaken cX13_isTaken 5 (some FieldType.boolean))) := lw_V q2802 q2804 qs69 q158 q2805
theorem oky_X13_isTaken : okY yX13_isTaken 2 := ⟨by decide +kernel, by decide +kernel, by decide +kernel⟩
abbrev mi_X13_write : MI := (RX13, yX13_write, cX13_write, 4, (some FieldType.int), 6)
noncomputable def f_X13_write_B63  (x0 : Option Nat) (x1 : Int32) (x2 : Int32) (x3 : Int32) (h : PH) : Option (Int32 × PH) := (gfr 11 1 x0 h).bind (fun t1 => (asi 0 t1 (33 + x1) x2 h).bind (fun h2 => (rcv 11 x0 h2).bind (fun u3 => (f_X13_reset x0 h2).bind (fun h4 => some (x3, h4)))))
theorem f_X13_write_B63_ok {K : KT} {h0 : PH} {a0 : List Value} {q : (Int32 × PH)}  (x0 : Option Nat) (x1 : Int32) (x2 : Int32) (x3 : Int32) (h : PH) (hf : f_X13_write_B63  x0 x1 x2 x3 h = some q) : R K mi_X13_write h0 a0 (.inl (some (.int q.1))) q.2 63 [(0, va_rf x0), (1, .int x1), (2, .int x2), (3, .int x3)] [] h := by
  unfold f_X13_write_B63 at hf
  refine R_aload_n 0 dX13_write_63 rfl rfl ?_
  obtain ⟨t1, et1, hf⟩ := Option.bind_eq_some_iff.mp hf
  refine R_getr lg_X13_7 et1 dX13_write_64 ?_
  refine R_bipush dX13_write_67 k_bipush_33 ?_
  refine R_iload_n 1 dX13_write_69 rfl rfl ?_
  refine R_iadd dX13_write_70 ?_
  refine R_iload_n 2 dX13_write_71 rfl rfl ?_
  obtain ⟨h2, eh2, hf⟩ := Option.bind_eq_some_iff.mp hf
  refine R_iastore eh2 dX13_write_72 ?_
  refine R_aload_n 0 dX13_write_73 rfl rfl ?_
  obtain ⟨u3, eu3, hf⟩ := Option.bind_eq_some_iff.mp hf
  obtain ⟨h4, eh4, hf⟩ := Option.bind_eq_some_iff.mp hf
  refine R_callV (mj := mi_X13_reset) (ci := 11) (q := (RX13, TX13, 24)) (As := []) (rest := []) (T_X13_reset eh4) eu3 rfl lV_X13_51 ⟨rfl, oky_X13_reset⟩ (by decide) (by decide) rfl C1_0 (Nat.le_of_ble_eq_true rfl) dX13_write_74 ?_
  refine R_iload_n 3 dX13_write_77 rfl rfl ?_
  obtain rfl := Option.some.inj hf
  exact R_iretI rfl dX13_write_78
noncomputable def f_X13_write_B44  (x0 : Option Nat) (x1 : Int32) (x2 : Int32) (h : PH) : Option (Int32 × PH) := (rcv 11 x0 h).bind (fun u1 => (f_X13_act x0 h).bind (fun h2 => (rcv 11 x0 h2).bind (fun u3 => (f_X13_numberOf x0 x1 h2).bind (fun q4 => if x2 = 0 then ((rcv 11 x0 q4.2).bind (fun u5 => (f_X13_empty x0 x1 q4.2).bind (fun h6 => f_X13_write_B63  x0 x1 x2 q4.1 h6))) else (f_X13_write_B63  x0 x1 x2 q4.1 q4.2)))))
theorem f_X13_write_B44_ok {K : KT} {h0 : PH} {a0 : List Value} {q : (Int32 × PH)}  (x0 : Option Nat) (x1 : Int32) (x2 : Int32) (h : PH) (hf : f_X13_write_B44  x0 x1 x2 h = some q) : R K mi_X13_write h0 a0 (.inl (some (.int q.1))) q.2 44 [(0, va_rf x0), (1, .int x1), (2, .int x2)] [] h := by
  unfold f_X13_write_B44 at hf
  refine R_aload_n 0 dX13_write_44 rfl rfl ?_
  obtain ⟨u1, eu1, hf⟩ := Option.bind_eq_some_iff.mp hf
  obtain ⟨h2, eh2, hf⟩ := Option.bind_eq_some_iff.mp hf
  refine R_callV (mj := mi_X13_act) (ci := 11) (q := (RX13, TX13, 24)) (As := []) (rest := []) (T_X13_act eh2) eu1 rfl lV_X13_102 ⟨rfl, oky_X13_act⟩ (by decide) (by decide) rfl C1_0 (Nat.le_of_ble_eq_true rfl) dX13_write_45 ?_
  refine R_aload_n 0 dX13_write_48 rfl rfl ?_
  refine R_iload_n 1 dX13_write_49 rfl rfl ?_
  obtain ⟨u3, eu3, hf⟩ := Option.bind_eq_some_iff.mp hf
  obtain ⟨q4, eq4, hf⟩ := Option.bind_eq_some_iff.mp hf
  refine R_callV (mj := mi_X13_numberOf) (ci := 11) (q := (RX13, TX13, 24)) (As := [.int x1]) (rest := []) (T_X13_numberOf eq4) eu3 rfl lV_X13_99 ⟨rfl, oky_X13_numberOf⟩ (by decide) (by decide) rfl C1_0 (Nat.le_of_ble_eq_true rfl) dX13_write_50 ?_
  refine R_istore_n (L' := [(3, .int q4.1), (0, va_rf x0), (1, .int x1), (2, .int x2)]) dX13_write_53 rfl (by decide) rfl ?_
  refine R_iload_n 3 dX13_write_54 rfl rfl ?_
  refine R_ifne (tgt := 63) dX13_write_55 (by decide) (fun hc => ?_) (fun hc => ?_)
  · rw [if_pos hc] at hf
    refine R_aload_n 1 dX13_write_58 rfl rfl ?_
    refine R_iload_n 2 dX13_write_59 rfl rfl ?_
    obtain ⟨u5, eu5, hf⟩ := Option.bind_eq_some_iff.mp hf
    obtain ⟨h6, eh6, hf⟩ := Option.bind_eq_some_iff.mp hf
    refine R_callV (mj := mi_X13_empty) (ci := 11) (q := (RX13, TX13, 24)) (As := [.int x1]) (rest := []) (T_X13_empty eh6) eu5 rfl lV_X13_89 ⟨rfl, oky_X13_empty⟩ (by decide) (by decide) rfl C1_0 (Nat.le_of_ble_eq_true rfl) dX13_write_60 ?_
    refine R.sub [1, 2, 3, 0] (L' := [(0, va_rf x0), (1, .int x1), (2, .int x2), (3, .int q4.1)]) rfl ?_
    exact f_X13_write_B63_ok  x0 x1 x2 q4.1 h6 hf
  · rw [if_neg hc] at hf
    refine R.sub [1, 2, 3, 0] (L' := [(0, va_rf x0), (1, .int x1), (2, .int x2), (3, .int q4.1)]) rfl ?_
    exact f_X13_write_B63_ok  x0 x1 x2 q4.1 q4.2 hf
noncomputable def f_X13_write (x0 : Option Nat) (x1 : Int32) (x2 : Int32) (h : PH) : Option (Int32 × PH) := (pf 11 0 x0 (.int 0) h).bind (fun h1 => (rcv 11 x0 h1).bind (fun u2 => (f_X13_isCell x0 x1 h1).bind (fun q3 => if q3.1 = 0 then (some ((-1), q3.2)) else ((rcv 11 x0 q3.2).bind (fun u4 => (f_X13_mostIn x0 x1 q3.2).bind (fun q5 => (f_X13_in x2 0 q5.1 q5.2).bind (fun q6 => if q6.1 = 0 then (some ((-1), q6.2)) else (if x2 = 0 then (f_X13_write_B44  x0 x1 x2 q6.2) else ((rcv 11 x0 q6.2).bind (fun u7 => (f_X13_isTaken x0 x1 x2 q6.2).bind (fun q8 => if q8.1 = 0 then (f_X13_write_B44  x0 x1 x2 q8.2) else (some ((-2), q8.2)))))))))))))
theorem T_X13_write {K : KT} {x0 : Option Nat} {x1 : Int32} {x2 : Int32} {h : PH} {q : (Int32 × PH)} (hf : f_X13_write x0 x1 x2 h = some q) : T K mi_X13_write [va_rf x0, .int x1, .int x2] h (.inl (some (.int q.1))) q.2 := by
  unfold f_X13_write at hf
  refine T_of (by decide +kernel) rfl (C1_r (C1_i (C1_i C1_0))) (Nat.le_of_ble_eq_true rfl) ?_
  show R K mi_X13_write h [va_rf x0, .int x1, .int x2] _ _ 0 [(0, va_rf x0), (1, .int x1), (2, .int x2)] [] h
  refine R_aload_n 0 dX13_write_0 rfl rfl ?_
  refine R_iconst dX13_write_1 k_iconst_0 ?_
  obtain ⟨h1, eh1, hf⟩ := Option.bind_eq_some_iff.mp hf
  refine R_putI (fp_X13_43 rfl) eh1 dX13_write_2 ?_
  refine R_aload_n 0 dX13_write_5 rfl rfl ?_
  refine R_iload_n 1 dX13_write_6 rfl rfl ?_
  obtain ⟨u2, eu2, hf⟩ := Option.bind_eq_some_iff.mp hf
  obtain ⟨q3, eq3, hf⟩ := Option.bind_eq_some_iff.mp hf
  refine R_callV (mj := mi_X13_isCell) (ci := 11) (q := (RX13, TX13, 24)) (As := [.int x1]) (rest := []) (T_X13_isCell eq3) eu2 rfl lV_X13_108 ⟨rfl, oky_X13_isCell⟩ (by decide) (by decide) rfl C1_0 (Nat.le_of_ble_eq_true rfl) dX13_write_7 ?_
  refine R_ifeq (tgt := 26) dX13_write_10 (by decide) (fun hc => ?_) (fun hc => ?_)
  · rw [if_pos hc] at hf
    refine R_iconst dX13_write_26 k_iconst_m1 ?_
    obtain rfl := Option.some.inj hf
    exact R_iretI rfl dX13_write_27
  · rw [if_neg hc] at hf
    refine R_iload_n 2 dX13_write_13 rfl rfl ?_
    refine R_iconst dX13_write_14 k_iconst_0 ?_
    refine R_aload_n 0 dX13_write_15 rfl rfl ?_
    refine R_iload_n 1 dX13_write_16 rfl rfl ?_
    obtain ⟨u4, eu4, hf⟩ := Option.bind_eq_some_iff.mp hf
    obtain ⟨q5, eq5, hf⟩ := Option.bind_eq_some_iff.mp hf
    refine R_callV (mj := mi_X13_mostIn) (ci := 11) (q := (RX13, TX13, 24)) (As := [.int x1]) (rest := [.int 0, .int x2]) (T_X13_mostIn eq5) eu4 rfl lV_X13_121 ⟨rfl, oky_X13_mostIn⟩ (by decide) (by decide) rfl (C1_i (C1_i C1_0)) (Nat.le_of_ble_eq_true rfl) dX13_write_17 ?_
    obtain ⟨q6, eq6, hf⟩ := Option.bind_eq_some_iff.mp hf
    refine R_callS (mj := mi_X13_in) (As := [.int x2, .int 0, .int q5.1]) (rest := []) (T_X13_in eq6) lS_X13_65 oky_X13_in (by decide) (by decide) rfl C1_0 (Nat.le_of_ble_eq_true rfl) dX13_write_20 ?_
    refine R_ifne (tgt := 28) dX13_write_23 (by decide) (fun hc => ?_) (fun hc => ?_)
    · rw [if_pos hc] at hf
      refine R_iconst dX13_write_26 k_iconst_m1 ?_
      obtain rfl := Option.some.inj hf
      exact R_iretI rfl dX13_write_27
    · rw [if_neg hc] at hf
      refine R_iload_n 2 dX13_write_28 rfl rfl ?_
      refine R_ifeq (tgt := 44) dX13_write_29 (by decide) (fun hc => ?_) (fun hc => ?_)
      · rw [if_pos hc] at hf
        exact f_X13_write_B44_ok  x0 x1 x2 q6.2 hf
      · rw [if_neg hc] at hf
        refine R_aload_n 0 dX13_write_32 rfl rfl ?_
        refine R_iload_n 1 dX13_write_33 rfl rfl ?_
        refine R_iload_n 2 dX13_write_34 rfl rfl ?_
        obtain ⟨u7, eu7, hf⟩ := Option.bind_eq_some_iff.mp hf
        obtain ⟨q8, eq8, hf⟩ := Option.bind_eq_some_iff.mp hf
        refine R_callV (mj := mi_X13_isTaken) (ci := 11) (q := (RX13, TX13, 24)) (As := [.int x1, .int x2]) (rest := []) (T_X13_isTaken eq8) eu7 rfl lV_X13_133 ⟨rfl, oky_X13_isTaken⟩ (by decide) (by decide) rfl C1_0 (Nat.le_of_ble_eq_true rfl) dX13_write_35 ?_
        refine R_ifeq (tgt := 44) dX13_write_38 (by decide) (fun hc => ?_) (fun hc => ?_)
        · rw [if_pos hc] at hf
          exact f_X13_write_B44_ok  x0 x1 x2 q8.2 hf
        · rw [if_neg hc] at hf
          refine R_bipush dX13_write_41 k_bipush_m2 ?_
          obtain rfl := Option.some.inj hf
          exact R_iretI rfl dX13_write_43
abbrev mi_X13_emptyMany : MI := (RX13, yX13_emptyMany, cX13_emptyMany, 3, (some FieldType.int), 2)
noncomputable def f_X13_emptyMany_L4  : Nat → Option Nat → Int32 → Int32 → PH → Option (Int32 × PH)
  | 0, _, _, _, _ => none
  | k + 1, x0, x1, x2, h => (rcv 11 x0 h).bind (fun u1 => (f_X13_cells x0 h).bind (fun q2 => if q2.1 ≤ x2 then (some (x1, q2.2)) else ((rcv 11 x0 q2.2).bind (fun u3 => (f_X13_numberOf x0 x2 q2.2).bind (fun q4 => if q4.1 = 0 then ((f_X13_emptyMany_L4 k) x0 (x1 + 1) (x2 + 1) q4.2) else ((f_X13_emptyMany_L4 k) x0 (x1 + 0) (x2 + 1) q4.2))))))
theorem f_X13_emptyMany_L4_ok {K : KT} {h0 : PH} {a0 : List Value} {q : (Int32 × PH)}  : ∀ (k : Nat) (x0 : Option Nat) (x1 : Int32) (x2 : Int32) (h : PH), f_X13_emptyMany_L4  k x0 x1 x2 h = some q → R K mi_X13_emptyMany h0 a0 (.inl (some (.int q.1))) q.2 4 [(0, va_rf x0), (1, .int x1), (2, .int x2)] [] h := by
  intro k
  induction k with
  | zero => intro _ _ _ _ hf; cases hf
  | succ k ih =>
    intro x0 x1 x2 h hf
    unfold f_X13_emptyMany_L4 at hf
    refine R_iload_n 2 dX13_emptyMany_4 rfl rfl ?_
    refine R_aload_n 0 dX13_emptyMany_5 rfl rfl ?_
    obtain ⟨u1, eu1, hf⟩ := Option.bind_eq_some_iff.mp hf
    obtain ⟨q2, eq2, hf⟩ := Option.bind_eq_some_iff.mp hf
    refine R_callV (mj := mi_X13_cells) (ci := 11) (q := (RX13, TX13, 24)) (As := []) (rest := [.int x2]) (T_X13_cells eq2) eu1 rfl lV_X13_61 ⟨rfl, oky_X13_cells⟩ (by decide) (by decide) rfl (C1_i C1_0) (Nat.le_of_ble_eq_true rfl) dX13_emptyMany_6 ?_
    refine R_icge (tgt := 34) dX13_emptyMany_9 (by decide) (fun hc => ?_) (fun hc => ?_)
    · rw [if_pos hc] at hf
      refine R_iload_n 1 dX13_emptyMany_34 rfl rfl ?_
      obtain rfl := Option.some.inj hf
      exact R_iretI rfl dX13_emptyMany_35
    · rw [if_neg hc] at hf
      refine R_iload_n 1 dX13_emptyMany_12 rfl rfl ?_
      refine R_aload_n 0 dX13_emptyMany_13 rfl rfl ?_
      refine R_iload_n 2 dX13_emptyMany_14 rfl rfl ?_
      obtain ⟨u3, eu3, hf⟩ := Option.bind_eq_some_iff.mp hf
      obtain ⟨q4, eq4, hf⟩ := Option.bind_eq_some_iff.mp hf
      refine R_callV (mj := mi_X13_numberOf) (ci := 11) (q := (RX13, TX13, 24)) (As := [.int x2]) (rest := [.int x1]) (T_X13_numberOf eq4) eu3 rfl lV_X13_99 ⟨rfl, oky_X13_numberOf⟩ (by decide) (by decide) rfl (C1_i C1_0) (Nat.le_of_ble_eq_true rfl) dX13_emptyMany_15 ?_
      refine R_ifne (tgt := 25) dX13_emptyMany_18 (by decide) (fun hc => ?_) (fun hc => ?_)
      · rw [if_pos hc] at hf
        refine R_iconst dX13_emptyMany_21 k_iconst_1 ?_
        refine R_goto (tgt := 26) dX13_emptyMany_22 (by decide) ?_
        refine R_iadd dX13_emptyMany_26 ?_
        refine R_istore_n (L' := [(1, .int (x1 + 1)), (0, va_rf x0), (2, .int x2)]) dX13_emptyMany_27 rfl (by decide) rfl ?_
        refine R_iinc (L' := [(2, .int (x2 + 1)), (1, .int (x1 + 1)), (0, va_rf x0)]) 2 dX13_emptyMany_28 rfl (k_inc_1 _) (by decide) rfl ?_
        refine R_goto (tgt := 4) dX13_emptyMany_31 (by decide) ?_
        refine R.sub [2, 1, 0] (L' := [(0, va_rf x0), (1, .int (x1 + 1)), (2, .int (x2 + 1))]) rfl ?_
        exact ih x0 (x1 + 1) (x2 + 1) q4.2 hf
      · rw [if_neg hc] at hf
        refine R_iconst dX13_emptyMany_25 k_iconst_0 ?_
        refine R_iadd dX13_emptyMany_26 ?_
        refine R_istore_n (L' := [(1, .int (x1 + 0)), (0, va_rf x0), (2, .int x2)]) dX13_emptyMany_27 rfl (by decide) rfl ?_
        refine R_iinc (L' := [(2, .int (x2 + 1)), (1, .int (x1 + 0)), (0, va_rf x0)]) 2 dX13_emptyMany_28 rfl (k_inc_1 _) (by decide) rfl ?_
        refine R_goto (tgt := 4) dX13_emptyMany_31 (by decide) ?_
        refine R.sub [2, 1, 0] (L' := [(0, va_rf x0), (1, .int (x1 + 0)), (2, .int (x2 + 1))]) rfl ?_
        exact ih x0 (x1 + 0) (x2 + 1) q4.2 hf
noncomputable def f_X13_emptyMany (x0 : Option Nat) (h : PH) : Option (Int32 × PH) := f_X13_emptyMany_L4  FU x0 0 0 h
theorem T_X13_emptyMany {K : KT} {x0 : Option Nat} {h : PH} {q : (Int32 × PH)} (hf : f_X13_emptyMany x0 h = some q) : T K mi_X13_emptyMany [va_rf x0] h (.inl (some (.int q.1))) q.2 := by
  unfold f_X13_emptyMany at hf
  refine T_of (by decide +kernel) rfl (C1_r C1_0) (Nat.le_of_ble_eq_true rfl) ?_
  show R K mi_X13_emptyMany h [va_rf x0] _ _ 0 [(0, va_rf x0)] [] h
  refine R_iconst dX13_emptyMany_0 k_iconst_0 ?_
  refine R_istore_n (L' := [(1, .int 0), (0, va_rf x0)]) dX13_emptyMany_1 rfl (by decide) rfl ?_
  refine R_iconst dX13_emptyMany_2 k_iconst_0 ?_
  refine R_istore_n (L' := [(2, .int 0), (1, .int 0), (0, va_rf x0)]) dX13_emptyMany_3 rfl (by decide) rfl ?_
  refine R.sub [2, 1, 0] (L' := [(0, va_rf x0), (1, .int 0), (2, .int 0)]) rfl ?_
  exact f_X13_emptyMany_L4_ok  FU x0 0 0 h hf
theorem lV_X13_136 : GoodIn lw_all (wsV "EdgeSumsModel" 136 "EdgeSumsModel" yX13_emptyMany (ws_ yX13_emptyMany cX13_emptyMany 3 (some FieldType.int))) := lw_V q2810 q2812 qs70 q158 q2813
theorem oky_X13_emptyMany : okY yX13_emptyMany 0 := ⟨by decide +kernel, by decide +kernel, by decide +kernel⟩
abbrev mi_X13_fill : MI := (RX13, yX13_fill, cX13_fill, 4, (some FieldType.int), 6)
noncomputable def f_X13_fill_L41 (r23 : Option Nat → Int32 → Int32 → PH → Option (Int32 × PH)) : Nat → Option Nat → Int32 → Int32 → Int32 → PH → Option (Int32 × PH)
  | 0, _, _, _, _, _ => none
  | k + 1, x0, x1, x2, x3, h => (rcv 11 x0 h).bind (fun u1 => (f_X13_isTaken x0 x2 x3 h).bind (fun q2 => if q2.1 = 0 then ((gfr 11 1 x0 q2.2).bind (fun t3 => (asi 0 t3 (33 + x2) x3 q2.2).bind (fun h4 => r23 x0 x1 (x2 + 1) h4))) else ((f_X13_fill_L41 r23 k) x0 x1 x2 (x3 + 1) q2.2)))
theorem f_X13_fill_L41_ok {K : KT} {h0 : PH} {a0 : List Value} {q : (Int32 × PH)} {r23 : Option Nat → Int32 → Int32 → PH → Option (Int32 × PH)} (hr23 : ∀ (y0 : Option Nat) (y1 : Int32) (y2 : Int32) (h : PH), r23 y0 y1 y2 h = some q → R K mi_X13_fill h0 a0 (.inl (some (.int q.1))) q.2 23 [(0, va_rf y0), (1, .int y1), (2, .int y2)] [] h) : ∀ (k : Nat) (x0 : Option Nat) (x1 : Int32) (x2 : Int32) (x3 : Int32) (h : PH), f_X13_fill_L41 r23 k x0 x1 x2 x3 h = some q → R K mi_X13_fill h0 a0 (.inl (some (.int q.1))) q.2 41 [(0, va_rf x0), (1, .int x1), (2, .int x2), (3, .int x3)] [] h := by
  intro k
  induction k with
  | zero => intro _ _ _ _ _ hf; cases hf
  | succ k ih =>
    intro x0 x1 x2 x3 h hf
    unfold f_X13_fill_L41 at hf
    refine R_aload_n 0 dX13_fill_41 rfl rfl ?_
    refine R_iload_n 2 dX13_fill_42 rfl rfl ?_
    refine R_iload_n 3 dX13_fill_43 rfl rfl ?_
    obtain ⟨u1, eu1, hf⟩ := Option.bind_eq_some_iff.mp hf
    obtain ⟨q2, eq2, hf⟩ := Option.bind_eq_some_iff.mp hf
    refine R_callV (mj := mi_X13_isTaken) (ci := 11) (q := (RX13, TX13, 24)) (As := [.int x2, .int x3]) (rest := []) (T_X13_isTaken eq2) eu1 rfl lV_X13_133 ⟨rfl, oky_X13_isTaken⟩ (by decide) (by decide) rfl C1_0 (Nat.le_of_ble_eq_true rfl) dX13_fill_44 ?_
    refine R_ifeq (tgt := 56) dX13_fill_47 (by decide) (fun hc => ?_) (fun hc => ?_)
    · rw [if_pos hc] at hf
      refine R_aload_n 0 dX13_fill_56 rfl rfl ?_
      obtain ⟨t3, et3, hf⟩ := Option.bind_eq_some_iff.mp hf
      refine R_getr lg_X13_7 et3 dX13_fill_57 ?_
      refine R_bipush dX13_fill_60 k_bipush_33 ?_
      refine R_iload_n 2 dX13_fill_62 rfl rfl ?_
      refine R_iadd dX13_fill_63 ?_
      refine R_iload_n 3 dX13_fill_64 rfl rfl ?_
      obtain ⟨h4, eh4, hf⟩ := Option.bind_eq_some_iff.mp hf
      refine R_iastore eh4 dX13_fill_65 ?_
      refine R_iinc (L' := [(2, .int (x2 + 1)), (0, va_rf x0), (1, .int x1), (3, .int x3)]) 2 dX13_fill_66 rfl (k_inc_1 _) (by decide) rfl ?_
      refine R_goto (tgt := 23) dX13_fill_69 (by decide) ?_
      refine R.sub [1, 2, 0] (L' := [(0, va_rf x0), (1, .int x1), (2, .int (x2 + 1))]) rfl ?_
      exact hr23 x0 x1 (x2 + 1) h4 hf
    · rw [if_neg hc] at hf
      refine R_iinc (L' := [(3, .int (x3 + 1)), (0, va_rf x0), (1, .int x1), (2, .int x2)]) 3 dX13_fill_50 rfl (k_inc_1 _) (by decide) rfl ?_
      refine R_goto (tgt := 41) dX13_fill_53 (by decide) ?_
      refine R.sub [1, 2, 3, 0] (L' := [(0, va_rf x0), (1, .int x1), (2, .int x2), (3, .int (x3 + 1))]) rfl ?_
      exact ih x0 x1 x2 (x3 + 1) q2.2 hf
noncomputable def f_X13_fill_L23  : Nat → Option Nat → Int32 → Int32 → PH → Option (Int32 × PH)
  | 0, _, _, _, _ => none
  | k + 1, x0, x1, x2, h => (rcv 11 x0 h).bind (fun u1 => (f_X13_cells x0 h).bind (fun q2 => if q2.1 ≤ x2 then ((rcv 11 x0 q2.2).bind (fun u3 => (f_X13_reset x0 q2.2).bind (fun h4 => some (x1, h4)))) else ((rcv 11 x0 q2.2).bind (fun u5 => (f_X13_numberOf x0 x2 q2.2).bind (fun q6 => if q6.1 = 0 then (f_X13_fill_L41 (f_X13_fill_L23 k) FU x0 x1 x2 1 q6.2) else ((f_X13_fill_L23 k) x0 x1 (x2 + 1) q6.2))))))
theorem f_X13_fill_L23_ok {K : KT} {h0 : PH} {a0 : List Value} {q : (Int32 × PH)}  : ∀ (k : Nat) (x0 : Option Nat) (x1 : Int32) (x2 : Int32) (h : PH), f_X13_fill_L23  k x0 x1 x2 h = some q → R K mi_X13_fill h0 a0 (.inl (some (.int q.1))) q.2 23 [(0, va_rf x0), (1, .int x1), (2, .int x2)] [] h := by
  intro k
  induction k with
  | zero => intro _ _ _ _ hf; cases hf
  | succ k ih =>
    intro x0 x1 x2 h hf
    unfold f_X13_fill_L23 at hf
    refine R_iload_n 2 dX13_fill_23 rfl rfl ?_
    refine R_aload_n 0 dX13_fill_24 rfl rfl ?_
    obtain ⟨u1, eu1, hf⟩ := Option.bind_eq_some_iff.mp hf
    obtain ⟨q2, eq2, hf⟩ := Option.bind_eq_some_iff.mp hf
    refine R_callV (mj := mi_X13_cells) (ci := 11) (q := (RX13, TX13, 24)) (As := []) (rest := [.int x2]) (T_X13_cells eq2) eu1 rfl lV_X13_61 ⟨rfl, oky_X13_cells⟩ (by decide) (by decide) rfl (C1_i C1_0) (Nat.le_of_ble_eq_true rfl) dX13_fill_25 ?_
    refine R_icge (tgt := 72) dX13_fill_28 (by decide) (fun hc => ?_) (fun hc => ?_)
    · rw [if_pos hc] at hf
      refine R_aload_n 0 dX13_fill_72 rfl rfl ?_
      obtain ⟨u3, eu3, hf⟩ := Option.bind_eq_some_iff.mp hf
      obtain ⟨h4, eh4, hf⟩ := Option.bind_eq_some_iff.mp hf
      refine R_callV (mj := mi_X13_reset) (ci := 11) (q := (RX13, TX13, 24)) (As := []) (rest := []) (T_X13_reset eh4) eu3 rfl lV_X13_51 ⟨rfl, oky_X13_reset⟩ (by decide) (by decide) rfl C1_0 (Nat.le_of_ble_eq_true rfl) dX13_fill_73 ?_
      refine R_iload_n 1 dX13_fill_76 rfl rfl ?_
      obtain rfl := Option.some.inj hf
      exact R_iretI rfl dX13_fill_77
    · rw [if_neg hc] at hf
      refine R_aload_n 0 dX13_fill_31 rfl rfl ?_
      refine R_iload_n 2 dX13_fill_32 rfl rfl ?_
      obtain ⟨u5, eu5, hf⟩ := Option.bind_eq_some_iff.mp hf
      obtain ⟨q6, eq6, hf⟩ := Option.bind_eq_some_iff.mp hf
      refine R_callV (mj := mi_X13_numberOf) (ci := 11) (q := (RX13, TX13, 24)) (As := [.int x2]) (rest := []) (T_X13_numberOf eq6) eu5 rfl lV_X13_99 ⟨rfl, oky_X13_numberOf⟩ (by decide) (by decide) rfl C1_0 (Nat.le_of_ble_eq_true rfl) dX13_fill_33 ?_
      refine R_ifne (tgt := 66) dX13_fill_36 (by decide) (fun hc => ?_) (fun hc => ?_)
      · rw [if_pos hc] at hf
        refine R_iconst dX13_fill_39 k_iconst_1 ?_
        refine R_istore_n (L' := [(3, .int 1), (0, va_rf x0), (1, .int x1), (2, .int x2)]) dX13_fill_40 rfl (by decide) rfl ?_
        refine R.sub [1, 2, 3, 0] (L' := [(0, va_rf x0), (1, .int x1), (2, .int x2), (3, .int 1)]) rfl ?_
        exact f_X13_fill_L41_ok ih FU x0 x1 x2 1 q6.2 hf
      · rw [if_neg hc] at hf
        refine R_iinc (L' := [(2, .int (x2 + 1)), (0, va_rf x0), (1, .int x1)]) 2 dX13_fill_66 rfl (k_inc_1 _) (by decide) rfl ?_
        refine R_goto (tgt := 23) dX13_fill_69 (by decide) ?_
        refine R.sub [1, 2, 0] (L' := [(0, va_rf x0), (1, .int x1), (2, .int (x2 + 1))]) rfl ?_
        exact ih x0 x1 (x2 + 1) q6.2 hf
noncomputable def f_X13_fill (x0 : Option Nat) (h : PH) : Option (Int32 × PH) := (pf 11 0 x0 (.int 0) h).bind (fun h1 => (rcv 11 x0 h1).bind (fun u2 => (f_X13_emptyMany x0 h1).bind (fun q3 => if q3.1 = 0 then (some ((-2), q3.2)) else ((rcv 11 x0 q3.2).bind (fun u4 => (f_X13_act x0 q3.2).bind (fun h5 => f_X13_fill_L23  FU x0 q3.1 0 h5))))))
theorem T_X13_fill {K : KT} {x0 : Option Nat} {h : PH} {q : (Int32 × PH)} (hf : f_X13_fill x0 h = some q) : T K mi_X13_fill [va_rf x0] h (.inl (some (.int q.1))) q.2 := by
  unfold f_X13_fill at hf
  refine T_of (by decide +kernel) rfl (C1_r C1_0) (Nat.le_of_ble_eq_true rfl) ?_
  show R K mi_X13_fill h [va_rf x0] _ _ 0 [(0, va_rf x0)] [] h
  refine R_aload_n 0 dX13_fill_0 rfl rfl ?_
  refine R_iconst dX13_fill_1 k_iconst_0 ?_
  obtain ⟨h1, eh1, hf⟩ := Option.bind_eq_some_iff.mp hf
  refine R_putI (fp_X13_43 rfl) eh1 dX13_fill_2 ?_
  refine R_aload_n 0 dX13_fill_5 rfl rfl ?_
  obtain ⟨u2, eu2, hf⟩ := Option.bind_eq_some_iff.mp hf
  obtain ⟨q3, eq3, hf⟩ := Option.bind_eq_some_iff.mp hf
  refine R_callV (mj := mi_X13_emptyMany) (ci := 11) (q := (RX13, TX13, 24)) (As := []) (rest := []) (T_X13_emptyMany eq3) eu2 rfl lV_X13_136 ⟨rfl, oky_X13_emptyMany⟩ (by decide) (by decide) rfl C1_0 (Nat.le_of_ble_eq_true rfl) dX13_fill_6 ?_
  refine R_istore_n (L' := [(1, .int q3.1), (0, va_rf x0)]) dX13_fill_9 rfl (by decide) rfl ?_
  refine R_iload_n 0 dX13_fill_10 rfl rfl ?_
  refine R_ifne (tgt := 17) dX13_fill_11 (by decide) (fun hc => ?_) (fun hc => ?_)
  · rw [if_pos hc] at hf
    refine R_bipush dX13_fill_14 k_bipush_m2 ?_
    obtain rfl := Option.some.inj hf
    exact R_iretI rfl dX13_fill_16
  · rw [if_neg hc] at hf
    refine R_aload_n 1 dX13_fill_17 rfl rfl ?_
    obtain ⟨u4, eu4, hf⟩ := Option.bind_eq_some_iff.mp hf
    obtain ⟨h5, eh5, hf⟩ := Option.bind_eq_some_iff.mp hf
    refine R_callV (mj := mi_X13_act) (ci := 11) (q := (RX13, TX13, 24)) (As := []) (rest := []) (T_X13_act eh5) eu4 rfl lV_X13_102 ⟨rfl, oky_X13_act⟩ (by decide) (by decide) rfl C1_0 (Nat.le_of_ble_eq_true rfl) dX13_fill_18 ?_
    refine R_iconst dX13_fill_21 k_iconst_0 ?_
    refine R_istore_n (L' := [(2, .int 0), (1, .int q3.1), (0, va_rf x0)]) dX13_fill_22 rfl (by decide) rfl ?_
    refine R.sub [2, 1, 0] (L' := [(0, va_rf x0), (1, .int q3.1), (2, .int 0)]) rfl ?_
    exact f_X13_fill_L23_ok  FU x0 q3.1 0 h5 hf
abbrev mi_X13_exchange : MI := (RX13, yX13_exchange, cX13_exchange, 4, (some FieldType.int), 6)
noncomputable def f_X13_exchange (x0 : Option Nat) (x1 : Int32) (x2 : Int32) (h : PH) : Option (Int32 × PH) := (pf 11 0 x0 (.int 0) h).bind (fun h1 => (rcv 11 x0 h1).bind (fun u2 => (f_X13_isCell x0 x1 h1).bind (fun q3 => if q3.1 = 0 then (some ((-1), q3.2)) else ((rcv 11 x0 q3.2).bind (fun u4 => (f_X13_isCell x0 x2 q3.2).bind (fun q5 => if q5.1 = 0 then (some ((-1), q5.2)) else (if x1 = x2 then (some ((-1), q5.2)) else ((rcv 11 x0 q5.2).bind (fun u6 => (f_X13_blockOf x0 x1 q5.2).bind (fun q7 => (rcv 11 x0 q7.2).bind (fun u8 => (f_X13_blockOf x0 x2 q7.2).bind (fun q9 => if q7.1 = q9.1 then ((rcv 11 x0 q9.2).bind (fun u10 => (f_X13_numberOf x0 x1 q9.2).bind (fun q11 => if q11.1 = 0 then (some ((-2), q11.2)) else ((rcv 11 x0 q11.2).bind (fun u12 => (f_X13_numberOf x0 x2 q11.2).bind (fun q13 => if q13.1 = 0 then (some ((-2), q13.2)) else ((rcv 11 x0 q13.2).bind (fun u14 => (f_X13_act x0 q13.2).bind (fun h15 => (rcv 11 x0 h15).bind (fun u16 => (f_X13_numberOf x0 x1 h15).bind (fun q17 => (gfr 11 1 x0 q17.2).bind (fun t18 => (rcv 11 x0 q17.2).bind (fun u19 => (f_X13_numberOf x0 x2 q17.2).bind (fun q20 => (asi 0 t18 (33 + x1) q20.1 q20.2).bind (fun h21 => (gfr 11 1 x0 h21).bind (fun t22 => (asi 0 t22 (33 + x2) q17.1 h21).bind (fun h23 => (rcv 11 x0 h23).bind (fun u24 => (f_X13_reset x0 h23).bind (fun h25 => (rcv 11 x0 h25).bind (fun u26 => (f_X13_numberOf x0 x1 h25).bind (fun q27 => some (q27.1, q27.2)))))))))))))))))))))) else (some ((-2), q9.2))))))))))))))
theorem T_X13_exchange {K : KT} {x0 : Option Nat} {x1 : Int32} {x2 : Int32} {h : PH} {q : (Int32 × PH)} (hf : f_X13_exchange x0 x1 x2 h = some q) : T K mi_X13_exchange [va_rf x0, .int x1, .int x2] h (.inl (some (.int q.1))) q.2 := by
  unfold f_X13_exchange at hf
  refine T_of (by decide +kernel) rfl (C1_r (C1_i (C1_i C1_0))) (Nat.le_of_ble_eq_true rfl) ?_
  show R K mi_X13_exchange h [va_rf x0, .int x1, .int x2] _ _ 0 [(0, va_rf x0), (1, .int x1), (2, .int x2)] [] h
  refine R_aload_n 0 dX13_exchange_0 rfl rfl ?_
  refine R_iconst dX13_exchange_1 k_iconst_0 ?_
  obtain ⟨h1, eh1, hf⟩ := Option.bind_eq_some_iff.mp hf
  refine R_putI (fp_X13_43 rfl) eh1 dX13_exchange_2 ?_
  refine R_aload_n 0 dX13_exchange_5 rfl rfl ?_
  refine R_iload_n 1 dX13_exchange_6 rfl rfl ?_
  obtain ⟨u2, eu2, hf⟩ := Option.bind_eq_some_iff.mp hf
  obtain ⟨q3, eq3, hf⟩ := Option.bind_eq_some_iff.mp hf
  refine R_callV (mj := mi_X13_isCell) (ci := 11) (q := (RX13, TX13, 24)) (As := [.int x1]) (rest := []) (T_X13_isCell eq3) eu2 rfl lV_X13_108 ⟨rfl, oky_X13_isCell⟩ (by decide) (by decide) rfl C1_0 (Nat.le_of_ble_eq_true rfl) dX13_exchange_7 ?_
  refine R_ifeq (tgt := 26) dX13_exchange_10 (by decide) (fun hc => ?_) (fun hc => ?_)
  · rw [if_pos hc] at hf
    refine R_iconst dX13_exchange_26 k_iconst_m1 ?_
    obtain rfl := Option.some.inj hf
    exact R_iretI rfl dX13_exchange_27
  · rw [if_neg hc] at hf
    refine R_aload_n 0 dX13_exchange_13 rfl rfl ?_
    refine R_iload_n 2 dX13_exchange_14 rfl rfl ?_
    obtain ⟨u4, eu4, hf⟩ := Option.bind_eq_some_iff.mp hf
    obtain ⟨q5, eq5, hf⟩ := Option.bind_eq_some_iff.mp hf
    refine R_callV (mj := mi_X13_isCell) (ci := 11) (q := (RX13, TX13, 24)) (As := [.int x2]) (rest := []) (T_X13_isCell eq5) eu4 rfl lV_X13_108 ⟨rfl, oky_X13_isCell⟩ (by decide) (by decide) rfl C1_0 (Nat.le_of_ble_eq_true rfl) dX13_exchange_15 ?_
    refine R_ifeq (tgt := 26) dX13_exchange_18 (by decide) (fun hc => ?_) (fun hc => ?_)
    · rw [if_pos hc] at hf
      refine R_iconst dX13_exchange_26 k_iconst_m1 ?_
      obtain rfl := Option.some.inj hf
      exact R_iretI rfl dX13_exchange_27
    · rw [if_neg hc] at hf
      refine R_iload_n 1 dX13_exchange_21 rfl rfl ?_
      refine R_iload_n 2 dX13_exchange_22 rfl rfl ?_
      refine R_icne (tgt := 28) dX13_exchange_23 (by decide) (fun hc => ?_) (fun hc => ?_)
      · rw [if_pos hc] at hf
        refine R_iconst dX13_exchange_26 k_iconst_m1 ?_
        obtain rfl := Option.some.inj hf
        exact R_iretI rfl dX13_exchange_27
      · rw [if_neg hc] at hf
        refine R_aload_n 0 dX13_exchange_28 rfl rfl ?_
        refine R_iload_n 1 dX13_exchange_29 rfl rfl ?_
        obtain ⟨u6, eu6, hf⟩ := Option.bind_eq_some_iff.mp hf
        obtain ⟨q7, eq7, hf⟩ := Option.bind_eq_some_iff.mp hf
        refine R_callV (mj := mi_X13_blockOf) (ci := 11) (q := (RX13, TX13, 24)) (As := [.int x1]) (rest := []) (T_X13_blockOf eq7) eu6 rfl lV_X13_72 ⟨rfl, oky_X13_blockOf⟩ (by decide) (by decide) rfl C1_0 (Nat.le_of_ble_eq_true rfl) dX13_exchange_30 ?_
        refine R_aload_n 0 dX13_exchange_33 rfl rfl ?_
        refine R_iload_n 2 dX13_exchange_34 rfl rfl ?_
        obtain ⟨u8, eu8, hf⟩ := Option.bind_eq_some_iff.mp hf
        obtain ⟨q9, eq9, hf⟩ := Option.bind_eq_some_iff.mp hf
        refine R_callV (mj := mi_X13_blockOf) (ci := 11) (q := (RX13, TX13, 24)) (As := [.int x2]) (rest := [.int q7.1]) (T_X13_blockOf eq9) eu8 rfl lV_X13_72 ⟨rfl, oky_X13_blockOf⟩ (by decide) (by decide) rfl (C1_i C1_0) (Nat.le_of_ble_eq_true rfl) dX13_exchange_35 ?_
        refine R_icne (tgt := 57) dX13_exchange_38 (by decide) (fun hc => ?_) (fun hc => ?_)
        · rw [if_pos hc] at hf
          refine R_aload_n 0 dX13_exchange_41 rfl rfl ?_
          refine R_iload_n 1 dX13_exchange_42 rfl rfl ?_
          obtain ⟨u10, eu10, hf⟩ := Option.bind_eq_some_iff.mp hf
          obtain ⟨q11, eq11, hf⟩ := Option.bind_eq_some_iff.mp hf
          refine R_callV (mj := mi_X13_numberOf) (ci := 11) (q := (RX13, TX13, 24)) (As := [.int x1]) (rest := []) (T_X13_numberOf eq11) eu10 rfl lV_X13_99 ⟨rfl, oky_X13_numberOf⟩ (by decide) (by decide) rfl C1_0 (Nat.le_of_ble_eq_true rfl) dX13_exchange_43 ?_
          refine R_ifeq (tgt := 57) dX13_exchange_46 (by decide) (fun hc => ?_) (fun hc => ?_)
          · rw [if_pos hc] at hf
            refine R_bipush dX13_exchange_57 k_bipush_m2 ?_
            obtain rfl := Option.some.inj hf
            exact R_iretI rfl dX13_exchange_59
          · rw [if_neg hc] at hf
            refine R_aload_n 0 dX13_exchange_49 rfl rfl ?_
            refine R_iload_n 2 dX13_exchange_50 rfl rfl ?_
            obtain ⟨u12, eu12, hf⟩ := Option.bind_eq_some_iff.mp hf
            obtain ⟨q13, eq13, hf⟩ := Option.bind_eq_some_iff.mp hf
            refine R_callV (mj := mi_X13_numberOf) (ci := 11) (q := (RX13, TX13, 24)) (As := [.int x2]) (rest := []) (T_X13_numberOf eq13) eu12 rfl lV_X13_99 ⟨rfl, oky_X13_numberOf⟩ (by decide) (by decide) rfl C1_0 (Nat.le_of_ble_eq_true rfl) dX13_exchange_51 ?_
            refine R_ifne (tgt := 60) dX13_exchange_54 (by decide) (fun hc => ?_) (fun hc => ?_)
            · rw [if_pos hc] at hf
              refine R_bipush dX13_exchange_57 k_bipush_m2 ?_
              obtain rfl := Option.some.inj hf
              exact R_iretI rfl dX13_exchange_59
            · rw [if_neg hc] at hf
              refine R_aload_n 0 dX13_exchange_60 rfl rfl ?_
              obtain ⟨u14, eu14, hf⟩ := Option.bind_eq_some_iff.mp hf
              obtain ⟨h15, eh15, hf⟩ := Option.bind_eq_some_iff.mp hf
              refine R_callV (mj := mi_X13_act) (ci := 11) (q := (RX13, TX13, 24)) (As := []) (rest := []) (T_X13_act eh15) eu14 rfl lV_X13_102 ⟨rfl, oky_X13_act⟩ (by decide) (by decide) rfl C1_0 (Nat.le_of_ble_eq_true rfl) dX13_exchange_61 ?_
              refine R_aload_n 0 dX13_exchange_64 rfl rfl ?_
              refine R_iload_n 1 dX13_exchange_65 rfl rfl ?_
              obtain ⟨u16, eu16, hf⟩ := Option.bind_eq_some_iff.mp hf
              obtain ⟨q17, eq17, hf⟩ := Option.bind_eq_some_iff.mp hf
              refine R_callV (mj := mi_X13_numberOf) (ci := 11) (q := (RX13, TX13, 24)) (As := [.int x1]) (rest := []) (T_X13_numberOf eq17) eu16 rfl lV_X13_99 ⟨rfl, oky_X13_numberOf⟩ (by decide) (by decide) rfl C1_0 (Nat.le_of_ble_eq_true rfl) dX13_exchange_66 ?_
              refine R_istore_n (L' := [(3, .int q17.1), (0, va_rf x0), (1, .int x1), (2, .int x2)]) dX13_exchange_69 rfl (by decide) rfl ?_
              refine R_aload_n 1 dX13_exchange_70 rfl rfl ?_
              obtain ⟨t18, et18, hf⟩ := Option.bind_eq_some_iff.mp hf
              refine R_getr lg_X13_7 et18 dX13_exchange_71 ?_
              refine R_bipush dX13_exchange_74 k_bipush_33 ?_
              refine R_iload_n 2 dX13_exchange_76 rfl rfl ?_
              refine R_iadd dX13_exchange_77 ?_
              refine R_aload_n 1 dX13_exchange_78 rfl rfl ?_
              refine R_iload_n 3 dX13_exchange_79 rfl rfl ?_
              obtain ⟨u19, eu19, hf⟩ := Option.bind_eq_some_iff.mp hf
              obtain ⟨q20, eq20, hf⟩ := Option.bind_eq_some_iff.mp hf
              refine R_callV (mj := mi_X13_numberOf) (ci := 11) (q := (RX13, TX13, 24)) (As := [.int x2]) (rest := [.int (33 + x1), va_rf t18]) (T_X13_numberOf eq20) eu19 rfl lV_X13_99 ⟨rfl, oky_X13_numberOf⟩ (by decide) (by decide) rfl (C1_i (C1_r C1_0)) (Nat.le_of_ble_eq_true rfl) dX13_exchange_80 ?_
              obtain ⟨h21, eh21, hf⟩ := Option.bind_eq_some_iff.mp hf
              refine R_iastore eh21 dX13_exchange_83 ?_
              refine R_aload_n 1 dX13_exchange_84 rfl rfl ?_
              obtain ⟨t22, et22, hf⟩ := Option.bind_eq_some_iff.mp hf
              refine R_getr lg_X13_7 et22 dX13_exchange_85 ?_
              refine R_bipush dX13_exchange_88 k_bipush_33 ?_
              refine R_iload_n 3 dX13_exchange_90 rfl rfl ?_
              refine R_iadd dX13_exchange_91 ?_
              refine R_iload_n 0 dX13_exchange_92 rfl rfl ?_
              obtain ⟨h23, eh23, hf⟩ := Option.bind_eq_some_iff.mp hf
              refine R_iastore eh23 dX13_exchange_93 ?_
              refine R_aload_n 1 dX13_exchange_94 rfl rfl ?_
              obtain ⟨u24, eu24, hf⟩ := Option.bind_eq_some_iff.mp hf
              obtain ⟨h25, eh25, hf⟩ := Option.bind_eq_some_iff.mp hf
              refine R_callV (mj := mi_X13_reset) (ci := 11) (q := (RX13, TX13, 24)) (As := []) (rest := []) (T_X13_reset eh25) eu24 rfl lV_X13_51 ⟨rfl, oky_X13_reset⟩ (by decide) (by decide) rfl C1_0 (Nat.le_of_ble_eq_true rfl) dX13_exchange_95 ?_
              refine R_aload_n 1 dX13_exchange_98 rfl rfl ?_
              refine R_iload_n 2 dX13_exchange_99 rfl rfl ?_
              obtain ⟨u26, eu26, hf⟩ := Option.bind_eq_some_iff.mp hf
              obtain ⟨q27, eq27, hf⟩ := Option.bind_eq_some_iff.mp hf
              refine R_callV (mj := mi_X13_numberOf) (ci := 11) (q := (RX13, TX13, 24)) (As := [.int x1]) (rest := []) (T_X13_numberOf eq27) eu26 rfl lV_X13_99 ⟨rfl, oky_X13_numberOf⟩ (by decide) (by decide) rfl C1_0 (Nat.le_of_ble_eq_true rfl) dX13_exchange_100 ?_
              obtain rfl := Option.some.inj hf
              exact R_iretI rfl dX13_exchange_103
        · rw [if_neg hc] at hf
          refine R_bipush dX13_exchange_57 k_bipush_m2 ?_
          obtain rfl := Option.some.inj hf
          exact R_iretI rfl dX13_exchange_59
abbrev mi_X13_givenMany : MI := (RX13, yX13_givenMany, cX13_givenMany, 3, (some FieldType.int), 2)
noncomputable def f_X13_givenMany_L4  : Nat → Option Nat → Int32 → Int32 → PH → Option (Int32 × PH)
  | 0, _, _, _, _ => none
  | k + 1, x0, x1, x2, h => (rcv 11 x0 h).bind (fun u1 => (f_X13_cells x0 h).bind (fun q2 => if q2.1 ≤ x2 then (some (x1, q2.2)) else ((gfr 11 1 x0 q2.2).bind (fun t3 => (ald 0 t3 (58 + x2) q2.2).bind (fun t4 => (f_X13_givenMany_L4 k) x0 (x1 + t4) (x2 + 1) q2.2)))))
theorem f_X13_givenMany_L4_ok {K : KT} {h0 : PH} {a0 : List Value} {q : (Int32 × PH)}  : ∀ (k : Nat) (x0 : Option Nat) (x1 : Int32) (x2 : Int32) (h : PH), f_X13_givenMany_L4  k x0 x1 x2 h = some q → R K mi_X13_givenMany h0 a0 (.inl (some (.int q.1))) q.2 4 [(0, va_rf x0), (1, .int x1), (2, .int x2)] [] h := by
  intro k
  induction k with
  | zero => intro _ _ _ _ hf; cases hf
  | succ k ih =>
    intro x0 x1 x2 h hf
    unfold f_X13_givenMany_L4 at hf
    refine R_iload_n 2 dX13_givenMany_4 rfl rfl ?_
    refine R_aload_n 0 dX13_givenMany_5 rfl rfl ?_
    obtain ⟨u1, eu1, hf⟩ := Option.bind_eq_some_iff.mp hf
    obtain ⟨q2, eq2, hf⟩ := Option.bind_eq_some_iff.mp hf
    refine R_callV (mj := mi_X13_cells) (ci := 11) (q := (RX13, TX13, 24)) (As := []) (rest := [.int x2]) (T_X13_cells eq2) eu1 rfl lV_X13_61 ⟨rfl, oky_X13_cells⟩ (by decide) (by decide) rfl (C1_i C1_0) (Nat.le_of_ble_eq_true rfl) dX13_givenMany_6 ?_
    refine R_icge (tgt := 30) dX13_givenMany_9 (by decide) (fun hc => ?_) (fun hc => ?_)
    · rw [if_pos hc] at hf
      refine R_iload_n 1 dX13_givenMany_30 rfl rfl ?_
      obtain rfl := Option.some.inj hf
      exact R_iretI rfl dX13_givenMany_31
    · rw [if_neg hc] at hf
      refine R_iload_n 1 dX13_givenMany_12 rfl rfl ?_
      refine R_aload_n 0 dX13_givenMany_13 rfl rfl ?_
      obtain ⟨t3, et3, hf⟩ := Option.bind_eq_some_iff.mp hf
      refine R_getr lg_X13_7 et3 dX13_givenMany_14 ?_
      refine R_bipush dX13_givenMany_17 k_bipush_58 ?_
      refine R_iload_n 2 dX13_givenMany_19 rfl rfl ?_
      refine R_iadd dX13_givenMany_20 ?_
      obtain ⟨t4, et4, hf⟩ := Option.bind_eq_some_iff.mp hf
      refine R_iaload et4 dX13_givenMany_21 ?_
      refine R_iadd dX13_givenMany_22 ?_
      refine R_istore_n (L' := [(1, .int (x1 + t4)), (0, va_rf x0), (2, .int x2)]) dX13_givenMany_23 rfl (by decide) rfl ?_
      refine R_iinc (L' := [(2, .int (x2 + 1)), (1, .int (x1 + t4)), (0, va_rf x0)]) 2 dX13_givenMany_24 rfl (k_inc_1 _) (by decide) rfl ?_
      refine R_goto (tgt := 4) dX13_givenMany_27 (by decide) ?_
      refine R.sub [2, 1, 0] (L' := [(0, va_rf x0), (1, .int (x1 + t4)), (2, .int (x2 + 1))]) rfl ?_
      exact ih x0 (x1 + t4) (x2 + 1) q2.2 hf
noncomputable def f_X13_givenMany (x0 : Option Nat) (h : PH) : Option (Int32 × PH) := f_X13_givenMany_L4  FU x0 0 0 h
theorem T_X13_givenMany {K : KT} {x0 : Option Nat} {h : PH} {q : (Int32 × PH)} (hf : f_X13_givenMany x0 h = some q) : T K mi_X13_givenMany [va_rf x0] h (.inl (some (.int q.1))) q.2 := by
  unfold f_X13_givenMany at hf
  refine T_of (by decide +kernel) rfl (C1_r C1_0) (Nat.le_of_ble_eq_true rfl) ?_
  show R K mi_X13_givenMany h [va_rf x0] _ _ 0 [(0, va_rf x0)] [] h
  refine R_iconst dX13_givenMany_0 k_iconst_0 ?_
  refine R_istore_n (L' := [(1, .int 0), (0, va_rf x0)]) dX13_givenMany_1 rfl (by decide) rfl ?_
  refine R_iconst dX13_givenMany_2 k_iconst_0 ?_
  refine R_istore_n (L' := [(2, .int 0), (1, .int 0), (0, va_rf x0)]) dX13_givenMany_3 rfl (by decide) rfl ?_
  refine R.sub [2, 1, 0] (L' := [(0, va_rf x0), (1, .int 0), (2, .int 0)]) rfl ?_
  exact f_X13_givenMany_L4_ok  FU x0 0 0 h hf
theorem lV_X13_213 : GoodIn lw_all (wsV "EdgeSumsModel" 213 "EdgeSumsModel" yX13_givenMany (ws_ yX13_givenMany cX13_givenMany 3 (some FieldType.int))) := lw_V q2822 q2824 qs71 q158 q2825
theorem oky_X13_givenMany : okY yX13_givenMany 0 := ⟨by decide +kernel, by decide +kernel, by decide +kernel⟩
abbrev mi_X13_give : MI := (RX13, yX13_give, cX13_give, 3, (some FieldType.int), 6)
noncomputable def f_X13_give_B40  (x0 : Option Nat) (x1 : Int32) (x2 : Int32) (h : PH) : Option (Int32 × PH) := (rcv 11 x0 h).bind (fun u1 => (f_X13_act x0 h).bind (fun h2 => (gfr 11 1 x0 h2).bind (fun t3 => (asi 0 t3 (58 + x1) x2 h2).bind (fun h4 => (rcv 11 x0 h4).bind (fun u5 => (f_X13_reset x0 h4).bind (fun h6 => (rcv 11 x0 h6).bind (fun u7 => (f_X13_givenMany x0 h6).bind (fun q8 => some (q8.1, q8.2)))))))))
theorem f_X13_give_B40_ok {K : KT} {h0 : PH} {a0 : List Value} {q : (Int32 × PH)}  (x0 : Option Nat) (x1 : Int32) (x2 : Int32) (h : PH) (hf : f_X13_give_B40  x0 x1 x2 h = some q) : R K mi_X13_give h0 a0 (.inl (some (.int q.1))) q.2 40 [(0, va_rf x0), (1, .int x1), (2, .int x2)] [] h := by
  unfold f_X13_give_B40 at hf
  refine R_aload_n 0 dX13_give_40 rfl rfl ?_
  obtain ⟨u1, eu1, hf⟩ := Option.bind_eq_some_iff.mp hf
  obtain ⟨h2, eh2, hf⟩ := Option.bind_eq_some_iff.mp hf
  refine R_callV (mj := mi_X13_act) (ci := 11) (q := (RX13, TX13, 24)) (As := []) (rest := []) (T_X13_act eh2) eu1 rfl lV_X13_102 ⟨rfl, oky_X13_act⟩ (by decide) (by decide) rfl C1_0 (Nat.le_of_ble_eq_true rfl) dX13_give_41 ?_
  refine R_aload_n 0 dX13_give_44 rfl rfl ?_
  obtain ⟨t3, et3, hf⟩ := Option.bind_eq_some_iff.mp hf
  refine R_getr lg_X13_7 et3 dX13_give_45 ?_
  refine R_bipush dX13_give_48 k_bipush_58 ?_
  refine R_iload_n 1 dX13_give_50 rfl rfl ?_
  refine R_iadd dX13_give_51 ?_
  refine R_iload_n 2 dX13_give_52 rfl rfl ?_
  obtain ⟨h4, eh4, hf⟩ := Option.bind_eq_some_iff.mp hf
  refine R_iastore eh4 dX13_give_53 ?_
  refine R_aload_n 0 dX13_give_54 rfl rfl ?_
  obtain ⟨u5, eu5, hf⟩ := Option.bind_eq_some_iff.mp hf
  obtain ⟨h6, eh6, hf⟩ := Option.bind_eq_some_iff.mp hf
  refine R_callV (mj := mi_X13_reset) (ci := 11) (q := (RX13, TX13, 24)) (As := []) (rest := []) (T_X13_reset eh6) eu5 rfl lV_X13_51 ⟨rfl, oky_X13_reset⟩ (by decide) (by decide) rfl C1_0 (Nat.le_of_ble_eq_true rfl) dX13_give_55 ?_
  refine R_aload_n 0 dX13_give_58 rfl rfl ?_
  obtain ⟨u7, eu7, hf⟩ := Option.bind_eq_some_iff.mp hf
  obtain ⟨q8, eq8, hf⟩ := Option.bind_eq_some_iff.mp hf
  refine R_callV (mj := mi_X13_givenMany) (ci := 11) (q := (RX13, TX13, 24)) (As := []) (rest := []) (T_X13_givenMany eq8) eu7 rfl lV_X13_213 ⟨rfl, oky_X13_givenMany⟩ (by decide) (by decide) rfl C1_0 (Nat.le_of_ble_eq_true rfl) dX13_give_59 ?_
  obtain rfl := Option.some.inj hf
  exact R_iretI rfl dX13_give_62
noncomputable def f_X13_give (x0 : Option Nat) (x1 : Int32) (x2 : Int32) (h : PH) : Option (Int32 × PH) := (pf 11 0 x0 (.int 0) h).bind (fun h1 => (rcv 11 x0 h1).bind (fun u2 => (f_X13_isCell x0 x1 h1).bind (fun q3 => if q3.1 = 0 then (some ((-1), q3.2)) else ((f_X13_in x2 0 1 q3.2).bind (fun q4 => if q4.1 = 0 then (some ((-1), q4.2)) else (if x2 = 1 then ((rcv 11 x0 q4.2).bind (fun u5 => (f_X13_numberOf x0 x1 q4.2).bind (fun q6 => if q6.1 = 0 then (some ((-2), q6.2)) else (f_X13_give_B40  x0 x1 x2 q6.2)))) else (f_X13_give_B40  x0 x1 x2 q4.2)))))))
theorem T_X13_give {K : KT} {x0 : Option Nat} {x1 : Int32} {x2 : Int32} {h : PH} {q : (Int32 × PH)} (hf : f_X13_give x0 x1 x2 h = some q) : T K mi_X13_give [va_rf x0, .int x1, .int x2] h (.inl (some (.int q.1))) q.2 := by
  unfold f_X13_give at hf
  refine T_of (by decide +kernel) rfl (C1_r (C1_i (C1_i C1_0))) (Nat.le_of_ble_eq_true rfl) ?_
  show R K mi_X13_give h [va_rf x0, .int x1, .int x2] _ _ 0 [(0, va_rf x0), (1, .int x1), (2, .int x2)] [] h
  refine R_aload_n 0 dX13_give_0 rfl rfl ?_
  refine R_iconst dX13_give_1 k_iconst_0 ?_
  obtain ⟨h1, eh1, hf⟩ := Option.bind_eq_some_iff.mp hf
  refine R_putI (fp_X13_43 rfl) eh1 dX13_give_2 ?_
  refine R_aload_n 0 dX13_give_5 rfl rfl ?_
  refine R_iload_n 1 dX13_give_6 rfl rfl ?_
  obtain ⟨u2, eu2, hf⟩ := Option.bind_eq_some_iff.mp hf
  obtain ⟨q3, eq3, hf⟩ := Option.bind_eq_some_iff.mp hf
  refine R_callV (mj := mi_X13_isCell) (ci := 11) (q := (RX13, TX13, 24)) (As := [.int x1]) (rest := []) (T_X13_isCell eq3) eu2 rfl lV_X13_108 ⟨rfl, oky_X13_isCell⟩ (by decide) (by decide) rfl C1_0 (Nat.le_of_ble_eq_true rfl) dX13_give_7 ?_
  refine R_ifeq (tgt := 22) dX13_give_10 (by decide) (fun hc => ?_) (fun hc => ?_)
  · rw [if_pos hc] at hf
    refine R_iconst dX13_give_22 k_iconst_m1 ?_
    obtain rfl := Option.some.inj hf
    exact R_iretI rfl dX13_give_23
  · rw [if_neg hc] at hf
    refine R_iload_n 2 dX13_give_13 rfl rfl ?_
    refine R_iconst dX13_give_14 k_iconst_0 ?_
    refine R_iconst dX13_give_15 k_iconst_1 ?_
    obtain ⟨q4, eq4, hf⟩ := Option.bind_eq_some_iff.mp hf
    refine R_callS (mj := mi_X13_in) (As := [.int x2, .int 0, .int 1]) (rest := []) (T_X13_in eq4) lS_X13_65 oky_X13_in (by decide) (by decide) rfl C1_0 (Nat.le_of_ble_eq_true rfl) dX13_give_16 ?_
    refine R_ifne (tgt := 24) dX13_give_19 (by decide) (fun hc => ?_) (fun hc => ?_)
    · rw [if_pos hc] at hf
      refine R_iconst dX13_give_22 k_iconst_m1 ?_
      obtain rfl := Option.some.inj hf
      exact R_iretI rfl dX13_give_23
    · rw [if_neg hc] at hf
      refine R_iload_n 2 dX13_give_24 rfl rfl ?_
      refine R_iconst dX13_give_25 k_iconst_1 ?_
      refine R_icne (tgt := 40) dX13_give_26 (by decide) (fun hc => ?_) (fun hc => ?_)
      · rw [if_pos hc] at hf
        refine R_aload_n 0 dX13_give_29 rfl rfl ?_
        refine R_iload_n 1 dX13_give_30 rfl rfl ?_
        obtain ⟨u5, eu5, hf⟩ := Option.bind_eq_some_iff.mp hf
        obtain ⟨q6, eq6, hf⟩ := Option.bind_eq_some_iff.mp hf
        refine R_callV (mj := mi_X13_numberOf) (ci := 11) (q := (RX13, TX13, 24)) (As := [.int x1]) (rest := []) (T_X13_numberOf eq6) eu5 rfl lV_X13_99 ⟨rfl, oky_X13_numberOf⟩ (by decide) (by decide) rfl C1_0 (Nat.le_of_ble_eq_true rfl) dX13_give_31 ?_
        refine R_ifne (tgt := 40) dX13_give_34 (by decide) (fun hc => ?_) (fun hc => ?_)
        · rw [if_pos hc] at hf
          refine R_bipush dX13_give_37 k_bipush_m2 ?_
          obtain rfl := Option.some.inj hf
          exact R_iretI rfl dX13_give_39
        · rw [if_neg hc] at hf
          exact f_X13_give_B40_ok  x0 x1 x2 q6.2 hf
      · rw [if_neg hc] at hf
        exact f_X13_give_B40_ok  x0 x1 x2 q4.2 hf
abbrev mi_X13_isLine : MI := (RX13, yX13_isLine, cX13_isLine, 2, (some FieldType.boolean), 2)
noncomputable def f_X13_isLine (x0 : Option Nat) (x1 : Int32) (h : PH) : Option (Int32 × PH) := (rcv 11 x0 h).bind (fun u1 => (f_X13_lines x0 h).bind (fun q2 => (f_X13_in x1 0 (q2.1 - 1) q2.2).bind (fun q3 => (gb q3.1).bind (fun u4 => some (q3.1, q3.2)))))
theorem T_X13_isLine {K : KT} {x0 : Option Nat} {x1 : Int32} {h : PH} {q : (Int32 × PH)} (hf : f_X13_isLine x0 x1 h = some q) : T K mi_X13_isLine [va_rf x0, .int x1] h (.inl (some (.int q.1))) q.2 := by
  unfold f_X13_isLine at hf
  refine T_of (by decide +kernel) rfl (C1_r (C1_i C1_0)) (Nat.le_of_ble_eq_true rfl) ?_
  show R K mi_X13_isLine h [va_rf x0, .int x1] _ _ 0 [(0, va_rf x0), (1, .int x1)] [] h
  refine R_iload_n 1 dX13_isLine_0 rfl rfl ?_
  refine R_iconst dX13_isLine_1 k_iconst_0 ?_
  refine R_aload_n 0 dX13_isLine_2 rfl rfl ?_
  obtain ⟨u1, eu1, hf⟩ := Option.bind_eq_some_iff.mp hf
  obtain ⟨q2, eq2, hf⟩ := Option.bind_eq_some_iff.mp hf
  refine R_callV (mj := mi_X13_lines) (ci := 11) (q := (RX13, TX13, 24)) (As := []) (rest := [.int 0, .int x1]) (T_X13_lines eq2) eu1 rfl lV_X13_69 ⟨rfl, oky_X13_lines⟩ (by decide) (by decide) rfl (C1_i (C1_i C1_0)) (Nat.le_of_ble_eq_true rfl) dX13_isLine_3 ?_
  refine R_iconst dX13_isLine_6 k_iconst_1 ?_
  refine R_isub dX13_isLine_7 ?_
  obtain ⟨q3, eq3, hf⟩ := Option.bind_eq_some_iff.mp hf
  refine R_callS (mj := mi_X13_in) (As := [.int x1, .int 0, .int (q2.1 - 1)]) (rest := []) (T_X13_in eq3) lS_X13_65 oky_X13_in (by decide) (by decide) rfl C1_0 (Nat.le_of_ble_eq_true rfl) dX13_isLine_8 ?_
  obtain ⟨u4, eu4, hf⟩ := Option.bind_eq_some_iff.mp hf
  obtain rfl := Option.some.inj hf
  exact R_iretZ eu4 rfl dX13_isLine_11
abbrev mi_X13_cellsOf : MI := (RX13, yX13_cellsOf, cX13_cellsOf, 2, (some FieldType.int), 1)
noncomputable def f_X13_cellsOf (x0 : Option Nat) (x1 : Int32) (h : PH) : Option (Int32 × PH) := (gfr 11 1 x0 h).bind (fun t1 => (ald 0 t1 0 h).bind (fun t2 => if t2 ≤ x1 then ((gfr 11 1 x0 h).bind (fun t3 => (ald 0 t3 0 h).bind (fun t4 => some (t4, h)))) else ((gfr 11 1 x0 h).bind (fun t5 => (ald 0 t5 1 h).bind (fun t6 => some (t6, h))))))
theorem T_X13_cellsOf {K : KT} {x0 : Option Nat} {x1 : Int32} {h : PH} {q : (Int32 × PH)} (hf : f_X13_cellsOf x0 x1 h = some q) : T K mi_X13_cellsOf [va_rf x0, .int x1] h (.inl (some (.int q.1))) q.2 := by
  unfold f_X13_cellsOf at hf
  refine T_of (by decide +kernel) rfl (C1_r (C1_i C1_0)) (Nat.le_of_ble_eq_true rfl) ?_
  show R K mi_X13_cellsOf h [va_rf x0, .int x1] _ _ 0 [(0, va_rf x0), (1, .int x1)] [] h
  refine R_iload_n 1 dX13_cellsOf_0 rfl rfl ?_
  refine R_aload_n 0 dX13_cellsOf_1 rfl rfl ?_
  obtain ⟨t1, et1, hf⟩ := Option.bind_eq_some_iff.mp hf
  refine R_getr lg_X13_7 et1 dX13_cellsOf_2 ?_
  refine R_iconst dX13_cellsOf_5 k_iconst_0 ?_
  obtain ⟨t2, et2, hf⟩ := Option.bind_eq_some_iff.mp hf
  refine R_iaload et2 dX13_cellsOf_6 ?_
  refine R_icge (tgt := 19) dX13_cellsOf_7 (by decide) (fun hc => ?_) (fun hc => ?_)
  · rw [if_pos hc] at hf
    refine R_aload_n 0 dX13_cellsOf_19 rfl rfl ?_
    obtain ⟨t3, et3, hf⟩ := Option.bind_eq_some_iff.mp hf
    refine R_getr lg_X13_7 et3 dX13_cellsOf_20 ?_
    refine R_iconst dX13_cellsOf_23 k_iconst_0 ?_
    obtain ⟨t4, et4, hf⟩ := Option.bind_eq_some_iff.mp hf
    refine R_iaload et4 dX13_cellsOf_24 ?_
    obtain rfl := Option.some.inj hf
    exact R_iretI rfl dX13_cellsOf_25
  · rw [if_neg hc] at hf
    refine R_aload_n 0 dX13_cellsOf_10 rfl rfl ?_
    obtain ⟨t5, et5, hf⟩ := Option.bind_eq_some_iff.mp hf
    refine R_getr lg_X13_7 et5 dX13_cellsOf_11 ?_
    refine R_iconst dX13_cellsOf_14 k_iconst_1 ?_
    obtain ⟨t6, et6, hf⟩ := Option.bind_eq_some_iff.mp hf
    refine R_iaload et6 dX13_cellsOf_15 ?_
    refine R_goto (tgt := 25) dX13_cellsOf_16 (by decide) ?_
    obtain rfl := Option.some.inj hf
    exact R_iretI rfl dX13_cellsOf_25
abbrev mi_X13_cellOf : MI := (RX13, yX13_cellOf, cX13_cellOf, 3, (some FieldType.int), 1)
noncomputable def f_X13_cellOf (x0 : Option Nat) (x1 : Int32) (x2 : Int32) (h : PH) : Option (Int32 × PH) := (gfr 11 1 x0 h).bind (fun t1 => (ald 0 t1 0 h).bind (fun t2 => if t2 ≤ x1 then ((gfr 11 1 x0 h).bind (fun t3 => (ald 0 t3 1 h).bind (fun t4 => (gfr 11 1 x0 h).bind (fun t5 => (ald 0 t5 0 h).bind (fun t6 => some (((t4 * x2) + x1) - t6, h)))))) else ((gfr 11 1 x0 h).bind (fun t7 => (ald 0 t7 1 h).bind (fun t8 => some ((t8 * x1) + x2, h))))))
theorem T_X13_cellOf {K : KT} {x0 : Option Nat} {x1 : Int32} {x2 : Int32} {h : PH} {q : (Int32 × PH)} (hf : f_X13_cellOf x0 x1 x2 h = some q) : T K mi_X13_cellOf [va_rf x0, .int x1, .int x2] h (.inl (some (.int q.1))) q.2 := by
  unfold f_X13_cellOf at hf
  refine T_of (by decide +kernel) rfl (C1_r (C1_i (C1_i C1_0))) (Nat.le_of_ble_eq_true rfl) ?_
  show R K mi_X13_cellOf h [va_rf x0, .int x1, .int x2] _ _ 0 [(0, va_rf x0), (1, .int x1), (2, .int x2)] [] h
  refine R_iload_n 1 dX13_cellOf_0 rfl rfl ?_
  refine R_aload_n 0 dX13_cellOf_1 rfl rfl ?_
  obtain ⟨t1, et1, hf⟩ := Option.bind_eq_some_iff.mp hf
  refine R_getr lg_X13_7 et1 dX13_cellOf_2 ?_
  refine R_iconst dX13_cellOf_5 k_iconst_0 ?_
  obtain ⟨t2, et2, hf⟩ := Option.bind_eq_some_iff.mp hf
  refine R_iaload et2 dX13_cellOf_6 ?_
  refine R_icge (tgt := 23) dX13_cellOf_7 (by decide) (fun hc => ?_) (fun hc => ?_)
  · rw [if_pos hc] at hf
    refine R_aload_n 0 dX13_cellOf_23 rfl rfl ?_
    obtain ⟨t3, et3, hf⟩ := Option.bind_eq_some_iff.mp hf
    refine R_getr lg_X13_7 et3 dX13_cellOf_24 ?_
    refine R_iconst dX13_cellOf_27 k_iconst_1 ?_
    obtain ⟨t4, et4, hf⟩ := Option.bind_eq_some_iff.mp hf
    refine R_iaload et4 dX13_cellOf_28 ?_
    refine R_iload_n 2 dX13_cellOf_29 rfl rfl ?_
    refine R_imul dX13_cellOf_30 ?_
    refine R_iload_n 1 dX13_cellOf_31 rfl rfl ?_
    refine R_iadd dX13_cellOf_32 ?_
    refine R_aload_n 0 dX13_cellOf_33 rfl rfl ?_
    obtain ⟨t5, et5, hf⟩ := Option.bind_eq_some_iff.mp hf
    refine R_getr lg_X13_7 et5 dX13_cellOf_34 ?_
    refine R_iconst dX13_cellOf_37 k_iconst_0 ?_
    obtain ⟨t6, et6, hf⟩ := Option.bind_eq_some_iff.mp hf
    refine R_iaload et6 dX13_cellOf_38 ?_
    refine R_isub dX13_cellOf_39 ?_
    obtain rfl := Option.some.inj hf
    exact R_iretI rfl dX13_cellOf_40
  · rw [if_neg hc] at hf
    refine R_aload_n 0 dX13_cellOf_10 rfl rfl ?_
    obtain ⟨t7, et7, hf⟩ := Option.bind_eq_some_iff.mp hf
    refine R_getr lg_X13_7 et7 dX13_cellOf_11 ?_
    refine R_iconst dX13_cellOf_14 k_iconst_1 ?_
    obtain ⟨t8, et8, hf⟩ := Option.bind_eq_some_iff.mp hf
    refine R_iaload et8 dX13_cellOf_15 ?_
    refine R_iload_n 1 dX13_cellOf_16 rfl rfl ?_
    refine R_imul dX13_cellOf_17 ?_
    refine R_iload_n 2 dX13_cellOf_18 rfl rfl ?_
    refine R_iadd dX13_cellOf_19 ?_
    refine R_goto (tgt := 40) dX13_cellOf_20 (by decide) ?_
    obtain rfl := Option.some.inj hf
    exact R_iretI rfl dX13_cellOf_40
theorem lV_X13_93 : GoodIn lw_all (wsV "EdgeSumsModel" 93 "EdgeSumsModel" yX13_cellsOf (ws_ yX13_cellsOf cX13_cellsOf 2 (some FieldType.int))) := lw_V q2838 q2840 qs74 q158 q2841
theorem oky_X13_cellsOf : okY yX13_cellsOf 1 := ⟨by decide +kernel, by decide +kernel, by decide +kernel⟩
theorem lV_X13_96 : GoodIn lw_all (wsV "EdgeSumsModel" 96 "EdgeSumsModel" yX13_cellOf (ws_ yX13_cellOf cX13_cellOf 3 (some FieldType.int))) := lw_V q2842 q2844 qs75 q158 q2845
theorem oky_X13_cellOf : okY yX13_cellOf 2 := ⟨by decide +kernel, by decide +kernel, by decide +kernel⟩
abbrev mi_X13_canShow : MI := (RX13, yX13_canShow, cX13_canShow, 4, (some FieldType.boolean), 2)
noncomputable def f_X13_canShow_L4  : Nat → Option Nat → Int32 → Int32 → Int32 → PH → Option (Int32 × PH)
  | 0, _, _, _, _, _ => none
  | k + 1, x0, x1, x2, x3, h => (rcv 11 x0 h).bind (fun u1 => (f_X13_cellsOf x0 x1 h).bind (fun q2 => if q2.1 ≤ x3 then ((gb x2).bind (fun u3 => some (x2, q2.2))) else (if x2 = 0 then ((f_X13_canShow_L4 k) x0 x1 0 (x3 + 1) q2.2) else ((rcv 11 x0 q2.2).bind (fun u4 => (f_X13_cellOf x0 x1 x3 q2.2).bind (fun q5 => (rcv 11 x0 q5.2).bind (fun u6 => (f_X13_numberOf x0 q5.1 q5.2).bind (fun q7 => if q7.1 = 0 then ((f_X13_canShow_L4 k) x0 x1 0 (x3 + 1) q7.2) else ((f_X13_canShow_L4 k) x0 x1 1 (x3 + 1) q7.2)))))))))
theorem f_X13_canShow_L4_ok {K : KT} {h0 : PH} {a0 : List Value} {q : (Int32 × PH)}  : ∀ (k : Nat) (x0 : Option Nat) (x1 : Int32) (x2 : Int32) (x3 : Int32) (h : PH), f_X13_canShow_L4  k x0 x1 x2 x3 h = some q → R K mi_X13_canShow h0 a0 (.inl (some (.int q.1))) q.2 4 [(0, va_rf x0), (1, .int x1), (2, .int x2), (3, .int x3)] [] h := by
  intro k
  induction k with
  | zero => intro _ _ _ _ _ hf; cases hf
  | succ k ih =>
    intro x0 x1 x2 x3 h hf
    unfold f_X13_canShow_L4 at hf
    refine R_iload_n 3 dX13_canShow_4 rfl rfl ?_
    refine R_aload_n 0 dX13_canShow_5 rfl rfl ?_
    refine R_iload_n 1 dX13_canShow_6 rfl rfl ?_
    obtain ⟨u1, eu1, hf⟩ := Option.bind_eq_some_iff.mp hf
    obtain ⟨q2, eq2, hf⟩ := Option.bind_eq_some_iff.mp hf
    refine R_callV (mj := mi_X13_cellsOf) (ci := 11) (q := (RX13, TX13, 24)) (As := [.int x1]) (rest := [.int x3]) (T_X13_cellsOf eq2) eu1 rfl lV_X13_93 ⟨rfl, oky_X13_cellsOf⟩ (by decide) (by decide) rfl (C1_i C1_0) (Nat.le_of_ble_eq_true rfl) dX13_canShow_7 ?_
    refine R_icge (tgt := 42) dX13_canShow_10 (by decide) (fun hc => ?_) (fun hc => ?_)
    · rw [if_pos hc] at hf
      refine R_iload_n 2 dX13_canShow_42 rfl rfl ?_
      obtain ⟨u3, eu3, hf⟩ := Option.bind_eq_some_iff.mp hf
      obtain rfl := Option.some.inj hf
      exact R_iretZ eu3 rfl dX13_canShow_43
    · rw [if_neg hc] at hf
      refine R_iload_n 2 dX13_canShow_13 rfl rfl ?_
      refine R_ifeq (tgt := 34) dX13_canShow_14 (by decide) (fun hc => ?_) (fun hc => ?_)
      · rw [if_pos hc] at hf
        refine R_iconst dX13_canShow_34 k_iconst_0 ?_
        refine R_istore_n (L' := [(2, .int 0), (0, va_rf x0), (1, .int x1), (3, .int x3)]) dX13_canShow_35 rfl (by decide) rfl ?_
        refine R_iinc (L' := [(3, .int (x3 + 1)), (2, .int 0), (0, va_rf x0), (1, .int x1)]) 3 dX13_canShow_36 rfl (k_inc_1 _) (by decide) rfl ?_
        refine R_goto (tgt := 4) dX13_canShow_39 (by decide) ?_
        refine R.sub [2, 3, 1, 0] (L' := [(0, va_rf x0), (1, .int x1), (2, .int 0), (3, .int (x3 + 1))]) rfl ?_
        exact ih x0 x1 0 (x3 + 1) q2.2 hf
      · rw [if_neg hc] at hf
        refine R_aload_n 0 dX13_canShow_17 rfl rfl ?_
        refine R_aload_n 0 dX13_canShow_18 rfl rfl ?_
        refine R_iload_n 1 dX13_canShow_19 rfl rfl ?_
        refine R_iload_n 3 dX13_canShow_20 rfl rfl ?_
        obtain ⟨u4, eu4, hf⟩ := Option.bind_eq_some_iff.mp hf
        obtain ⟨q5, eq5, hf⟩ := Option.bind_eq_some_iff.mp hf
        refine R_callV (mj := mi_X13_cellOf) (ci := 11) (q := (RX13, TX13, 24)) (As := [.int x1, .int x3]) (rest := [va_rf x0]) (T_X13_cellOf eq5) eu4 rfl lV_X13_96 ⟨rfl, oky_X13_cellOf⟩ (by decide) (by decide) rfl (C1_r C1_0) (Nat.le_of_ble_eq_true rfl) dX13_canShow_21 ?_
        obtain ⟨u6, eu6, hf⟩ := Option.bind_eq_some_iff.mp hf
        obtain ⟨q7, eq7, hf⟩ := Option.bind_eq_some_iff.mp hf
        refine R_callV (mj := mi_X13_numberOf) (ci := 11) (q := (RX13, TX13, 24)) (As := [.int q5.1]) (rest := []) (T_X13_numberOf eq7) eu6 rfl lV_X13_99 ⟨rfl, oky_X13_numberOf⟩ (by decide) (by decide) rfl C1_0 (Nat.le_of_ble_eq_true rfl) dX13_canShow_24 ?_
        refine R_ifeq (tgt := 34) dX13_canShow_27 (by decide) (fun hc => ?_) (fun hc => ?_)
        · rw [if_pos hc] at hf
          refine R_iconst dX13_canShow_34 k_iconst_0 ?_
          refine R_istore_n (L' := [(2, .int 0), (0, va_rf x0), (1, .int x1), (3, .int x3)]) dX13_canShow_35 rfl (by decide) rfl ?_
          refine R_iinc (L' := [(3, .int (x3 + 1)), (2, .int 0), (0, va_rf x0), (1, .int x1)]) 3 dX13_canShow_36 rfl (k_inc_1 _) (by decide) rfl ?_
          refine R_goto (tgt := 4) dX13_canShow_39 (by decide) ?_
          refine R.sub [2, 3, 1, 0] (L' := [(0, va_rf x0), (1, .int x1), (2, .int 0), (3, .int (x3 + 1))]) rfl ?_
          exact ih x0 x1 0 (x3 + 1) q7.2 hf
        · rw [if_neg hc] at hf
          refine R_iconst dX13_canShow_30 k_iconst_1 ?_
          refine R_goto (tgt := 35) dX13_canShow_31 (by decide) ?_
          refine R_istore_n (L' := [(2, .int 1), (0, va_rf x0), (1, .int x1), (3, .int x3)]) dX13_canShow_35 rfl (by decide) rfl ?_
          refine R_iinc (L' := [(3, .int (x3 + 1)), (2, .int 1), (0, va_rf x0), (1, .int x1)]) 3 dX13_canShow_36 rfl (k_inc_1 _) (by decide) rfl ?_
          refine R_goto (tgt := 4) dX13_canShow_39 (by decide) ?_
          refine R.sub [2, 3, 1, 0] (L' := [(0, va_rf x0), (1, .int x1), (2, .int 1), (3, .int (x3 + 1))]) rfl ?_
          exact ih x0 x1 1 (x3 + 1) q7.2 hf
noncomputable def f_X13_canShow (x0 : Option Nat) (x1 : Int32) (h : PH) : Option (Int32 × PH) := f_X13_canShow_L4  FU x0 x1 1 0 h
theorem T_X13_canShow {K : KT} {x0 : Option Nat} {x1 : Int32} {h : PH} {q : (Int32 × PH)} (hf : f_X13_canShow x0 x1 h = some q) : T K mi_X13_canShow [va_rf x0, .int x1] h (.inl (some (.int q.1))) q.2 := by
  unfold f_X13_canShow at hf
  refine T_of (by decide +kernel) rfl (C1_r (C1_i C1_0)) (Nat.le_of_ble_eq_true rfl) ?_
  show R K mi_X13_canShow h [va_rf x0, .int x1] _ _ 0 [(0, va_rf x0), (1, .int x1)] [] h
  refine R_iconst dX13_canShow_0 k_iconst_1 ?_
  refine R_istore_n (L' := [(2, .int 1), (0, va_rf x0), (1, .int x1)]) dX13_canShow_1 rfl (by decide) rfl ?_
  refine R_iconst dX13_canShow_2 k_iconst_0 ?_
  refine R_istore_n (L' := [(3, .int 0), (2, .int 1), (0, va_rf x0), (1, .int x1)]) dX13_canShow_3 rfl (by decide) rfl ?_
  refine R.sub [2, 3, 1, 0] (L' := [(0, va_rf x0), (1, .int x1), (2, .int 1), (3, .int 0)]) rfl ?_
  exact f_X13_canShow_L4_ok  FU x0 x1 1 0 h hf
abbrev mi_X13_shownMany : MI := (RX13, yX13_shownMany, cX13_shownMany, 3, (some FieldType.int), 2)
noncomputable def f_X13_shownMany_L4  : Nat → Option Nat → Int32 → Int32 → PH → Option (Int32 × PH)
  | 0, _, _, _, _ => none
  | k + 1, x0, x1, x2, h => (rcv 11 x0 h).bind (fun u1 => (f_X13_lines x0 h).bind (fun q2 => if q2.1 ≤ x2 then (some (x1, q2.2)) else ((gfr 11 1 x0 q2.2).bind (fun t3 => (ald 0 t3 (83 + x2) q2.2).bind (fun t4 => (f_X13_shownMany_L4 k) x0 (x1 + t4) (x2 + 1) q2.2)))))
theorem f_X13_shownMany_L4_ok {K : KT} {h0 : PH} {a0 : List Value} {q : (Int32 × PH)}  : ∀ (k : Nat) (x0 : Option Nat) (x1 : Int32) (x2 : Int32) (h : PH), f_X13_shownMany_L4  k x0 x1 x2 h = some q → R K mi_X13_shownMany h0 a0 (.inl (some (.int q.1))) q.2 4 [(0, va_rf x0), (1, .int x1), (2, .int x2)] [] h := by
  intro k
  induction k with
  | zero => intro _ _ _ _ hf; cases hf
  | succ k ih =>
    intro x0 x1 x2 h hf
    unfold f_X13_shownMany_L4 at hf
    refine R_iload_n 2 dX13_shownMany_4 rfl rfl ?_
    refine R_aload_n 0 dX13_shownMany_5 rfl rfl ?_
    obtain ⟨u1, eu1, hf⟩ := Option.bind_eq_some_iff.mp hf
    obtain ⟨q2, eq2, hf⟩ := Option.bind_eq_some_iff.mp hf
    refine R_callV (mj := mi_X13_lines) (ci := 11) (q := (RX13, TX13, 24)) (As := []) (rest := [.int x2]) (T_X13_lines eq2) eu1 rfl lV_X13_69 ⟨rfl, oky_X13_lines⟩ (by decide) (by decide) rfl (C1_i C1_0) (Nat.le_of_ble_eq_true rfl) dX13_shownMany_6 ?_
    refine R_icge (tgt := 30) dX13_shownMany_9 (by decide) (fun hc => ?_) (fun hc => ?_)
    · rw [if_pos hc] at hf
      refine R_iload_n 1 dX13_shownMany_30 rfl rfl ?_
      obtain rfl := Option.some.inj hf
      exact R_iretI rfl dX13_shownMany_31
    · rw [if_neg hc] at hf
      refine R_iload_n 1 dX13_shownMany_12 rfl rfl ?_
      refine R_aload_n 0 dX13_shownMany_13 rfl rfl ?_
      obtain ⟨t3, et3, hf⟩ := Option.bind_eq_some_iff.mp hf
      refine R_getr lg_X13_7 et3 dX13_shownMany_14 ?_
      refine R_bipush dX13_shownMany_17 k_bipush_83 ?_
      refine R_iload_n 2 dX13_shownMany_19 rfl rfl ?_
      refine R_iadd dX13_shownMany_20 ?_
      obtain ⟨t4, et4, hf⟩ := Option.bind_eq_some_iff.mp hf
      refine R_iaload et4 dX13_shownMany_21 ?_
      refine R_iadd dX13_shownMany_22 ?_
      refine R_istore_n (L' := [(1, .int (x1 + t4)), (0, va_rf x0), (2, .int x2)]) dX13_shownMany_23 rfl (by decide) rfl ?_
      refine R_iinc (L' := [(2, .int (x2 + 1)), (1, .int (x1 + t4)), (0, va_rf x0)]) 2 dX13_shownMany_24 rfl (k_inc_1 _) (by decide) rfl ?_
      refine R_goto (tgt := 4) dX13_shownMany_27 (by decide) ?_
      refine R.sub [2, 1, 0] (L' := [(0, va_rf x0), (1, .int (x1 + t4)), (2, .int (x2 + 1))]) rfl ?_
      exact ih x0 (x1 + t4) (x2 + 1) q2.2 hf
noncomputable def f_X13_shownMany (x0 : Option Nat) (h : PH) : Option (Int32 × PH) := f_X13_shownMany_L4  FU x0 0 0 h
theorem T_X13_shownMany {K : KT} {x0 : Option Nat} {h : PH} {q : (Int32 × PH)} (hf : f_X13_shownMany x0 h = some q) : T K mi_X13_shownMany [va_rf x0] h (.inl (some (.int q.1))) q.2 := by
  unfold f_X13_shownMany at hf
  refine T_of (by decide +kernel) rfl (C1_r C1_0) (Nat.le_of_ble_eq_true rfl) ?_
  show R K mi_X13_shownMany h [va_rf x0] _ _ 0 [(0, va_rf x0)] [] h
  refine R_iconst dX13_shownMany_0 k_iconst_0 ?_
  refine R_istore_n (L' := [(1, .int 0), (0, va_rf x0)]) dX13_shownMany_1 rfl (by decide) rfl ?_
  refine R_iconst dX13_shownMany_2 k_iconst_0 ?_
  refine R_istore_n (L' := [(2, .int 0), (1, .int 0), (0, va_rf x0)]) dX13_shownMany_3 rfl (by decide) rfl ?_
  refine R.sub [2, 1, 0] (L' := [(0, va_rf x0), (1, .int 0), (2, .int 0)]) rfl ?_
  exact f_X13_shownMany_L4_ok  FU x0 0 0 h hf
theorem lV_X13_216 : GoodIn lw_all (wsV "EdgeSumsModel" 216 "EdgeSumsModel" yX13_isLine (ws_ yX13_isLine cX13_isLine 2 (some FieldType.boolean))) := lw_V q2830 q2832 qs72 q158 q2833
theorem oky_X13_isLine : okY yX13_isLine 1 := ⟨by decide +kernel, by decide +kernel, by decide +kernel⟩
theorem lV_X13_219 : GoodIn lw_all (wsV "EdgeSumsModel" 219 "EdgeSumsModel" yX13_canShow (ws_ yX13_canShow cX13_canShow 4 (some FieldType.boolean))) := lw_V q2834 q2836 qs73 q158 q2837
theorem oky_X13_canShow : okY yX13_canShow 1 := ⟨by decide +kernel, by decide +kernel, by decide +kernel⟩
theorem lV_X13_222 : GoodIn lw_all (wsV "EdgeSumsModel" 222 "EdgeSumsModel" yX13_shownMany (ws_ yX13_shownMany cX13_shownMany 3 (some FieldType.int))) := lw_V q2846 q2848 qs76 q158 q2849
theorem oky_X13_shownMany : okY yX13_shownMany 0 := ⟨by decide +kernel, by decide +kernel, by decide +kernel⟩
abbrev mi_X13_showSum : MI := (RX13, yX13_showSum, cX13_showSum, 3, (some FieldType.int), 6)
noncomputable def f_X13_showSum_B40  (x0 : Option Nat) (x1 : Int32) (x2 : Int32) (h : PH) : Option (Int32 × PH) := (rcv 11 x0 h).bind (fun u1 => (f_X13_act x0 h).bind (fun h2 => (gfr 11 1 x0 h2).bind (fun t3 => (asi 0 t3 (83 + x1) x2 h2).bind (fun h4 => (rcv 11 x0 h4).bind (fun u5 => (f_X13_reset x0 h4).bind (fun h6 => (rcv 11 x0 h6).bind (fun u7 => (f_X13_shownMany x0 h6).bind (fun q8 => some (q8.1, q8.2)))))))))
theorem f_X13_showSum_B40_ok {K : KT} {h0 : PH} {a0 : List Value} {q : (Int32 × PH)}  (x0 : Option Nat) (x1 : Int32) (x2 : Int32) (h : PH) (hf : f_X13_showSum_B40  x0 x1 x2 h = some q) : R K mi_X13_showSum h0 a0 (.inl (some (.int q.1))) q.2 40 [(0, va_rf x0), (1, .int x1), (2, .int x2)] [] h := by
  unfold f_X13_showSum_B40 at hf
  refine R_aload_n 0 dX13_showSum_40 rfl rfl ?_
  obtain ⟨u1, eu1, hf⟩ := Option.bind_eq_some_iff.mp hf
  obtain ⟨h2, eh2, hf⟩ := Option.bind_eq_some_iff.mp hf
  refine R_callV (mj := mi_X13_act) (ci := 11) (q := (RX13, TX13, 24)) (As := []) (rest := []) (T_X13_act eh2) eu1 rfl lV_X13_102 ⟨rfl, oky_X13_act⟩ (by decide) (by decide) rfl C1_0 (Nat.le_of_ble_eq_true rfl) dX13_showSum_41 ?_
  refine R_aload_n 0 dX13_showSum_44 rfl rfl ?_
  obtain ⟨t3, et3, hf⟩ := Option.bind_eq_some_iff.mp hf
  refine R_getr lg_X13_7 et3 dX13_showSum_45 ?_
  refine R_bipush dX13_showSum_48 k_bipush_83 ?_
  refine R_iload_n 1 dX13_showSum_50 rfl rfl ?_
  refine R_iadd dX13_showSum_51 ?_
  refine R_iload_n 2 dX13_showSum_52 rfl rfl ?_
  obtain ⟨h4, eh4, hf⟩ := Option.bind_eq_some_iff.mp hf
  refine R_iastore eh4 dX13_showSum_53 ?_
  refine R_aload_n 0 dX13_showSum_54 rfl rfl ?_
  obtain ⟨u5, eu5, hf⟩ := Option.bind_eq_some_iff.mp hf
  obtain ⟨h6, eh6, hf⟩ := Option.bind_eq_some_iff.mp hf
  refine R_callV (mj := mi_X13_reset) (ci := 11) (q := (RX13, TX13, 24)) (As := []) (rest := []) (T_X13_reset eh6) eu5 rfl lV_X13_51 ⟨rfl, oky_X13_reset⟩ (by decide) (by decide) rfl C1_0 (Nat.le_of_ble_eq_true rfl) dX13_showSum_55 ?_
  refine R_aload_n 0 dX13_showSum_58 rfl rfl ?_
  obtain ⟨u7, eu7, hf⟩ := Option.bind_eq_some_iff.mp hf
  obtain ⟨q8, eq8, hf⟩ := Option.bind_eq_some_iff.mp hf
  refine R_callV (mj := mi_X13_shownMany) (ci := 11) (q := (RX13, TX13, 24)) (As := []) (rest := []) (T_X13_shownMany eq8) eu7 rfl lV_X13_222 ⟨rfl, oky_X13_shownMany⟩ (by decide) (by decide) rfl C1_0 (Nat.le_of_ble_eq_true rfl) dX13_showSum_59 ?_
  obtain rfl := Option.some.inj hf
  exact R_iretI rfl dX13_showSum_62
noncomputable def f_X13_showSum (x0 : Option Nat) (x1 : Int32) (x2 : Int32) (h : PH) : Option (Int32 × PH) := (pf 11 0 x0 (.int 0) h).bind (fun h1 => (rcv 11 x0 h1).bind (fun u2 => (f_X13_isLine x0 x1 h1).bind (fun q3 => if q3.1 = 0 then (some ((-1), q3.2)) else ((f_X13_in x2 0 1 q3.2).bind (fun q4 => if q4.1 = 0 then (some ((-1), q4.2)) else (if x2 = 1 then ((rcv 11 x0 q4.2).bind (fun u5 => (f_X13_canShow x0 x1 q4.2).bind (fun q6 => if q6.1 = 0 then (some ((-2), q6.2)) else (f_X13_showSum_B40  x0 x1 x2 q6.2)))) else (f_X13_showSum_B40  x0 x1 x2 q4.2)))))))
theorem T_X13_showSum {K : KT} {x0 : Option Nat} {x1 : Int32} {x2 : Int32} {h : PH} {q : (Int32 × PH)} (hf : f_X13_showSum x0 x1 x2 h = some q) : T K mi_X13_showSum [va_rf x0, .int x1, .int x2] h (.inl (some (.int q.1))) q.2 := by
  unfold f_X13_showSum at hf
  refine T_of (by decide +kernel) rfl (C1_r (C1_i (C1_i C1_0))) (Nat.le_of_ble_eq_true rfl) ?_
  show R K mi_X13_showSum h [va_rf x0, .int x1, .int x2] _ _ 0 [(0, va_rf x0), (1, .int x1), (2, .int x2)] [] h
  refine R_aload_n 0 dX13_showSum_0 rfl rfl ?_
  refine R_iconst dX13_showSum_1 k_iconst_0 ?_
  obtain ⟨h1, eh1, hf⟩ := Option.bind_eq_some_iff.mp hf
  refine R_putI (fp_X13_43 rfl) eh1 dX13_showSum_2 ?_
  refine R_aload_n 0 dX13_showSum_5 rfl rfl ?_
  refine R_iload_n 1 dX13_showSum_6 rfl rfl ?_
  obtain ⟨u2, eu2, hf⟩ := Option.bind_eq_some_iff.mp hf
  obtain ⟨q3, eq3, hf⟩ := Option.bind_eq_some_iff.mp hf
  refine R_callV (mj := mi_X13_isLine) (ci := 11) (q := (RX13, TX13, 24)) (As := [.int x1]) (rest := []) (T_X13_isLine eq3) eu2 rfl lV_X13_216 ⟨rfl, oky_X13_isLine⟩ (by decide) (by decide) rfl C1_0 (Nat.le_of_ble_eq_true rfl) dX13_showSum_7 ?_
  refine R_ifeq (tgt := 22) dX13_showSum_10 (by decide) (fun hc => ?_) (fun hc => ?_)
  · rw [if_pos hc] at hf
    refine R_iconst dX13_showSum_22 k_iconst_m1 ?_
    obtain rfl := Option.some.inj hf
    exact R_iretI rfl dX13_showSum_23
  · rw [if_neg hc] at hf
    refine R_iload_n 2 dX13_showSum_13 rfl rfl ?_
    refine R_iconst dX13_showSum_14 k_iconst_0 ?_
    refine R_iconst dX13_showSum_15 k_iconst_1 ?_
    obtain ⟨q4, eq4, hf⟩ := Option.bind_eq_some_iff.mp hf
    refine R_callS (mj := mi_X13_in) (As := [.int x2, .int 0, .int 1]) (rest := []) (T_X13_in eq4) lS_X13_65 oky_X13_in (by decide) (by decide) rfl C1_0 (Nat.le_of_ble_eq_true rfl) dX13_showSum_16 ?_
    refine R_ifne (tgt := 24) dX13_showSum_19 (by decide) (fun hc => ?_) (fun hc => ?_)
    · rw [if_pos hc] at hf
      refine R_iconst dX13_showSum_22 k_iconst_m1 ?_
      obtain rfl := Option.some.inj hf
      exact R_iretI rfl dX13_showSum_23
    · rw [if_neg hc] at hf
      refine R_iload_n 2 dX13_showSum_24 rfl rfl ?_
      refine R_iconst dX13_showSum_25 k_iconst_1 ?_
      refine R_icne (tgt := 40) dX13_showSum_26 (by decide) (fun hc => ?_) (fun hc => ?_)
      · rw [if_pos hc] at hf
        refine R_aload_n 0 dX13_showSum_29 rfl rfl ?_
        refine R_iload_n 1 dX13_showSum_30 rfl rfl ?_
        obtain ⟨u5, eu5, hf⟩ := Option.bind_eq_some_iff.mp hf
        obtain ⟨q6, eq6, hf⟩ := Option.bind_eq_some_iff.mp hf
        refine R_callV (mj := mi_X13_canShow) (ci := 11) (q := (RX13, TX13, 24)) (As := [.int x1]) (rest := []) (T_X13_canShow eq6) eu5 rfl lV_X13_219 ⟨rfl, oky_X13_canShow⟩ (by decide) (by decide) rfl C1_0 (Nat.le_of_ble_eq_true rfl) dX13_showSum_31 ?_
        refine R_ifne (tgt := 40) dX13_showSum_34 (by decide) (fun hc => ?_) (fun hc => ?_)
        · rw [if_pos hc] at hf
          refine R_bipush dX13_showSum_37 k_bipush_m2 ?_
          obtain rfl := Option.some.inj hf
          exact R_iretI rfl dX13_showSum_39
        · rw [if_neg hc] at hf
          exact f_X13_showSum_B40_ok  x0 x1 x2 q6.2 hf
      · rw [if_neg hc] at hf
        exact f_X13_showSum_B40_ok  x0 x1 x2 q4.2 hf
abbrev mi_X13_isBroken : MI := (RX13, yX13_isBroken, cX13_isBroken, 3, (some FieldType.boolean), 2)
noncomputable def f_X13_isBroken_L4  : Nat → Option Nat → Int32 → Int32 → PH → Option (Int32 × PH)
  | 0, _, _, _, _ => none
  | k + 1, x0, x1, x2, h => (rcv 11 x0 h).bind (fun u1 => (f_X13_cells x0 h).bind (fun q2 => if q2.1 ≤ x2 then ((gb x1).bind (fun u3 => some (x1, q2.2))) else (if x1 = 0 then ((gfr 11 7 x0 q2.2).bind (fun t4 => (ald 0 t4 x2 q2.2).bind (fun t5 => if t5 = 0 then ((f_X13_isBroken_L4 k) x0 1 (x2 + 1) q2.2) else ((f_X13_isBroken_L4 k) x0 0 (x2 + 1) q2.2)))) else ((f_X13_isBroken_L4 k) x0 1 (x2 + 1) q2.2))))
theorem f_X13_isBroken_L4_ok {K : KT} {h0 : PH} {a0 : List Value} {q : (Int32 × PH)}  : ∀ (k : Nat) (x0 : Option Nat) (x1 : Int32) (x2 : Int32) (h : PH), f_X13_isBroken_L4  k x0 x1 x2 h = some q → R K mi_X13_isBroken h0 a0 (.inl (some (.int q.1))) q.2 4 [(0, va_rf x0), (1, .int x1), (2, .int x2)] [] h := by
  intro k
  induction k with
  | zero => intro _ _ _ _ hf; cases hf
  | succ k ih =>
    intro x0 x1 x2 h hf
    unfold f_X13_isBroken_L4 at hf
    refine R_iload_n 2 dX13_isBroken_4 rfl rfl ?_
    refine R_aload_n 0 dX13_isBroken_5 rfl rfl ?_
    obtain ⟨u1, eu1, hf⟩ := Option.bind_eq_some_iff.mp hf
    obtain ⟨q2, eq2, hf⟩ := Option.bind_eq_some_iff.mp hf
    refine R_callV (mj := mi_X13_cells) (ci := 11) (q := (RX13, TX13, 24)) (As := []) (rest := [.int x2]) (T_X13_cells eq2) eu1 rfl lV_X13_61 ⟨rfl, oky_X13_cells⟩ (by decide) (by decide) rfl (C1_i C1_0) (Nat.le_of_ble_eq_true rfl) dX13_isBroken_6 ?_
    refine R_icge (tgt := 37) dX13_isBroken_9 (by decide) (fun hc => ?_) (fun hc => ?_)
    · rw [if_pos hc] at hf
      refine R_iload_n 1 dX13_isBroken_37 rfl rfl ?_
      obtain ⟨u3, eu3, hf⟩ := Option.bind_eq_some_iff.mp hf
      obtain rfl := Option.some.inj hf
      exact R_iretZ eu3 rfl dX13_isBroken_38
    · rw [if_neg hc] at hf
      refine R_iload_n 1 dX13_isBroken_12 rfl rfl ?_
      refine R_ifne (tgt := 25) dX13_isBroken_13 (by decide) (fun hc => ?_) (fun hc => ?_)
      · rw [if_pos hc] at hf
        refine R_aload_n 0 dX13_isBroken_16 rfl rfl ?_
        obtain ⟨t4, et4, hf⟩ := Option.bind_eq_some_iff.mp hf
        refine R_getr lg_X13_22 et4 dX13_isBroken_17 ?_
        refine R_iload_n 2 dX13_isBroken_20 rfl rfl ?_
        obtain ⟨t5, et5, hf⟩ := Option.bind_eq_some_iff.mp hf
        refine R_iaload et5 dX13_isBroken_21 ?_
        refine R_ifne (tgt := 29) dX13_isBroken_22 (by decide) (fun hc => ?_) (fun hc => ?_)
        · rw [if_pos hc] at hf
          refine R_iconst dX13_isBroken_25 k_iconst_1 ?_
          refine R_goto (tgt := 30) dX13_isBroken_26 (by decide) ?_
          refine R_istore_n (L' := [(1, .int 1), (0, va_rf x0), (2, .int x2)]) dX13_isBroken_30 rfl (by decide) rfl ?_
          refine R_iinc (L' := [(2, .int (x2 + 1)), (1, .int 1), (0, va_rf x0)]) 2 dX13_isBroken_31 rfl (k_inc_1 _) (by decide) rfl ?_
          refine R_goto (tgt := 4) dX13_isBroken_34 (by decide) ?_
          refine R.sub [2, 1, 0] (L' := [(0, va_rf x0), (1, .int 1), (2, .int (x2 + 1))]) rfl ?_
          exact ih x0 1 (x2 + 1) q2.2 hf
        · rw [if_neg hc] at hf
          refine R_iconst dX13_isBroken_29 k_iconst_0 ?_
          refine R_istore_n (L' := [(1, .int 0), (0, va_rf x0), (2, .int x2)]) dX13_isBroken_30 rfl (by decide) rfl ?_
          refine R_iinc (L' := [(2, .int (x2 + 1)), (1, .int 0), (0, va_rf x0)]) 2 dX13_isBroken_31 rfl (k_inc_1 _) (by decide) rfl ?_
          refine R_goto (tgt := 4) dX13_isBroken_34 (by decide) ?_
          refine R.sub [2, 1, 0] (L' := [(0, va_rf x0), (1, .int 0), (2, .int (x2 + 1))]) rfl ?_
          exact ih x0 0 (x2 + 1) q2.2 hf
      · rw [if_neg hc] at hf
        refine R_iconst dX13_isBroken_25 k_iconst_1 ?_
        refine R_goto (tgt := 30) dX13_isBroken_26 (by decide) ?_
        refine R_istore_n (L' := [(1, .int 1), (0, va_rf x0), (2, .int x2)]) dX13_isBroken_30 rfl (by decide) rfl ?_
        refine R_iinc (L' := [(2, .int (x2 + 1)), (1, .int 1), (0, va_rf x0)]) 2 dX13_isBroken_31 rfl (k_inc_1 _) (by decide) rfl ?_
        refine R_goto (tgt := 4) dX13_isBroken_34 (by decide) ?_
        refine R.sub [2, 1, 0] (L' := [(0, va_rf x0), (1, .int 1), (2, .int (x2 + 1))]) rfl ?_
        exact ih x0 1 (x2 + 1) q2.2 hf
noncomputable def f_X13_isBroken (x0 : Option Nat) (h : PH) : Option (Int32 × PH) := f_X13_isBroken_L4  FU x0 0 0 h
theorem T_X13_isBroken {K : KT} {x0 : Option Nat} {h : PH} {q : (Int32 × PH)} (hf : f_X13_isBroken x0 h = some q) : T K mi_X13_isBroken [va_rf x0] h (.inl (some (.int q.1))) q.2 := by
  unfold f_X13_isBroken at hf
  refine T_of (by decide +kernel) rfl (C1_r C1_0) (Nat.le_of_ble_eq_true rfl) ?_
  show R K mi_X13_isBroken h [va_rf x0] _ _ 0 [(0, va_rf x0)] [] h
  refine R_iconst dX13_isBroken_0 k_iconst_0 ?_
  refine R_istore_n (L' := [(1, .int 0), (0, va_rf x0)]) dX13_isBroken_1 rfl (by decide) rfl ?_
  refine R_iconst dX13_isBroken_2 k_iconst_0 ?_
  refine R_istore_n (L' := [(2, .int 0), (1, .int 0), (0, va_rf x0)]) dX13_isBroken_3 rfl (by decide) rfl ?_
  refine R.sub [2, 1, 0] (L' := [(0, va_rf x0), (1, .int 0), (2, .int 0)]) rfl ?_
  exact f_X13_isBroken_L4_ok  FU x0 0 0 h hf
abbrev mi_X13_has : MI := (RX13, yX13_has, cX13_has, 2, (some FieldType.boolean), 1)
noncomputable def f_X13_has (x0 : Int32) (x1 : Int32) (h : PH) : Option (Int32 × PH) := if ((x0 >>> (x1 &&& 31)) &&& 1) = 1 then (some (1, h)) else (some (0, h))
theorem T_X13_has {K : KT} {x0 : Int32} {x1 : Int32} {h : PH} {q : (Int32 × PH)} (hf : f_X13_has x0 x1 h = some q) : T K mi_X13_has [.int x0, .int x1] h (.inl (some (.int q.1))) q.2 := by
  unfold f_X13_has at hf
  refine T_of (by decide +kernel) rfl (C1_i (C1_i C1_0)) (Nat.le_of_ble_eq_true rfl) ?_
  show R K mi_X13_has h [.int x0, .int x1] _ _ 0 [(0, .int x0), (1, .int x1)] [] h
  refine R_iload_n 0 dX13_has_0 rfl rfl ?_
  refine R_iload_n 1 dX13_has_1 rfl rfl ?_
  refine R_ishr dX13_has_2 ?_
  refine R_iconst dX13_has_3 k_iconst_1 ?_
  refine R_iand dX13_has_4 ?_
  refine R_iconst dX13_has_5 k_iconst_1 ?_
  refine R_icne (tgt := 13) dX13_has_6 (by decide) (fun hc => ?_) (fun hc => ?_)
  · rw [if_pos hc] at hf
    refine R_iconst dX13_has_9 k_iconst_1 ?_
    refine R_goto (tgt := 14) dX13_has_10 (by decide) ?_
    obtain rfl := Option.some.inj hf
    exact R_iretZ1 rfl dX13_has_14
  · rw [if_neg hc] at hf
    refine R_iconst dX13_has_13 k_iconst_0 ?_
    obtain rfl := Option.some.inj hf
    exact R_iretZ0 rfl dX13_has_14
theorem lS_X13_54 : GoodIn lw_all (va_wsS "EdgeSumsModel" 54 yX13_has (ws_ yX13_has cX13_has 2 (some FieldType.boolean))) := lw_S q2874 q2875 q158 q2876
theorem oky_X13_has : okY yX13_has 2 := ⟨by decide +kernel, by decide +kernel, by decide +kernel⟩
abbrev mi_X13_highest : MI := (RX13, yX13_highest, cX13_highest, 2, (some FieldType.int), 2)
noncomputable def f_X13_highest_L3  : Nat → Int32 → Int32 → PH → Option (Int32 × PH)
  | 0, _, _, _ => none
  | k + 1, x0, x1, h => (f_X13_has x0 x1 h).bind (fun q1 => if q1.1 = 0 then ((f_X13_highest_L3 k) x0 (x1 + (-1)) q1.2) else (some (x1, q1.2)))
theorem f_X13_highest_L3_ok {K : KT} {h0 : PH} {a0 : List Value} {q : (Int32 × PH)}  : ∀ (k : Nat) (x0 : Int32) (x1 : Int32) (h : PH), f_X13_highest_L3  k x0 x1 h = some q → R K mi_X13_highest h0 a0 (.inl (some (.int q.1))) q.2 3 [(0, .int x0), (1, .int x1)] [] h := by
  intro k
  induction k with
  | zero => intro _ _ _ hf; cases hf
  | succ k ih =>
    intro x0 x1 h hf
    unfold f_X13_highest_L3 at hf
    refine R_iload_n 0 dX13_highest_3 rfl rfl ?_
    refine R_iload_n 1 dX13_highest_4 rfl rfl ?_
    obtain ⟨q1, eq1, hf⟩ := Option.bind_eq_some_iff.mp hf
    refine R_callS (mj := mi_X13_has) (As := [.int x0, .int x1]) (rest := []) (T_X13_has eq1) lS_X13_54 oky_X13_has (by decide) (by decide) rfl C1_0 (Nat.le_of_ble_eq_true rfl) dX13_highest_5 ?_
    refine R_ifne (tgt := 17) dX13_highest_8 (by decide) (fun hc => ?_) (fun hc => ?_)
    · rw [if_pos hc] at hf
      refine R_iinc (L' := [(1, .int (x1 + (-1))), (0, .int x0)]) 1 dX13_highest_11 rfl (k_inc_m1 _) (by decide) rfl ?_
      refine R_goto (tgt := 3) dX13_highest_14 (by decide) ?_
      refine R.sub [1, 0] (L' := [(0, .int x0), (1, .int (x1 + (-1)))]) rfl ?_
      exact ih x0 (x1 + (-1)) q1.2 hf
    · rw [if_neg hc] at hf
      refine R_iload_n 1 dX13_highest_17 rfl rfl ?_
      obtain rfl := Option.some.inj hf
      exact R_iretI rfl dX13_highest_18
noncomputable def f_X13_highest (x0 : Int32) (h : PH) : Option (Int32 × PH) := f_X13_highest_L3  FU x0 30 h
theorem T_X13_highest {K : KT} {x0 : Int32} {h : PH} {q : (Int32 × PH)} (hf : f_X13_highest x0 h = some q) : T K mi_X13_highest [.int x0] h (.inl (some (.int q.1))) q.2 := by
  unfold f_X13_highest at hf
  refine T_of (by decide +kernel) rfl (C1_i C1_0) (Nat.le_of_ble_eq_true rfl) ?_
  show R K mi_X13_highest h [.int x0] _ _ 0 [(0, .int x0)] [] h
  refine R_bipush dX13_highest_0 k_bipush_30 ?_
  refine R_istore_n (L' := [(1, .int 30), (0, .int x0)]) dX13_highest_2 rfl (by decide) rfl ?_
  refine R.sub [1, 0] (L' := [(0, .int x0), (1, .int 30)]) rfl ?_
  exact f_X13_highest_L3_ok  FU x0 30 h hf
abbrev mi_X13_lowest : MI := (RX13, yX13_lowest, cX13_lowest, 2, (some FieldType.int), 2)
noncomputable def f_X13_lowest_L2  : Nat → Int32 → Int32 → PH → Option (Int32 × PH)
  | 0, _, _, _ => none
  | k + 1, x0, x1, h => (f_X13_has x0 x1 h).bind (fun q1 => if q1.1 = 0 then ((f_X13_lowest_L2 k) x0 (x1 + 1) q1.2) else (some (x1, q1.2)))
theorem f_X13_lowest_L2_ok {K : KT} {h0 : PH} {a0 : List Value} {q : (Int32 × PH)}  : ∀ (k : Nat) (x0 : Int32) (x1 : Int32) (h : PH), f_X13_lowest_L2  k x0 x1 h = some q → R K mi_X13_lowest h0 a0 (.inl (some (.int q.1))) q.2 2 [(0, .int x0), (1, .int x1)] [] h := by
  intro k
  induction k with
  | zero => intro _ _ _ hf; cases hf
  | succ k ih =>
    intro x0 x1 h hf
    unfold f_X13_lowest_L2 at hf
    refine R_iload_n 0 dX13_lowest_2 rfl rfl ?_
    refine R_iload_n 1 dX13_lowest_3 rfl rfl ?_
    obtain ⟨q1, eq1, hf⟩ := Option.bind_eq_some_iff.mp hf
    refine R_callS (mj := mi_X13_has) (As := [.int x0, .int x1]) (rest := []) (T_X13_has eq1) lS_X13_54 oky_X13_has (by decide) (by decide) rfl C1_0 (Nat.le_of_ble_eq_true rfl) dX13_lowest_4 ?_
    refine R_ifne (tgt := 16) dX13_lowest_7 (by decide) (fun hc => ?_) (fun hc => ?_)
    · rw [if_pos hc] at hf
      refine R_iinc (L' := [(1, .int (x1 + 1)), (0, .int x0)]) 1 dX13_lowest_10 rfl (k_inc_1 _) (by decide) rfl ?_
      refine R_goto (tgt := 2) dX13_lowest_13 (by decide) ?_
      refine R.sub [1, 0] (L' := [(0, .int x0), (1, .int (x1 + 1))]) rfl ?_
      exact ih x0 (x1 + 1) q1.2 hf
    · rw [if_neg hc] at hf
      refine R_iload_n 1 dX13_lowest_16 rfl rfl ?_
      obtain rfl := Option.some.inj hf
      exact R_iretI rfl dX13_lowest_17
noncomputable def f_X13_lowest (x0 : Int32) (h : PH) : Option (Int32 × PH) := f_X13_lowest_L2  FU x0 0 h
theorem T_X13_lowest {K : KT} {x0 : Int32} {h : PH} {q : (Int32 × PH)} (hf : f_X13_lowest x0 h = some q) : T K mi_X13_lowest [.int x0] h (.inl (some (.int q.1))) q.2 := by
  unfold f_X13_lowest at hf
  refine T_of (by decide +kernel) rfl (C1_i C1_0) (Nat.le_of_ble_eq_true rfl) ?_
  show R K mi_X13_lowest h [.int x0] _ _ 0 [(0, .int x0)] [] h
  refine R_iconst dX13_lowest_0 k_iconst_0 ?_
  refine R_istore_n (L' := [(1, .int 0), (0, .int x0)]) dX13_lowest_1 rfl (by decide) rfl ?_
  refine R.sub [1, 0] (L' := [(0, .int x0), (1, .int 0)]) rfl ?_
  exact f_X13_lowest_L2_ok  FU x0 0 h hf
abbrev mi_X13_sumOf : MI := (RX13, yX13_sumOf, cX13_sumOf, 4, (some FieldType.int), 2)
noncomputable def f_X13_sumOf_L4  : Nat → Option Nat → Int32 → Int32 → Int32 → PH → Option (Int32 × PH)
  | 0, _, _, _, _, _ => none
  | k + 1, x0, x1, x2, x3, h => (rcv 11 x0 h).bind (fun u1 => (f_X13_cellsOf x0 x1 h).bind (fun q2 => if q2.1 ≤ x3 then (some (x2, q2.2)) else ((rcv 11 x0 q2.2).bind (fun u3 => (f_X13_cellOf x0 x1 x3 q2.2).bind (fun q4 => (rcv 11 x0 q4.2).bind (fun u5 => (f_X13_numberOf x0 q4.1 q4.2).bind (fun q6 => (f_X13_sumOf_L4 k) x0 x1 (x2 + q6.1) (x3 + 1) q6.2)))))))
theorem f_X13_sumOf_L4_ok {K : KT} {h0 : PH} {a0 : List Value} {q : (Int32 × PH)}  : ∀ (k : Nat) (x0 : Option Nat) (x1 : Int32) (x2 : Int32) (x3 : Int32) (h : PH), f_X13_sumOf_L4  k x0 x1 x2 x3 h = some q → R K mi_X13_sumOf h0 a0 (.inl (some (.int q.1))) q.2 4 [(0, va_rf x0), (1, .int x1), (2, .int x2), (3, .int x3)] [] h := by
  intro k
  induction k with
  | zero => intro _ _ _ _ _ hf; cases hf
  | succ k ih =>
    intro x0 x1 x2 x3 h hf
    unfold f_X13_sumOf_L4 at hf
    refine R_iload_n 3 dX13_sumOf_4 rfl rfl ?_
    refine R_aload_n 0 dX13_sumOf_5 rfl rfl ?_
    refine R_iload_n 1 dX13_sumOf_6 rfl rfl ?_
    obtain ⟨u1, eu1, hf⟩ := Option.bind_eq_some_iff.mp hf
    obtain ⟨q2, eq2, hf⟩ := Option.bind_eq_some_iff.mp hf
    refine R_callV (mj := mi_X13_cellsOf) (ci := 11) (q := (RX13, TX13, 24)) (As := [.int x1]) (rest := [.int x3]) (T_X13_cellsOf eq2) eu1 rfl lV_X13_93 ⟨rfl, oky_X13_cellsOf⟩ (by decide) (by decide) rfl (C1_i C1_0) (Nat.le_of_ble_eq_true rfl) dX13_sumOf_7 ?_
    refine R_icge (tgt := 32) dX13_sumOf_10 (by decide) (fun hc => ?_) (fun hc => ?_)
    · rw [if_pos hc] at hf
      refine R_iload_n 2 dX13_sumOf_32 rfl rfl ?_
      obtain rfl := Option.some.inj hf
      exact R_iretI rfl dX13_sumOf_33
    · rw [if_neg hc] at hf
      refine R_iload_n 2 dX13_sumOf_13 rfl rfl ?_
      refine R_aload_n 0 dX13_sumOf_14 rfl rfl ?_
      refine R_aload_n 0 dX13_sumOf_15 rfl rfl ?_
      refine R_iload_n 1 dX13_sumOf_16 rfl rfl ?_
      refine R_iload_n 3 dX13_sumOf_17 rfl rfl ?_
      obtain ⟨u3, eu3, hf⟩ := Option.bind_eq_some_iff.mp hf
      obtain ⟨q4, eq4, hf⟩ := Option.bind_eq_some_iff.mp hf
      refine R_callV (mj := mi_X13_cellOf) (ci := 11) (q := (RX13, TX13, 24)) (As := [.int x1, .int x3]) (rest := [va_rf x0, .int x2]) (T_X13_cellOf eq4) eu3 rfl lV_X13_96 ⟨rfl, oky_X13_cellOf⟩ (by decide) (by decide) rfl (C1_r (C1_i C1_0)) (Nat.le_of_ble_eq_true rfl) dX13_sumOf_18 ?_
      obtain ⟨u5, eu5, hf⟩ := Option.bind_eq_some_iff.mp hf
      obtain ⟨q6, eq6, hf⟩ := Option.bind_eq_some_iff.mp hf
      refine R_callV (mj := mi_X13_numberOf) (ci := 11) (q := (RX13, TX13, 24)) (As := [.int q4.1]) (rest := [.int x2]) (T_X13_numberOf eq6) eu5 rfl lV_X13_99 ⟨rfl, oky_X13_numberOf⟩ (by decide) (by decide) rfl (C1_i C1_0) (Nat.le_of_ble_eq_true rfl) dX13_sumOf_21 ?_
      refine R_iadd dX13_sumOf_24 ?_
      refine R_istore_n (L' := [(2, .int (x2 + q6.1)), (0, va_rf x0), (1, .int x1), (3, .int x3)]) dX13_sumOf_25 rfl (by decide) rfl ?_
      refine R_iinc (L' := [(3, .int (x3 + 1)), (2, .int (x2 + q6.1)), (0, va_rf x0), (1, .int x1)]) 3 dX13_sumOf_26 rfl (k_inc_1 _) (by decide) rfl ?_
      refine R_goto (tgt := 4) dX13_sumOf_29 (by decide) ?_
      refine R.sub [2, 3, 1, 0] (L' := [(0, va_rf x0), (1, .int x1), (2, .int (x2 + q6.1)), (3, .int (x3 + 1))]) rfl ?_
      exact ih x0 x1 (x2 + q6.1) (x3 + 1) q6.2 hf
noncomputable def f_X13_sumOf (x0 : Option Nat) (x1 : Int32) (h : PH) : Option (Int32 × PH) := f_X13_sumOf_L4  FU x0 x1 0 0 h
theorem T_X13_sumOf {K : KT} {x0 : Option Nat} {x1 : Int32} {h : PH} {q : (Int32 × PH)} (hf : f_X13_sumOf x0 x1 h = some q) : T K mi_X13_sumOf [va_rf x0, .int x1] h (.inl (some (.int q.1))) q.2 := by
  unfold f_X13_sumOf at hf
  refine T_of (by decide +kernel) rfl (C1_r (C1_i C1_0)) (Nat.le_of_ble_eq_true rfl) ?_
  show R K mi_X13_sumOf h [va_rf x0, .int x1] _ _ 0 [(0, va_rf x0), (1, .int x1)] [] h
  refine R_iconst dX13_sumOf_0 k_iconst_0 ?_
  refine R_istore_n (L' := [(2, .int 0), (0, va_rf x0), (1, .int x1)]) dX13_sumOf_1 rfl (by decide) rfl ?_
  refine R_iconst dX13_sumOf_2 k_iconst_0 ?_
  refine R_istore_n (L' := [(3, .int 0), (2, .int 0), (0, va_rf x0), (1, .int x1)]) dX13_sumOf_3 rfl (by decide) rfl ?_
  refine R.sub [2, 3, 1, 0] (L' := [(0, va_rf x0), (1, .int x1), (2, .int 0), (3, .int 0)]) rfl ?_
  exact f_X13_sumOf_L4_ok  FU x0 x1 0 0 h hf
theorem lV_X13_158 : GoodIn lw_all (wsV "EdgeSumsModel" 158 "EdgeSumsModel" yX13_sumOf (ws_ yX13_sumOf cX13_sumOf 4 (some FieldType.int))) := lw_V q2903 q2905 qs87 q158 q2906
theorem oky_X13_sumOf : okY yX13_sumOf 1 := ⟨by decide +kernel, by decide +kernel, by decide +kernel⟩
theorem lS_X13_155 : GoodIn lw_all (va_wsS "EdgeSumsModel" 155 yX13_highest (ws_ yX13_highest cX13_highest 2 (some FieldType.int))) := lw_S q2900 q2901 q158 q2902
theorem oky_X13_highest : okY yX13_highest 1 := ⟨by decide +kernel, by decide +kernel, by decide +kernel⟩
theorem lS_X13_152 : GoodIn lw_all (va_wsS "EdgeSumsModel" 152 yX13_lowest (ws_ yX13_lowest cX13_lowest 2 (some FieldType.int))) := lw_S q2889 q2890 q158 q2891
theorem oky_X13_lowest : okY yX13_lowest 1 := ⟨by decide +kernel, by decide +kernel, by decide +kernel⟩
abbrev mi_X13_isBeyond : MI := (RX13, yX13_isBeyond, cX13_isBeyond, 8, (some FieldType.boolean), 3)
noncomputable def f_X13_isBeyond_B50 (r9 : Option Nat → Int32 → Int32 → Int32 → Int32 → Int32 → PH → Option (Int32 × PH)) (x0 : Option Nat) (x1 : Int32) (x2 : Int32) (x5 : Int32) (x6 : Int32) (x7 : Int32) (s0 : Int32) (s1 : Int32) (h : PH) : Option (Int32 × PH) := if x7 = x2 then (r9 x0 x1 x2 (s0 + s1) (x5 + 0) (x6 + 1) h) else ((gfr 11 7 x0 h).bind (fun t1 => (ald 0 t1 x7 h).bind (fun t2 => (f_X13_highest t2 h).bind (fun q3 => r9 x0 x1 x2 (s0 + s1) (x5 + q3.1) (x6 + 1) q3.2))))
theorem f_X13_isBeyond_B50_ok {K : KT} {h0 : PH} {a0 : List Value} {q : (Int32 × PH)} {r9 : Option Nat → Int32 → Int32 → Int32 → Int32 → Int32 → PH → Option (Int32 × PH)} (hr9 : ∀ (y0 : Option Nat) (y1 : Int32) (y2 : Int32) (y4 : Int32) (y5 : Int32) (y6 : Int32) (h : PH), r9 y0 y1 y2 y4 y5 y6 h = some q → R K mi_X13_isBeyond h0 a0 (.inl (some (.int q.1))) q.2 9 [(0, va_rf y0), (1, .int y1), (2, .int y2), (4, .int y4), (5, .int y5), (6, .int y6)] [] h) (x0 : Option Nat) (x1 : Int32) (x2 : Int32) (x5 : Int32) (x6 : Int32) (x7 : Int32) (s0 : Int32) (s1 : Int32) (h : PH) (hf : f_X13_isBeyond_B50 r9 x0 x1 x2 x5 x6 x7 s0 s1 h = some q) : R K mi_X13_isBeyond h0 a0 (.inl (some (.int q.1))) q.2 50 [(0, va_rf x0), (1, .int x1), (2, .int x2), (5, .int x5), (6, .int x6), (7, .int x7)] [.int s1, .int s0] h := by
  unfold f_X13_isBeyond_B50 at hf
  refine R_iadd dX13_isBeyond_50 ?_
  refine R_istore (L' := [(4, .int (s0 + s1)), (0, va_rf x0), (1, .int x1), (2, .int x2), (5, .int x5), (6, .int x6), (7, .int x7)]) dX13_isBeyond_51 (by decide) rfl ?_
  refine R_iload 4 dX13_isBeyond_53 rfl ?_
  refine R_iload 6 dX13_isBeyond_55 rfl ?_
  refine R_iload_n 3 dX13_isBeyond_57 rfl rfl ?_
  refine R_icne (tgt := 65) dX13_isBeyond_58 (by decide) (fun hc => ?_) (fun hc => ?_)
  · rw [if_pos hc] at hf
    refine R_iconst dX13_isBeyond_61 k_iconst_0 ?_
    refine R_goto (tgt := 75) dX13_isBeyond_62 (by decide) ?_
    refine R_iadd dX13_isBeyond_75 ?_
    refine R_istore (L' := [(5, .int (x5 + 0)), (4, .int (s0 + s1)), (0, va_rf x0), (1, .int x1), (2, .int x2), (6, .int x6), (7, .int x7)]) dX13_isBeyond_76 (by decide) rfl ?_
    refine R_iinc (L' := [(6, .int (x6 + 1)), (5, .int (x5 + 0)), (4, .int (s0 + s1)), (0, va_rf x0), (1, .int x1), (2, .int x2), (7, .int x7)]) 5 dX13_isBeyond_78 rfl (k_inc_1 _) (by decide) rfl ?_
    refine R_goto (tgt := 9) dX13_isBeyond_81 (by decide) ?_
    refine R.sub [3, 4, 5, 2, 1, 0] (L' := [(0, va_rf x0), (1, .int x1), (2, .int x2), (4, .int (s0 + s1)), (5, .int (x5 + 0)), (6, .int (x6 + 1))]) rfl ?_
    exact hr9 x0 x1 x2 (s0 + s1) (x5 + 0) (x6 + 1) h hf
  · rw [if_neg hc] at hf
    refine R_aload_n 1 dX13_isBeyond_65 rfl rfl ?_
    obtain ⟨t1, et1, hf⟩ := Option.bind_eq_some_iff.mp hf
    refine R_getr lg_X13_22 et1 dX13_isBeyond_66 ?_
    refine R_iload 6 dX13_isBeyond_69 rfl ?_
    obtain ⟨t2, et2, hf⟩ := Option.bind_eq_some_iff.mp hf
    refine R_iaload et2 dX13_isBeyond_71 ?_
    obtain ⟨q3, eq3, hf⟩ := Option.bind_eq_some_iff.mp hf
    refine R_callS (mj := mi_X13_highest) (As := [.int t2]) (rest := [.int x5]) (T_X13_highest eq3) lS_X13_155 oky_X13_highest (by decide) (by decide) rfl (C1_i C1_0) (Nat.le_of_ble_eq_true rfl) dX13_isBeyond_72 ?_
    refine R_iadd dX13_isBeyond_75 ?_
    refine R_istore (L' := [(5, .int (x5 + q3.1)), (4, .int (s0 + s1)), (0, va_rf x0), (1, .int x1), (2, .int x2), (6, .int x6), (7, .int x7)]) dX13_isBeyond_76 (by decide) rfl ?_
    refine R_iinc (L' := [(6, .int (x6 + 1)), (5, .int (x5 + q3.1)), (4, .int (s0 + s1)), (0, va_rf x0), (1, .int x1), (2, .int x2), (7, .int x7)]) 5 dX13_isBeyond_78 rfl (k_inc_1 _) (by decide) rfl ?_
    refine R_goto (tgt := 9) dX13_isBeyond_81 (by decide) ?_
    refine R.sub [3, 4, 5, 2, 1, 0] (L' := [(0, va_rf x0), (1, .int x1), (2, .int x2), (4, .int (s0 + s1)), (5, .int (x5 + q3.1)), (6, .int (x6 + 1))]) rfl ?_
    exact hr9 x0 x1 x2 (s0 + s1) (x5 + q3.1) (x6 + 1) q3.2 hf
noncomputable def f_X13_isBeyond_L9  : Nat → Option Nat → Int32 → Int32 → Int32 → Int32 → Int32 → PH → Option (Int32 × PH)
  | 0, _, _, _, _, _, _, _ => none
  | k + 1, x0, x1, x2, x4, x5, x6, h => (rcv 11 x0 h).bind (fun u1 => (f_X13_cellsOf x0 x1 h).bind (fun q2 => if q2.1 ≤ x6 then ((rcv 11 x0 q2.2).bind (fun u3 => (f_X13_sumOf x0 x1 q2.2).bind (fun q4 => if q4.1 < x4 then (some (1, q4.2)) else ((rcv 11 x0 q4.2).bind (fun u5 => (f_X13_sumOf x0 x1 q4.2).bind (fun q6 => if q6.1 ≤ x5 then (some (0, q6.2)) else (some (1, q6.2)))))))) else ((rcv 11 x0 q2.2).bind (fun u7 => (f_X13_cellOf x0 x1 x6 q2.2).bind (fun q8 => if q8.1 = x2 then (f_X13_isBeyond_B50 (f_X13_isBeyond_L9 k) x0 x1 x2 x5 x6 q8.1 x4 0 q8.2) else ((gfr 11 7 x0 q8.2).bind (fun t9 => (ald 0 t9 q8.1 q8.2).bind (fun t10 => (f_X13_lowest t10 q8.2).bind (fun q11 => f_X13_isBeyond_B50 (f_X13_isBeyond_L9 k) x0 x1 x2 x5 x6 q8.1 x4 q11.1 q11.2)))))))))
theorem f_X13_isBeyond_L9_ok {K : KT} {h0 : PH} {a0 : List Value} {q : (Int32 × PH)}  : ∀ (k : Nat) (x0 : Option Nat) (x1 : Int32) (x2 : Int32) (x4 : Int32) (x5 : Int32) (x6 : Int32) (h : PH), f_X13_isBeyond_L9  k x0 x1 x2 x4 x5 x6 h = some q → R K mi_X13_isBeyond h0 a0 (.inl (some (.int q.1))) q.2 9 [(0, va_rf x0), (1, .int x1), (2, .int x2), (4, .int x4), (5, .int x5), (6, .int x6)] [] h := by
  intro k
  induction k with
  | zero => intro _ _ _ _ _ _ _ hf; cases hf
  | succ k ih =>
    intro x0 x1 x2 x4 x5 x6 h hf
    unfold f_X13_isBeyond_L9 at hf
    refine R_iload 5 dX13_isBeyond_9 rfl ?_
    refine R_aload_n 0 dX13_isBeyond_11 rfl rfl ?_
    refine R_iload_n 1 dX13_isBeyond_12 rfl rfl ?_
    obtain ⟨u1, eu1, hf⟩ := Option.bind_eq_some_iff.mp hf
    obtain ⟨q2, eq2, hf⟩ := Option.bind_eq_some_iff.mp hf
    refine R_callV (mj := mi_X13_cellsOf) (ci := 11) (q := (RX13, TX13, 24)) (As := [.int x1]) (rest := [.int x6]) (T_X13_cellsOf eq2) eu1 rfl lV_X13_93 ⟨rfl, oky_X13_cellsOf⟩ (by decide) (by decide) rfl (C1_i C1_0) (Nat.le_of_ble_eq_true rfl) dX13_isBeyond_13 ?_
    refine R_icge (tgt := 84) dX13_isBeyond_16 (by decide) (fun hc => ?_) (fun hc => ?_)
    · rw [if_pos hc] at hf
      refine R_aload_n 0 dX13_isBeyond_84 rfl rfl ?_
      refine R_iload_n 1 dX13_isBeyond_85 rfl rfl ?_
      obtain ⟨u3, eu3, hf⟩ := Option.bind_eq_some_iff.mp hf
      obtain ⟨q4, eq4, hf⟩ := Option.bind_eq_some_iff.mp hf
      refine R_callV (mj := mi_X13_sumOf) (ci := 11) (q := (RX13, TX13, 24)) (As := [.int x1]) (rest := []) (T_X13_sumOf eq4) eu3 rfl lV_X13_158 ⟨rfl, oky_X13_sumOf⟩ (by decide) (by decide) rfl C1_0 (Nat.le_of_ble_eq_true rfl) dX13_isBeyond_86 ?_
      refine R_iload 3 dX13_isBeyond_89 rfl ?_
      refine R_iclt (tgt := 104) dX13_isBeyond_91 (by decide) (fun hc => ?_) (fun hc => ?_)
      · rw [if_pos hc] at hf
        refine R_iconst dX13_isBeyond_104 k_iconst_1 ?_
        refine R_goto (tgt := 109) dX13_isBeyond_105 (by decide) ?_
        obtain rfl := Option.some.inj hf
        exact R_iretZ1 rfl dX13_isBeyond_109
      · rw [if_neg hc] at hf
        refine R_aload_n 0 dX13_isBeyond_94 rfl rfl ?_
        refine R_iload_n 1 dX13_isBeyond_95 rfl rfl ?_
        obtain ⟨u5, eu5, hf⟩ := Option.bind_eq_some_iff.mp hf
        obtain ⟨q6, eq6, hf⟩ := Option.bind_eq_some_iff.mp hf
        refine R_callV (mj := mi_X13_sumOf) (ci := 11) (q := (RX13, TX13, 24)) (As := [.int x1]) (rest := []) (T_X13_sumOf eq6) eu5 rfl lV_X13_158 ⟨rfl, oky_X13_sumOf⟩ (by decide) (by decide) rfl C1_0 (Nat.le_of_ble_eq_true rfl) dX13_isBeyond_96 ?_
        refine R_iload 4 dX13_isBeyond_99 rfl ?_
        refine R_icle (tgt := 108) dX13_isBeyond_101 (by decide) (fun hc => ?_) (fun hc => ?_)
        · rw [if_pos hc] at hf
          refine R_iconst dX13_isBeyond_108 k_iconst_0 ?_
          obtain rfl := Option.some.inj hf
          exact R_iretZ0 rfl dX13_isBeyond_109
        · rw [if_neg hc] at hf
          refine R_iconst dX13_isBeyond_104 k_iconst_1 ?_
          refine R_goto (tgt := 109) dX13_isBeyond_105 (by decide) ?_
          obtain rfl := Option.some.inj hf
          exact R_iretZ1 rfl dX13_isBeyond_109
    · rw [if_neg hc] at hf
      refine R_aload_n 0 dX13_isBeyond_19 rfl rfl ?_
      refine R_iload_n 1 dX13_isBeyond_20 rfl rfl ?_
      refine R_iload 5 dX13_isBeyond_21 rfl ?_
      obtain ⟨u7, eu7, hf⟩ := Option.bind_eq_some_iff.mp hf
      obtain ⟨q8, eq8, hf⟩ := Option.bind_eq_some_iff.mp hf
      refine R_callV (mj := mi_X13_cellOf) (ci := 11) (q := (RX13, TX13, 24)) (As := [.int x1, .int x6]) (rest := []) (T_X13_cellOf eq8) eu7 rfl lV_X13_96 ⟨rfl, oky_X13_cellOf⟩ (by decide) (by decide) rfl C1_0 (Nat.le_of_ble_eq_true rfl) dX13_isBeyond_23 ?_
      refine R_istore (L' := [(7, .int q8.1), (0, va_rf x0), (1, .int x1), (2, .int x2), (4, .int x4), (5, .int x5), (6, .int x6)]) dX13_isBeyond_26 (by decide) rfl ?_
      refine R_iload 4 dX13_isBeyond_28 rfl ?_
      refine R_iload 0 dX13_isBeyond_30 rfl ?_
      refine R_iload_n 3 dX13_isBeyond_32 rfl rfl ?_
      refine R_icne (tgt := 40) dX13_isBeyond_33 (by decide) (fun hc => ?_) (fun hc => ?_)
      · rw [if_pos hc] at hf
        refine R_iconst dX13_isBeyond_36 k_iconst_0 ?_
        refine R_goto (tgt := 50) dX13_isBeyond_37 (by decide) ?_
        refine R.sub [1, 2, 3, 5, 6, 0] (L' := [(0, va_rf x0), (1, .int x1), (2, .int x2), (5, .int x5), (6, .int x6), (7, .int q8.1)]) rfl ?_
        exact f_X13_isBeyond_B50_ok ih x0 x1 x2 x5 x6 q8.1 x4 0 q8.2 hf
      · rw [if_neg hc] at hf
        refine R_aload_n 1 dX13_isBeyond_40 rfl rfl ?_
        obtain ⟨t9, et9, hf⟩ := Option.bind_eq_some_iff.mp hf
        refine R_getr lg_X13_22 et9 dX13_isBeyond_41 ?_
        refine R_iload 0 dX13_isBeyond_44 rfl ?_
        obtain ⟨t10, et10, hf⟩ := Option.bind_eq_some_iff.mp hf
        refine R_iaload et10 dX13_isBeyond_46 ?_
        obtain ⟨q11, eq11, hf⟩ := Option.bind_eq_some_iff.mp hf
        refine R_callS (mj := mi_X13_lowest) (As := [.int t10]) (rest := [.int x4]) (T_X13_lowest eq11) lS_X13_152 oky_X13_lowest (by decide) (by decide) rfl (C1_i C1_0) (Nat.le_of_ble_eq_true rfl) dX13_isBeyond_47 ?_
        refine R.sub [1, 2, 3, 5, 6, 0] (L' := [(0, va_rf x0), (1, .int x1), (2, .int x2), (5, .int x5), (6, .int x6), (7, .int q8.1)]) rfl ?_
        exact f_X13_isBeyond_B50_ok ih x0 x1 x2 x5 x6 q8.1 x4 q11.1 q11.2 hf
noncomputable def f_X13_isBeyond (x0 : Option Nat) (x1 : Int32) (x2 : Int32) (x3 : Int32) (h : PH) : Option (Int32 × PH) := f_X13_isBeyond_L9  FU x0 x1 x2 x3 x3 0 h
theorem T_X13_isBeyond {K : KT} {x0 : Option Nat} {x1 : Int32} {x2 : Int32} {x3 : Int32} {h : PH} {q : (Int32 × PH)} (hf : f_X13_isBeyond x0 x1 x2 x3 h = some q) : T K mi_X13_isBeyond [va_rf x0, .int x1, .int x2, .int x3] h (.inl (some (.int q.1))) q.2 := by
  unfold f_X13_isBeyond at hf
  refine T_of (by decide +kernel) rfl (C1_r (C1_i (C1_i (C1_i C1_0)))) (Nat.le_of_ble_eq_true rfl) ?_
  show R K mi_X13_isBeyond h [va_rf x0, .int x1, .int x2, .int x3] _ _ 0 [(0, va_rf x0), (1, .int x1), (2, .int x2), (3, .int x3)] [] h
  refine R_iload_n 3 dX13_isBeyond_0 rfl rfl ?_
  refine R_istore (L' := [(4, .int x3), (0, va_rf x0), (1, .int x1), (2, .int x2), (3, .int x3)]) dX13_isBeyond_1 (by decide) rfl ?_
  refine R_iload_n 4 dX13_isBeyond_3 rfl rfl ?_
  refine R_istore (L' := [(5, .int x3), (4, .int x3), (0, va_rf x0), (1, .int x1), (2, .int x2), (3, .int x3)]) dX13_isBeyond_4 (by decide) rfl ?_
  refine R_iconst dX13_isBeyond_6 k_iconst_0 ?_
  refine R_istore (L' := [(6, .int 0), (5, .int x3), (4, .int x3), (0, va_rf x0), (1, .int x1), (2, .int x2), (3, .int x3)]) dX13_isBeyond_7 (by decide) rfl ?_
  refine R.sub [3, 4, 5, 2, 1, 0] (L' := [(0, va_rf x0), (1, .int x1), (2, .int x2), (4, .int x3), (5, .int x3), (6, .int 0)]) rfl ?_
  exact f_X13_isBeyond_L9_ok  FU x0 x1 x2 x3 x3 0 h hf
abbrev mi_X13_sumsOf : MI := (RX13, yX13_sumsOf, cX13_sumsOf, 8, (some FieldType.int), 2)
noncomputable def f_X13_sumsOf_B77 (r5 : Option Nat → Int32 → Int32 → Int32 → Int32 → PH → Option (Int32 × PH)) (x0 : Option Nat) (x1 : Int32) (x2 : Int32) (x3 : Int32) (x4 : Int32) (x5 : Int32) (x6 : Int32) (h : PH) : Option (Int32 × PH) := if x5 = x2 then (r5 x0 x1 x2 x3 (x4 + 1) h) else (r5 x0 x1 x2 x6 (x4 + 1) h)
theorem f_X13_sumsOf_B77_ok {K : KT} {h0 : PH} {a0 : List Value} {q : (Int32 × PH)} {r5 : Option Nat → Int32 → Int32 → Int32 → Int32 → PH → Option (Int32 × PH)} (hr5 : ∀ (y0 : Option Nat) (y1 : Int32) (y2 : Int32) (y3 : Int32) (y4 : Int32) (h : PH), r5 y0 y1 y2 y3 y4 h = some q → R K mi_X13_sumsOf h0 a0 (.inl (some (.int q.1))) q.2 5 [(0, va_rf y0), (1, .int y1), (2, .int y2), (3, .int y3), (4, .int y4)] [] h) (x0 : Option Nat) (x1 : Int32) (x2 : Int32) (x3 : Int32) (x4 : Int32) (x5 : Int32) (x6 : Int32) (h : PH) (hf : f_X13_sumsOf_B77 r5 x0 x1 x2 x3 x4 x5 x6 h = some q) : R K mi_X13_sumsOf h0 a0 (.inl (some (.int q.1))) q.2 77 [(0, va_rf x0), (1, .int x1), (2, .int x2), (3, .int x3), (4, .int x4), (5, .int x5), (6, .int x6)] [] h := by
  unfold f_X13_sumsOf_B77 at hf
  refine R_iload 5 dX13_sumsOf_77 rfl ?_
  refine R_iload_n 2 dX13_sumsOf_79 rfl rfl ?_
  refine R_icne (tgt := 87) dX13_sumsOf_80 (by decide) (fun hc => ?_) (fun hc => ?_)
  · rw [if_pos hc] at hf
    refine R_iload_n 3 dX13_sumsOf_83 rfl rfl ?_
    refine R_goto (tgt := 89) dX13_sumsOf_84 (by decide) ?_
    refine R_istore_n (L' := [(3, .int x3), (0, va_rf x0), (1, .int x1), (2, .int x2), (4, .int x4), (5, .int x5), (6, .int x6)]) dX13_sumsOf_89 rfl (by decide) rfl ?_
    refine R_iinc (L' := [(4, .int (x4 + 1)), (3, .int x3), (0, va_rf x0), (1, .int x1), (2, .int x2), (5, .int x5), (6, .int x6)]) 4 dX13_sumsOf_90 rfl (k_inc_1 _) (by decide) rfl ?_
    refine R_goto (tgt := 5) dX13_sumsOf_93 (by decide) ?_
    refine R.sub [2, 3, 4, 1, 0] (L' := [(0, va_rf x0), (1, .int x1), (2, .int x2), (3, .int x3), (4, .int (x4 + 1))]) rfl ?_
    exact hr5 x0 x1 x2 x3 (x4 + 1) h hf
  · rw [if_neg hc] at hf
    refine R_iload 6 dX13_sumsOf_87 rfl ?_
    refine R_istore_n (L' := [(3, .int x6), (0, va_rf x0), (1, .int x1), (2, .int x2), (4, .int x4), (5, .int x5), (6, .int x6)]) dX13_sumsOf_89 rfl (by decide) rfl ?_
    refine R_iinc (L' := [(4, .int (x4 + 1)), (3, .int x6), (0, va_rf x0), (1, .int x1), (2, .int x2), (5, .int x5), (6, .int x6)]) 4 dX13_sumsOf_90 rfl (k_inc_1 _) (by decide) rfl ?_
    refine R_goto (tgt := 5) dX13_sumsOf_93 (by decide) ?_
    refine R.sub [2, 3, 4, 1, 0] (L' := [(0, va_rf x0), (1, .int x1), (2, .int x2), (3, .int x6), (4, .int (x4 + 1))]) rfl ?_
    exact hr5 x0 x1 x2 x6 (x4 + 1) h hf
noncomputable def f_X13_sumsOf_L30 (r5 : Option Nat → Int32 → Int32 → Int32 → Int32 → PH → Option (Int32 × PH)) : Nat → Option Nat → Int32 → Int32 → Int32 → Int32 → Int32 → Int32 → Int32 → PH → Option (Int32 × PH)
  | 0, _, _, _, _, _, _, _, _, _ => none
  | k + 1, x0, x1, x2, x3, x4, x5, x6, x7, h => if 6 < x7 then (f_X13_sumsOf_B77 r5 x0 x1 x2 x3 x4 x5 x6 h) else (if x5 = x2 then (f_X13_sumsOf_B77 r5 x0 x1 x2 x3 x4 x5 x6 h) else ((gfr 11 7 x0 h).bind (fun t1 => (ald 0 t1 x5 h).bind (fun t2 => (f_X13_has t2 x7 h).bind (fun q3 => if q3.1 = 0 then ((f_X13_sumsOf_L30 r5 k) x0 x1 x2 x3 x4 x5 (x6 ||| 0) (x7 + 1) q3.2) else ((f_X13_sumsOf_L30 r5 k) x0 x1 x2 x3 x4 x5 (x6 ||| (x3 <<< (x7 &&& 31))) (x7 + 1) q3.2))))))
theorem f_X13_sumsOf_L30_ok {K : KT} {h0 : PH} {a0 : List Value} {q : (Int32 × PH)} {r5 : Option Nat → Int32 → Int32 → Int32 → Int32 → PH → Option (Int32 × PH)} (hr5 : ∀ (y0 : Option Nat) (y1 : Int32) (y2 : Int32) (y3 : Int32) (y4 : Int32) (h : PH), r5 y0 y1 y2 y3 y4 h = some q → R K mi_X13_sumsOf h0 a0 (.inl (some (.int q.1))) q.2 5 [(0, va_rf y0), (1, .int y1), (2, .int y2), (3, .int y3), (4, .int y4)] [] h) : ∀ (k : Nat) (x0 : Option Nat) (x1 : Int32) (x2 : Int32) (x3 : Int32) (x4 : Int32) (x5 : Int32) (x6 : Int32) (x7 : Int32) (h : PH), f_X13_sumsOf_L30 r5 k x0 x1 x2 x3 x4 x5 x6 x7 h = some q → R K mi_X13_sumsOf h0 a0 (.inl (some (.int q.1))) q.2 30 [(0, va_rf x0), (1, .int x1), (2, .int x2), (3, .int x3), (4, .int x4), (5, .int x5), (6, .int x6), (7, .int x7)] [] h := by
  intro k
  induction k with
  | zero => intro _ _ _ _ _ _ _ _ _ hf; cases hf
  | succ k ih =>
    intro x0 x1 x2 x3 x4 x5 x6 x7 h hf
    unfold f_X13_sumsOf_L30 at hf
    refine R_iload 7 dX13_sumsOf_30 rfl ?_
    refine R_bipush dX13_sumsOf_32 k_bipush_6 ?_
    refine R_icgt (tgt := 77) dX13_sumsOf_34 (by decide) (fun hc => ?_) (fun hc => ?_)
    · rw [if_pos hc] at hf
      refine R.sub [0, 1, 2, 3, 4, 5, 6] (L' := [(0, va_rf x0), (1, .int x1), (2, .int x2), (3, .int x3), (4, .int x4), (5, .int x5), (6, .int x6)]) rfl ?_
      exact f_X13_sumsOf_B77_ok hr5 x0 x1 x2 x3 x4 x5 x6 h hf
    · rw [if_neg hc] at hf
      refine R_iload 5 dX13_sumsOf_37 rfl ?_
      refine R_iload_n 2 dX13_sumsOf_39 rfl rfl ?_
      refine R_iceq (tgt := 77) dX13_sumsOf_40 (by decide) (fun hc => ?_) (fun hc => ?_)
      · rw [if_pos hc] at hf
        refine R.sub [0, 1, 2, 3, 4, 5, 6] (L' := [(0, va_rf x0), (1, .int x1), (2, .int x2), (3, .int x3), (4, .int x4), (5, .int x5), (6, .int x6)]) rfl ?_
        exact f_X13_sumsOf_B77_ok hr5 x0 x1 x2 x3 x4 x5 x6 h hf
      · rw [if_neg hc] at hf
        refine R_iload 6 dX13_sumsOf_43 rfl ?_
        refine R_aload_n 0 dX13_sumsOf_45 rfl rfl ?_
        obtain ⟨t1, et1, hf⟩ := Option.bind_eq_some_iff.mp hf
        refine R_getr lg_X13_22 et1 dX13_sumsOf_46 ?_
        refine R_iload 5 dX13_sumsOf_49 rfl ?_
        obtain ⟨t2, et2, hf⟩ := Option.bind_eq_some_iff.mp hf
        refine R_iaload et2 dX13_sumsOf_51 ?_
        refine R_iload 7 dX13_sumsOf_52 rfl ?_
        obtain ⟨q3, eq3, hf⟩ := Option.bind_eq_some_iff.mp hf
        refine R_callS (mj := mi_X13_has) (As := [.int t2, .int x7]) (rest := [.int x6]) (T_X13_has eq3) lS_X13_54 oky_X13_has (by decide) (by decide) rfl (C1_i C1_0) (Nat.le_of_ble_eq_true rfl) dX13_sumsOf_54 ?_
        refine R_ifeq (tgt := 67) dX13_sumsOf_57 (by decide) (fun hc => ?_) (fun hc => ?_)
        · rw [if_pos hc] at hf
          refine R_iconst dX13_sumsOf_67 k_iconst_0 ?_
          refine R_ior dX13_sumsOf_68 ?_
          refine R_istore (L' := [(6, .int (x6 ||| 0)), (0, va_rf x0), (1, .int x1), (2, .int x2), (3, .int x3), (4, .int x4), (5, .int x5), (7, .int x7)]) dX13_sumsOf_69 (by decide) rfl ?_
          refine R_iinc (L' := [(7, .int (x7 + 1)), (6, .int (x6 ||| 0)), (0, va_rf x0), (1, .int x1), (2, .int x2), (3, .int x3), (4, .int x4), (5, .int x5)]) 7 dX13_sumsOf_71 rfl (k_inc_1 _) (by decide) rfl ?_
          refine R_goto (tgt := 30) dX13_sumsOf_74 (by decide) ?_
          refine R.sub [2, 3, 4, 5, 6, 7, 1, 0] (L' := [(0, va_rf x0), (1, .int x1), (2, .int x2), (3, .int x3), (4, .int x4), (5, .int x5), (6, .int (x6 ||| 0)), (7, .int (x7 + 1))]) rfl ?_
          exact ih x0 x1 x2 x3 x4 x5 (x6 ||| 0) (x7 + 1) q3.2 hf
        · rw [if_neg hc] at hf
          refine R_iload_n 3 dX13_sumsOf_60 rfl rfl ?_
          refine R_iload 7 dX13_sumsOf_61 rfl ?_
          refine R_ishl dX13_sumsOf_63 ?_
          refine R_goto (tgt := 68) dX13_sumsOf_64 (by decide) ?_
          refine R_ior dX13_sumsOf_68 ?_
          refine R_istore (L' := [(6, .int (x6 ||| (x3 <<< (x7 &&& 31)))), (0, va_rf x0), (1, .int x1), (2, .int x2), (3, .int x3), (4, .int x4), (5, .int x5), (7, .int x7)]) dX13_sumsOf_69 (by decide) rfl ?_
          refine R_iinc (L' := [(7, .int (x7 + 1)), (6, .int (x6 ||| (x3 <<< (x7 &&& 31)))), (0, va_rf x0), (1, .int x1), (2, .int x2), (3, .int x3), (4, .int x4), (5, .int x5)]) 7 dX13_sumsOf_71 rfl (k_inc_1 _) (by decide) rfl ?_
          refine R_goto (tgt := 30) dX13_sumsOf_74 (by decide) ?_
          refine R.sub [2, 3, 4, 5, 6, 7, 1, 0] (L' := [(0, va_rf x0), (1, .int x1), (2, .int x2), (3, .int x3), (4, .int x4), (5, .int x5), (6, .int (x6 ||| (x3 <<< (x7 &&& 31)))), (7, .int (x7 + 1))]) rfl ?_
          exact ih x0 x1 x2 x3 x4 x5 (x6 ||| (x3 <<< (x7 &&& 31))) (x7 + 1) q3.2 hf
noncomputable def f_X13_sumsOf_L5  : Nat → Option Nat → Int32 → Int32 → Int32 → Int32 → PH → Option (Int32 × PH)
  | 0, _, _, _, _, _, _ => none
  | k + 1, x0, x1, x2, x3, x4, h => (rcv 11 x0 h).bind (fun u1 => (f_X13_cellsOf x0 x1 h).bind (fun q2 => if q2.1 ≤ x4 then (some (x3, q2.2)) else ((rcv 11 x0 q2.2).bind (fun u3 => (f_X13_cellOf x0 x1 x4 q2.2).bind (fun q4 => f_X13_sumsOf_L30 (f_X13_sumsOf_L5 k) FU x0 x1 x2 x3 x4 q4.1 0 1 q4.2)))))
theorem f_X13_sumsOf_L5_ok {K : KT} {h0 : PH} {a0 : List Value} {q : (Int32 × PH)}  : ∀ (k : Nat) (x0 : Option Nat) (x1 : Int32) (x2 : Int32) (x3 : Int32) (x4 : Int32) (h : PH), f_X13_sumsOf_L5  k x0 x1 x2 x3 x4 h = some q → R K mi_X13_sumsOf h0 a0 (.inl (some (.int q.1))) q.2 5 [(0, va_rf x0), (1, .int x1), (2, .int x2), (3, .int x3), (4, .int x4)] [] h := by
  intro k
  induction k with
  | zero => intro _ _ _ _ _ _ hf; cases hf
  | succ k ih =>
    intro x0 x1 x2 x3 x4 h hf
    unfold f_X13_sumsOf_L5 at hf
    refine R_iload 4 dX13_sumsOf_5 rfl ?_
    refine R_aload_n 0 dX13_sumsOf_7 rfl rfl ?_
    refine R_iload_n 1 dX13_sumsOf_8 rfl rfl ?_
    obtain ⟨u1, eu1, hf⟩ := Option.bind_eq_some_iff.mp hf
    obtain ⟨q2, eq2, hf⟩ := Option.bind_eq_some_iff.mp hf
    refine R_callV (mj := mi_X13_cellsOf) (ci := 11) (q := (RX13, TX13, 24)) (As := [.int x1]) (rest := [.int x4]) (T_X13_cellsOf eq2) eu1 rfl lV_X13_93 ⟨rfl, oky_X13_cellsOf⟩ (by decide) (by decide) rfl (C1_i C1_0) (Nat.le_of_ble_eq_true rfl) dX13_sumsOf_9 ?_
    refine R_icge (tgt := 96) dX13_sumsOf_12 (by decide) (fun hc => ?_) (fun hc => ?_)
    · rw [if_pos hc] at hf
      refine R_iload_n 3 dX13_sumsOf_96 rfl rfl ?_
      obtain rfl := Option.some.inj hf
      exact R_iretI rfl dX13_sumsOf_97
    · rw [if_neg hc] at hf
      refine R_aload_n 0 dX13_sumsOf_15 rfl rfl ?_
      refine R_iload_n 1 dX13_sumsOf_16 rfl rfl ?_
      refine R_iload 4 dX13_sumsOf_17 rfl ?_
      obtain ⟨u3, eu3, hf⟩ := Option.bind_eq_some_iff.mp hf
      obtain ⟨q4, eq4, hf⟩ := Option.bind_eq_some_iff.mp hf
      refine R_callV (mj := mi_X13_cellOf) (ci := 11) (q := (RX13, TX13, 24)) (As := [.int x1, .int x4]) (rest := []) (T_X13_cellOf eq4) eu3 rfl lV_X13_96 ⟨rfl, oky_X13_cellOf⟩ (by decide) (by decide) rfl C1_0 (Nat.le_of_ble_eq_true rfl) dX13_sumsOf_19 ?_
      refine R_istore (L' := [(5, .int q4.1), (0, va_rf x0), (1, .int x1), (2, .int x2), (3, .int x3), (4, .int x4)]) dX13_sumsOf_22 (by decide) rfl ?_
      refine R_iconst dX13_sumsOf_24 k_iconst_0 ?_
      refine R_istore (L' := [(6, .int 0), (5, .int q4.1), (0, va_rf x0), (1, .int x1), (2, .int x2), (3, .int x3), (4, .int x4)]) dX13_sumsOf_25 (by decide) rfl ?_
      refine R_iconst dX13_sumsOf_27 k_iconst_1 ?_
      refine R_istore (L' := [(7, .int 1), (6, .int 0), (5, .int q4.1), (0, va_rf x0), (1, .int x1), (2, .int x2), (3, .int x3), (4, .int x4)]) dX13_sumsOf_28 (by decide) rfl ?_
      refine R.sub [3, 4, 5, 6, 7, 2, 1, 0] (L' := [(0, va_rf x0), (1, .int x1), (2, .int x2), (3, .int x3), (4, .int x4), (5, .int q4.1), (6, .int 0), (7, .int 1)]) rfl ?_
      exact f_X13_sumsOf_L30_ok ih FU x0 x1 x2 x3 x4 q4.1 0 1 q4.2 hf
noncomputable def f_X13_sumsOf (x0 : Option Nat) (x1 : Int32) (x2 : Int32) (h : PH) : Option (Int32 × PH) := f_X13_sumsOf_L5  FU x0 x1 x2 1 0 h
theorem T_X13_sumsOf {K : KT} {x0 : Option Nat} {x1 : Int32} {x2 : Int32} {h : PH} {q : (Int32 × PH)} (hf : f_X13_sumsOf x0 x1 x2 h = some q) : T K mi_X13_sumsOf [va_rf x0, .int x1, .int x2] h (.inl (some (.int q.1))) q.2 := by
  unfold f_X13_sumsOf at hf
  refine T_of (by decide +kernel) rfl (C1_r (C1_i (C1_i C1_0))) (Nat.le_of_ble_eq_true rfl) ?_
  show R K mi_X13_sumsOf h [va_rf x0, .int x1, .int x2] _ _ 0 [(0, va_rf x0), (1, .int x1), (2, .int x2)] [] h
  refine R_iconst dX13_sumsOf_0 k_iconst_1 ?_
  refine R_istore_n (L' := [(3, .int 1), (0, va_rf x0), (1, .int x1), (2, .int x2)]) dX13_sumsOf_1 rfl (by decide) rfl ?_
  refine R_iconst dX13_sumsOf_2 k_iconst_0 ?_
  refine R_istore (L' := [(4, .int 0), (3, .int 1), (0, va_rf x0), (1, .int x1), (2, .int x2)]) dX13_sumsOf_3 (by decide) rfl ?_
  refine R.sub [2, 3, 4, 1, 0] (L' := [(0, va_rf x0), (1, .int x1), (2, .int x2), (3, .int 1), (4, .int 0)]) rfl ?_
  exact f_X13_sumsOf_L5_ok  FU x0 x1 x2 1 0 h hf
theorem lV_X13_161 : GoodIn lw_all (wsV "EdgeSumsModel" 161 "EdgeSumsModel" yX13_sumsOf (ws_ yX13_sumsOf cX13_sumsOf 8 (some FieldType.int))) := lw_V q2911 q2913 qs89 q158 q2914
theorem oky_X13_sumsOf : okY yX13_sumsOf 2 := ⟨by decide +kernel, by decide +kernel, by decide +kernel⟩
abbrev mi_X13_isMissed : MI := (RX13, yX13_isMissed, cX13_isMissed, 5, (some FieldType.boolean), 3)
noncomputable def f_X13_isMissed (x0 : Option Nat) (x1 : Int32) (x2 : Int32) (x3 : Int32) (h : PH) : Option (Int32 × PH) := (rcv 11 x0 h).bind (fun u1 => (f_X13_sumOf x0 x1 h).bind (fun q2 => if (q2.1 - x3) < 0 then (some (1, q2.2)) else ((rcv 11 x0 q2.2).bind (fun u3 => (f_X13_sumsOf x0 x1 x2 q2.2).bind (fun q4 => (f_X13_has q4.1 (q2.1 - x3) q4.2).bind (fun q5 => if q5.1 = 0 then (some (1, q5.2)) else (some (0, q5.2))))))))
theorem T_X13_isMissed {K : KT} {x0 : Option Nat} {x1 : Int32} {x2 : Int32} {x3 : Int32} {h : PH} {q : (Int32 × PH)} (hf : f_X13_isMissed x0 x1 x2 x3 h = some q) : T K mi_X13_isMissed [va_rf x0, .int x1, .int x2, .int x3] h (.inl (some (.int q.1))) q.2 := by
  unfold f_X13_isMissed at hf
  refine T_of (by decide +kernel) rfl (C1_r (C1_i (C1_i (C1_i C1_0)))) (Nat.le_of_ble_eq_true rfl) ?_
  show R K mi_X13_isMissed h [va_rf x0, .int x1, .int x2, .int x3] _ _ 0 [(0, va_rf x0), (1, .int x1), (2, .int x2), (3, .int x3)] [] h
  refine R_aload_n 0 dX13_isMissed_0 rfl rfl ?_
  refine R_iload_n 1 dX13_isMissed_1 rfl rfl ?_
  obtain ⟨u1, eu1, hf⟩ := Option.bind_eq_some_iff.mp hf
  obtain ⟨q2, eq2, hf⟩ := Option.bind_eq_some_iff.mp hf
  refine R_callV (mj := mi_X13_sumOf) (ci := 11) (q := (RX13, TX13, 24)) (As := [.int x1]) (rest := []) (T_X13_sumOf eq2) eu1 rfl lV_X13_158 ⟨rfl, oky_X13_sumOf⟩ (by decide) (by decide) rfl C1_0 (Nat.le_of_ble_eq_true rfl) dX13_isMissed_2 ?_
  refine R_iload_n 3 dX13_isMissed_5 rfl rfl ?_
  refine R_isub dX13_isMissed_6 ?_
  refine R_istore (L' := [(4, .int (q2.1 - x3)), (0, va_rf x0), (1, .int x1), (2, .int x2), (3, .int x3)]) dX13_isMissed_7 (by decide) rfl ?_
  refine R_iload 0 dX13_isMissed_9 rfl ?_
  refine R_iflt (tgt := 28) dX13_isMissed_11 (by decide) (fun hc => ?_) (fun hc => ?_)
  · rw [if_pos hc] at hf
    refine R_iconst dX13_isMissed_28 k_iconst_1 ?_
    refine R_goto (tgt := 33) dX13_isMissed_29 (by decide) ?_
    obtain rfl := Option.some.inj hf
    exact R_iretZ1 rfl dX13_isMissed_33
  · rw [if_neg hc] at hf
    refine R_aload_n 1 dX13_isMissed_14 rfl rfl ?_
    refine R_iload_n 2 dX13_isMissed_15 rfl rfl ?_
    refine R_iload_n 3 dX13_isMissed_16 rfl rfl ?_
    obtain ⟨u3, eu3, hf⟩ := Option.bind_eq_some_iff.mp hf
    obtain ⟨q4, eq4, hf⟩ := Option.bind_eq_some_iff.mp hf
    refine R_callV (mj := mi_X13_sumsOf) (ci := 11) (q := (RX13, TX13, 24)) (As := [.int x1, .int x2]) (rest := []) (T_X13_sumsOf eq4) eu3 rfl lV_X13_161 ⟨rfl, oky_X13_sumsOf⟩ (by decide) (by decide) rfl C1_0 (Nat.le_of_ble_eq_true rfl) dX13_isMissed_17 ?_
    refine R_iload 0 dX13_isMissed_20 rfl ?_
    obtain ⟨q5, eq5, hf⟩ := Option.bind_eq_some_iff.mp hf
    refine R_callS (mj := mi_X13_has) (As := [.int q4.1, .int (q2.1 - x3)]) (rest := []) (T_X13_has eq5) lS_X13_54 oky_X13_has (by decide) (by decide) rfl C1_0 (Nat.le_of_ble_eq_true rfl) dX13_isMissed_22 ?_
    refine R_ifne (tgt := 32) dX13_isMissed_25 (by decide) (fun hc => ?_) (fun hc => ?_)
    · rw [if_pos hc] at hf
      refine R_iconst dX13_isMissed_28 k_iconst_1 ?_
      refine R_goto (tgt := 33) dX13_isMissed_29 (by decide) ?_
      obtain rfl := Option.some.inj hf
      exact R_iretZ1 rfl dX13_isMissed_33
    · rw [if_neg hc] at hf
      refine R_iconst dX13_isMissed_32 k_iconst_0 ?_
      obtain rfl := Option.some.inj hf
      exact R_iretZ0 rfl dX13_isMissed_33
theorem lV_X13_164 : GoodIn lw_all (wsV "EdgeSumsModel" 164 "EdgeSumsModel" yX13_isBeyond (ws_ yX13_isBeyond cX13_isBeyond 8 (some FieldType.boolean))) := lw_V q2896 q2898 qs86 q158 q2899
theorem oky_X13_isBeyond : okY yX13_isBeyond 3 := ⟨by decide +kernel, by decide +kernel, by decide +kernel⟩
theorem lV_X13_167 : GoodIn lw_all (wsV "EdgeSumsModel" 167 "EdgeSumsModel" yX13_isMissed (ws_ yX13_isMissed cX13_isMissed 5 (some FieldType.boolean))) := lw_V q2907 q2909 qs88 q158 q2910
theorem oky_X13_isMissed : okY yX13_isMissed 3 := ⟨by decide +kernel, by decide +kernel, by decide +kernel⟩
abbrev mi_X13_lineCause : MI := (RX13, yX13_lineCause, cX13_lineCause, 8, (some FieldType.int), 4)
noncomputable def f_X13_lineCause_B48 (r30 : Option Nat → Int32 → Int32 → Int32 → Int32 → Int32 → Int32 → PH → Option (Int32 × PH)) (x0 : Option Nat) (x1 : Int32) (x2 : Int32) (x3 : Int32) (x4 : Int32) (x5 : Int32) (x6 : Int32) (s0 : Int32) (h : PH) : Option (Int32 × PH) := (gfr 11 1 x0 h).bind (fun t1 => (ald 0 t1 (83 + s0) h).bind (fun t2 => if t2 = 1 then (if x1 = 2 then ((rcv 11 x0 h).bind (fun u3 => (f_X13_isBeyond x0 s0 x2 x3 h).bind (fun q4 => if q4.1 = 0 then (r30 x0 x1 x2 x3 x4 x5 (x6 + 1) q4.2) else (some (s0, q4.2))))) else ((rcv 11 x0 h).bind (fun u5 => (f_X13_isMissed x0 s0 x2 x3 h).bind (fun q6 => if q6.1 = 0 then (r30 x0 x1 x2 x3 x4 x5 (x6 + 1) q6.2) else (some (s0, q6.2)))))) else (r30 x0 x1 x2 x3 x4 x5 (x6 + 1) h)))
theorem f_X13_lineCause_B48_ok {K : KT} {h0 : PH} {a0 : List Value} {q : (Int32 × PH)} {r30 : Option Nat → Int32 → Int32 → Int32 → Int32 → Int32 → Int32 → PH → Option (Int32 × PH)} (hr30 : ∀ (y0 : Option Nat) (y1 : Int32) (y2 : Int32) (y3 : Int32) (y4 : Int32) (y5 : Int32) (y6 : Int32) (h : PH), r30 y0 y1 y2 y3 y4 y5 y6 h = some q → R K mi_X13_lineCause h0 a0 (.inl (some (.int q.1))) q.2 30 [(0, va_rf y0), (1, .int y1), (2, .int y2), (3, .int y3), (4, .int y4), (5, .int y5), (6, .int y6)] [] h) (x0 : Option Nat) (x1 : Int32) (x2 : Int32) (x3 : Int32) (x4 : Int32) (x5 : Int32) (x6 : Int32) (s0 : Int32) (h : PH) (hf : f_X13_lineCause_B48 r30 x0 x1 x2 x3 x4 x5 x6 s0 h = some q) : R K mi_X13_lineCause h0 a0 (.inl (some (.int q.1))) q.2 48 [(0, va_rf x0), (1, .int x1), (2, .int x2), (3, .int x3), (4, .int x4), (5, .int x5), (6, .int x6)] [.int s0] h := by
  unfold f_X13_lineCause_B48 at hf
  refine R_istore (L' := [(7, .int s0), (0, va_rf x0), (1, .int x1), (2, .int x2), (3, .int x3), (4, .int x4), (5, .int x5), (6, .int x6)]) dX13_lineCause_48 (by decide) rfl ?_
  refine R_aload_n 1 dX13_lineCause_50 rfl rfl ?_
  obtain ⟨t1, et1, hf⟩ := Option.bind_eq_some_iff.mp hf
  refine R_getr lg_X13_7 et1 dX13_lineCause_51 ?_
  refine R_bipush dX13_lineCause_54 k_bipush_83 ?_
  refine R_iload 0 dX13_lineCause_56 rfl ?_
  refine R_iadd dX13_lineCause_58 ?_
  obtain ⟨t2, et2, hf⟩ := Option.bind_eq_some_iff.mp hf
  refine R_iaload et2 dX13_lineCause_59 ?_
  refine R_iconst dX13_lineCause_60 k_iconst_1 ?_
  refine R_icne (tgt := 97) dX13_lineCause_61 (by decide) (fun hc => ?_) (fun hc => ?_)
  · rw [if_pos hc] at hf
    refine R_iload_n 2 dX13_lineCause_64 rfl rfl ?_
    refine R_iconst dX13_lineCause_65 k_iconst_2 ?_
    refine R_icne (tgt := 83) dX13_lineCause_66 (by decide) (fun hc => ?_) (fun hc => ?_)
    · rw [if_pos hc] at hf
      refine R_aload_n 1 dX13_lineCause_69 rfl rfl ?_
      refine R_iload 0 dX13_lineCause_70 rfl ?_
      refine R_iload_n 3 dX13_lineCause_72 rfl rfl ?_
      refine R_iload_n 4 dX13_lineCause_73 rfl rfl ?_
      obtain ⟨u3, eu3, hf⟩ := Option.bind_eq_some_iff.mp hf
      obtain ⟨q4, eq4, hf⟩ := Option.bind_eq_some_iff.mp hf
      refine R_callV (mj := mi_X13_isBeyond) (ci := 11) (q := (RX13, TX13, 24)) (As := [.int s0, .int x2, .int x3]) (rest := []) (T_X13_isBeyond eq4) eu3 rfl lV_X13_164 ⟨rfl, oky_X13_isBeyond⟩ (by decide) (by decide) rfl C1_0 (Nat.le_of_ble_eq_true rfl) dX13_lineCause_74 ?_
      refine R_ifeq (tgt := 97) dX13_lineCause_77 (by decide) (fun hc => ?_) (fun hc => ?_)
      · rw [if_pos hc] at hf
        refine R_iinc (L' := [(6, .int (x6 + 1)), (7, .int s0), (0, va_rf x0), (1, .int x1), (2, .int x2), (3, .int x3), (4, .int x4), (5, .int x5)]) 7 dX13_lineCause_97 rfl (k_inc_1 _) (by decide) rfl ?_
        refine R_goto (tgt := 30) dX13_lineCause_100 (by decide) ?_
        refine R.sub [2, 3, 4, 5, 6, 7, 0] (L' := [(0, va_rf x0), (1, .int x1), (2, .int x2), (3, .int x3), (4, .int x4), (5, .int x5), (6, .int (x6 + 1))]) rfl ?_
        exact hr30 x0 x1 x2 x3 x4 x5 (x6 + 1) q4.2 hf
      · rw [if_neg hc] at hf
        refine R_goto (tgt := 94) dX13_lineCause_80 (by decide) ?_
        refine R_iload 0 dX13_lineCause_94 rfl ?_
        obtain rfl := Option.some.inj hf
        exact R_iretI rfl dX13_lineCause_96
    · rw [if_neg hc] at hf
      refine R_aload_n 1 dX13_lineCause_83 rfl rfl ?_
      refine R_iload 0 dX13_lineCause_84 rfl ?_
      refine R_iload_n 3 dX13_lineCause_86 rfl rfl ?_
      refine R_iload_n 4 dX13_lineCause_87 rfl rfl ?_
      obtain ⟨u5, eu5, hf⟩ := Option.bind_eq_some_iff.mp hf
      obtain ⟨q6, eq6, hf⟩ := Option.bind_eq_some_iff.mp hf
      refine R_callV (mj := mi_X13_isMissed) (ci := 11) (q := (RX13, TX13, 24)) (As := [.int s0, .int x2, .int x3]) (rest := []) (T_X13_isMissed eq6) eu5 rfl lV_X13_167 ⟨rfl, oky_X13_isMissed⟩ (by decide) (by decide) rfl C1_0 (Nat.le_of_ble_eq_true rfl) dX13_lineCause_88 ?_
      refine R_ifeq (tgt := 97) dX13_lineCause_91 (by decide) (fun hc => ?_) (fun hc => ?_)
      · rw [if_pos hc] at hf
        refine R_iinc (L' := [(6, .int (x6 + 1)), (7, .int s0), (0, va_rf x0), (1, .int x1), (2, .int x2), (3, .int x3), (4, .int x4), (5, .int x5)]) 7 dX13_lineCause_97 rfl (k_inc_1 _) (by decide) rfl ?_
        refine R_goto (tgt := 30) dX13_lineCause_100 (by decide) ?_
        refine R.sub [2, 3, 4, 5, 6, 7, 0] (L' := [(0, va_rf x0), (1, .int x1), (2, .int x2), (3, .int x3), (4, .int x4), (5, .int x5), (6, .int (x6 + 1))]) rfl ?_
        exact hr30 x0 x1 x2 x3 x4 x5 (x6 + 1) q6.2 hf
      · rw [if_neg hc] at hf
        refine R_iload 0 dX13_lineCause_94 rfl ?_
        obtain rfl := Option.some.inj hf
        exact R_iretI rfl dX13_lineCause_96
  · rw [if_neg hc] at hf
    refine R_iinc (L' := [(6, .int (x6 + 1)), (7, .int s0), (0, va_rf x0), (1, .int x1), (2, .int x2), (3, .int x3), (4, .int x4), (5, .int x5)]) 7 dX13_lineCause_97 rfl (k_inc_1 _) (by decide) rfl ?_
    refine R_goto (tgt := 30) dX13_lineCause_100 (by decide) ?_
    refine R.sub [2, 3, 4, 5, 6, 7, 0] (L' := [(0, va_rf x0), (1, .int x1), (2, .int x2), (3, .int x3), (4, .int x4), (5, .int x5), (6, .int (x6 + 1))]) rfl ?_
    exact hr30 x0 x1 x2 x3 x4 x5 (x6 + 1) h hf
noncomputable def f_X13_lineCause_L30  : Nat → Option Nat → Int32 → Int32 → Int32 → Int32 → Int32 → Int32 → PH → Option (Int32 × PH)
  | 0, _, _, _, _, _, _, _, _ => none
  | k + 1, x0, x1, x2, x3, x4, x5, x6, h => if 2 ≤ x6 then (some ((-99), h)) else (if x6 = 0 then (f_X13_lineCause_B48 (f_X13_lineCause_L30 k) x0 x1 x2 x3 x4 x5 x6 x4 h) else (f_X13_lineCause_B48 (f_X13_lineCause_L30 k) x0 x1 x2 x3 x4 x5 x6 x5 h))
theorem f_X13_lineCause_L30_ok {K : KT} {h0 : PH} {a0 : List Value} {q : (Int32 × PH)}  : ∀ (k : Nat) (x0 : Option Nat) (x1 : Int32) (x2 : Int32) (x3 : Int32) (x4 : Int32) (x5 : Int32) (x6 : Int32) (h : PH), f_X13_lineCause_L30  k x0 x1 x2 x3 x4 x5 x6 h = some q → R K mi_X13_lineCause h0 a0 (.inl (some (.int q.1))) q.2 30 [(0, va_rf x0), (1, .int x1), (2, .int x2), (3, .int x3), (4, .int x4), (5, .int x5), (6, .int x6)] [] h := by
  intro k
  induction k with
  | zero => intro _ _ _ _ _ _ _ _ hf; cases hf
  | succ k ih =>
    intro x0 x1 x2 x3 x4 x5 x6 h hf
    unfold f_X13_lineCause_L30 at hf
    refine R_iload 6 dX13_lineCause_30 rfl ?_
    refine R_iconst dX13_lineCause_32 k_iconst_2 ?_
    refine R_icge (tgt := 103) dX13_lineCause_33 (by decide) (fun hc => ?_) (fun hc => ?_)
    · rw [if_pos hc] at hf
      refine R_bipush dX13_lineCause_103 k_bipush_m99 ?_
      obtain rfl := Option.some.inj hf
      exact R_iretI rfl dX13_lineCause_105
    · rw [if_neg hc] at hf
      refine R_iload 6 dX13_lineCause_36 rfl ?_
      refine R_ifne (tgt := 46) dX13_lineCause_38 (by decide) (fun hc => ?_) (fun hc => ?_)
      · rw [if_pos hc] at hf
        refine R_iload 4 dX13_lineCause_41 rfl ?_
        refine R_goto (tgt := 48) dX13_lineCause_43 (by decide) ?_
        exact f_X13_lineCause_B48_ok ih x0 x1 x2 x3 x4 x5 x6 x4 h hf
      · rw [if_neg hc] at hf
        refine R_iload 5 dX13_lineCause_46 rfl ?_
        exact f_X13_lineCause_B48_ok ih x0 x1 x2 x3 x4 x5 x6 x5 h hf
noncomputable def f_X13_lineCause (x0 : Option Nat) (x1 : Int32) (x2 : Int32) (x3 : Int32) (h : PH) : Option (Int32 × PH) := (gfr 11 1 x0 h).bind (fun t1 => (ald 0 t1 1 h).bind (fun t2 => (nz t2).bind (fun u3 => (gfr 11 1 x0 h).bind (fun t4 => (ald 0 t4 0 h).bind (fun t5 => (gfr 11 1 x0 h).bind (fun t6 => (ald 0 t6 1 h).bind (fun t7 => (nz t7).bind (fun u8 => f_X13_lineCause_L30  FU x0 x1 x2 x3 (x2 / t2) (t5 + (x2 - x2 / t7 * t7)) 0 h))))))))
theorem T_X13_lineCause {K : KT} {x0 : Option Nat} {x1 : Int32} {x2 : Int32} {x3 : Int32} {h : PH} {q : (Int32 × PH)} (hf : f_X13_lineCause x0 x1 x2 x3 h = some q) : T K mi_X13_lineCause [va_rf x0, .int x1, .int x2, .int x3] h (.inl (some (.int q.1))) q.2 := by
  unfold f_X13_lineCause at hf
  refine T_of (by decide +kernel) rfl (C1_r (C1_i (C1_i (C1_i C1_0)))) (Nat.le_of_ble_eq_true rfl) ?_
  show R K mi_X13_lineCause h [va_rf x0, .int x1, .int x2, .int x3] _ _ 0 [(0, va_rf x0), (1, .int x1), (2, .int x2), (3, .int x3)] [] h
  refine R_iload_n 2 dX13_lineCause_0 rfl rfl ?_
  refine R_aload_n 0 dX13_lineCause_1 rfl rfl ?_
  obtain ⟨t1, et1, hf⟩ := Option.bind_eq_some_iff.mp hf
  refine R_getr lg_X13_7 et1 dX13_lineCause_2 ?_
  refine R_iconst dX13_lineCause_5 k_iconst_1 ?_
  obtain ⟨t2, et2, hf⟩ := Option.bind_eq_some_iff.mp hf
  refine R_iaload et2 dX13_lineCause_6 ?_
  obtain ⟨u3, eu3, hf⟩ := Option.bind_eq_some_iff.mp hf
  refine R_idiv dX13_lineCause_7 (nz_some eu3) ?_
  refine R_istore (L' := [(4, .int (x2 / t2)), (0, va_rf x0), (1, .int x1), (2, .int x2), (3, .int x3)]) dX13_lineCause_8 (by decide) rfl ?_
  refine R_aload_n 1 dX13_lineCause_10 rfl rfl ?_
  obtain ⟨t4, et4, hf⟩ := Option.bind_eq_some_iff.mp hf
  refine R_getr lg_X13_7 et4 dX13_lineCause_11 ?_
  refine R_iconst dX13_lineCause_14 k_iconst_0 ?_
  obtain ⟨t5, et5, hf⟩ := Option.bind_eq_some_iff.mp hf
  refine R_iaload et5 dX13_lineCause_15 ?_
  refine R_iload_n 3 dX13_lineCause_16 rfl rfl ?_
  refine R_aload_n 1 dX13_lineCause_17 rfl rfl ?_
  obtain ⟨t6, et6, hf⟩ := Option.bind_eq_some_iff.mp hf
  refine R_getr lg_X13_7 et6 dX13_lineCause_18 ?_
  refine R_iconst dX13_lineCause_21 k_iconst_1 ?_
  obtain ⟨t7, et7, hf⟩ := Option.bind_eq_some_iff.mp hf
  refine R_iaload et7 dX13_lineCause_22 ?_
  obtain ⟨u8, eu8, hf⟩ := Option.bind_eq_some_iff.mp hf
  refine R_irem dX13_lineCause_23 (nz_some eu8) ?_
  refine R_iadd dX13_lineCause_24 ?_
  refine R_istore (L' := [(5, .int (t5 + (x2 - x2 / t7 * t7))), (4, .int (x2 / t2)), (0, va_rf x0), (1, .int x1), (2, .int x2), (3, .int x3)]) dX13_lineCause_25 (by decide) rfl ?_
  refine R_iconst dX13_lineCause_27 k_iconst_0 ?_
  refine R_istore (L' := [(6, .int 0), (5, .int (t5 + (x2 - x2 / t7 * t7))), (4, .int (x2 / t2)), (0, va_rf x0), (1, .int x1), (2, .int x2), (3, .int x3)]) dX13_lineCause_28 (by decide) rfl ?_
  refine R.sub [3, 4, 5, 6, 2, 1, 0] (L' := [(0, va_rf x0), (1, .int x1), (2, .int x2), (3, .int x3), (4, .int (x2 / t2)), (5, .int (t5 + (x2 - x2 / t7 * t7))), (6, .int 0)]) rfl ?_
  exact f_X13_lineCause_L30_ok  FU x0 x1 x2 x3 (x2 / t2) (t5 + (x2 - x2 / t7 * t7)) 0 h hf
abbrev mi_X13_onlyCause : MI := (RX13, yX13_onlyCause, cX13_onlyCause, 5, (some FieldType.int), 3)
noncomputable def f_X13_onlyCause_L5  : Nat → Option Nat → Int32 → Int32 → Int32 → Int32 → PH → Option (Int32 × PH)
  | 0, _, _, _, _, _, _ => none
  | k + 1, x0, x1, x2, x3, x4, h => (rcv 11 x0 h).bind (fun u1 => (f_X13_cells x0 h).bind (fun q2 => if q2.1 ≤ x4 then ((gfr 11 7 x0 q2.2).bind (fun t3 => (ald 0 t3 x1 q2.2).bind (fun t4 => if ((t4 &&& (x3 ^^^ (-1))) &&& (((1 : Int32) <<< (x2 &&& 31)) ^^^ (-1))) = 0 then (some ((-99), q2.2)) else ((f_X13_lowest ((t4 &&& (x3 ^^^ (-1))) &&& (((1 : Int32) <<< (x2 &&& 31)) ^^^ (-1))) q2.2).bind (fun q5 => some (q5.1, q5.2)))))) else (if x4 = x1 then ((f_X13_onlyCause_L5 k) x0 x1 x2 (x3 ||| 0) (x4 + 1) q2.2) else ((rcv 11 x0 q2.2).bind (fun u6 => (f_X13_blockOf x0 x4 q2.2).bind (fun q7 => (rcv 11 x0 q7.2).bind (fun u8 => (f_X13_blockOf x0 x1 q7.2).bind (fun q9 => if q7.1 = q9.1 then ((gfr 11 7 x0 q9.2).bind (fun t10 => (ald 0 t10 x4 q9.2).bind (fun t11 => (f_X13_onlyCause_L5 k) x0 x1 x2 (x3 ||| t11) (x4 + 1) q9.2))) else ((f_X13_onlyCause_L5 k) x0 x1 x2 (x3 ||| 0) (x4 + 1) q9.2)))))))))
theorem f_X13_onlyCause_L5_ok {K : KT} {h0 : PH} {a0 : List Value} {q : (Int32 × PH)}  : ∀ (k : Nat) (x0 : Option Nat) (x1 : Int32) (x2 : Int32) (x3 : Int32) (x4 : Int32) (h : PH), f_X13_onlyCause_L5  k x0 x1 x2 x3 x4 h = some q → R K mi_X13_onlyCause h0 a0 (.inl (some (.int q.1))) q.2 5 [(0, va_rf x0), (1, .int x1), (2, .int x2), (3, .int x3), (4, .int x4)] [] h := by
  intro k
  induction k with
  | zero => intro _ _ _ _ _ _ hf; cases hf
  | succ k ih =>
    intro x0 x1 x2 x3 x4 h hf
    unfold f_X13_onlyCause_L5 at hf
    refine R_iload 4 dX13_onlyCause_5 rfl ?_
    refine R_aload_n 0 dX13_onlyCause_7 rfl rfl ?_
    obtain ⟨u1, eu1, hf⟩ := Option.bind_eq_some_iff.mp hf
    obtain ⟨q2, eq2, hf⟩ := Option.bind_eq_some_iff.mp hf
    refine R_callV (mj := mi_X13_cells) (ci := 11) (q := (RX13, TX13, 24)) (As := []) (rest := [.int x4]) (T_X13_cells eq2) eu1 rfl lV_X13_61 ⟨rfl, oky_X13_cells⟩ (by decide) (by decide) rfl (C1_i C1_0) (Nat.le_of_ble_eq_true rfl) dX13_onlyCause_8 ?_
    refine R_icge (tgt := 54) dX13_onlyCause_11 (by decide) (fun hc => ?_) (fun hc => ?_)
    · rw [if_pos hc] at hf
      refine R_aload_n 0 dX13_onlyCause_54 rfl rfl ?_
      obtain ⟨t3, et3, hf⟩ := Option.bind_eq_some_iff.mp hf
      refine R_getr lg_X13_22 et3 dX13_onlyCause_55 ?_
      refine R_iload_n 1 dX13_onlyCause_58 rfl rfl ?_
      obtain ⟨t4, et4, hf⟩ := Option.bind_eq_some_iff.mp hf
      refine R_iaload et4 dX13_onlyCause_59 ?_
      refine R_iload_n 3 dX13_onlyCause_60 rfl rfl ?_
      refine R_iconst dX13_onlyCause_61 k_iconst_m1 ?_
      refine R_ixor dX13_onlyCause_62 ?_
      refine R_iand dX13_onlyCause_63 ?_
      refine R_iconst dX13_onlyCause_64 k_iconst_1 ?_
      refine R_iload_n 2 dX13_onlyCause_65 rfl rfl ?_
      refine R_ishl dX13_onlyCause_66 ?_
      refine R_iconst dX13_onlyCause_67 k_iconst_m1 ?_
      refine R_ixor dX13_onlyCause_68 ?_
      refine R_iand dX13_onlyCause_69 ?_
      refine R_istore (L' := [(4, .int ((t4 &&& (x3 ^^^ (-1))) &&& (((1 : Int32) <<< (x2 &&& 31)) ^^^ (-1)))), (0, va_rf x0), (1, .int x1), (2, .int x2), (3, .int x3)]) dX13_onlyCause_70 (by decide) rfl ?_
      refine R_iload 0 dX13_onlyCause_72 rfl ?_
      refine R_ifne (tgt := 82) dX13_onlyCause_74 (by decide) (fun hc => ?_) (fun hc => ?_)
      · rw [if_pos hc] at hf
        refine R_bipush dX13_onlyCause_77 k_bipush_m99 ?_
        refine R_goto (tgt := 87) dX13_onlyCause_79 (by decide) ?_
        obtain rfl := Option.some.inj hf
        exact R_iretI rfl dX13_onlyCause_87
      · rw [if_neg hc] at hf
        refine R_iload 0 dX13_onlyCause_82 rfl ?_
        obtain ⟨q5, eq5, hf⟩ := Option.bind_eq_some_iff.mp hf
        refine R_callS (mj := mi_X13_lowest) (As := [.int ((t4 &&& (x3 ^^^ (-1))) &&& (((1 : Int32) <<< (x2 &&& 31)) ^^^ (-1)))]) (rest := []) (T_X13_lowest eq5) lS_X13_152 oky_X13_lowest (by decide) (by decide) rfl C1_0 (Nat.le_of_ble_eq_true rfl) dX13_onlyCause_84 ?_
        obtain rfl := Option.some.inj hf
        exact R_iretI rfl dX13_onlyCause_87
    · rw [if_neg hc] at hf
      refine R_iload_n 3 dX13_onlyCause_14 rfl rfl ?_
      refine R_iload 4 dX13_onlyCause_15 rfl ?_
      refine R_iload_n 1 dX13_onlyCause_17 rfl rfl ?_
      refine R_iceq (tgt := 45) dX13_onlyCause_18 (by decide) (fun hc => ?_) (fun hc => ?_)
      · rw [if_pos hc] at hf
        refine R_iconst dX13_onlyCause_45 k_iconst_0 ?_
        refine R_ior dX13_onlyCause_46 ?_
        refine R_istore_n (L' := [(3, .int (x3 ||| 0)), (0, va_rf x0), (1, .int x1), (2, .int x2), (4, .int x4)]) dX13_onlyCause_47 rfl (by decide) rfl ?_
        refine R_iinc (L' := [(4, .int (x4 + 1)), (3, .int (x3 ||| 0)), (0, va_rf x0), (1, .int x1), (2, .int x2)]) 4 dX13_onlyCause_48 rfl (k_inc_1 _) (by decide) rfl ?_
        refine R_goto (tgt := 5) dX13_onlyCause_51 (by decide) ?_
        refine R.sub [2, 3, 4, 1, 0] (L' := [(0, va_rf x0), (1, .int x1), (2, .int x2), (3, .int (x3 ||| 0)), (4, .int (x4 + 1))]) rfl ?_
        exact ih x0 x1 x2 (x3 ||| 0) (x4 + 1) q2.2 hf
      · rw [if_neg hc] at hf
        refine R_aload_n 0 dX13_onlyCause_21 rfl rfl ?_
        refine R_iload 4 dX13_onlyCause_22 rfl ?_
        obtain ⟨u6, eu6, hf⟩ := Option.bind_eq_some_iff.mp hf
        obtain ⟨q7, eq7, hf⟩ := Option.bind_eq_some_iff.mp hf
        refine R_callV (mj := mi_X13_blockOf) (ci := 11) (q := (RX13, TX13, 24)) (As := [.int x4]) (rest := [.int x3]) (T_X13_blockOf eq7) eu6 rfl lV_X13_72 ⟨rfl, oky_X13_blockOf⟩ (by decide) (by decide) rfl (C1_i C1_0) (Nat.le_of_ble_eq_true rfl) dX13_onlyCause_24 ?_
        refine R_aload_n 0 dX13_onlyCause_27 rfl rfl ?_
        refine R_iload_n 1 dX13_onlyCause_28 rfl rfl ?_
        obtain ⟨u8, eu8, hf⟩ := Option.bind_eq_some_iff.mp hf
        obtain ⟨q9, eq9, hf⟩ := Option.bind_eq_some_iff.mp hf
        refine R_callV (mj := mi_X13_blockOf) (ci := 11) (q := (RX13, TX13, 24)) (As := [.int x1]) (rest := [.int q7.1, .int x3]) (T_X13_blockOf eq9) eu8 rfl lV_X13_72 ⟨rfl, oky_X13_blockOf⟩ (by decide) (by decide) rfl (C1_i (C1_i C1_0)) (Nat.le_of_ble_eq_true rfl) dX13_onlyCause_29 ?_
        refine R_icne (tgt := 45) dX13_onlyCause_32 (by decide) (fun hc => ?_) (fun hc => ?_)
        · rw [if_pos hc] at hf
          refine R_aload_n 0 dX13_onlyCause_35 rfl rfl ?_
          obtain ⟨t10, et10, hf⟩ := Option.bind_eq_some_iff.mp hf
          refine R_getr lg_X13_22 et10 dX13_onlyCause_36 ?_
          refine R_iload 4 dX13_onlyCause_39 rfl ?_
          obtain ⟨t11, et11, hf⟩ := Option.bind_eq_some_iff.mp hf
          refine R_iaload et11 dX13_onlyCause_41 ?_
          refine R_goto (tgt := 46) dX13_onlyCause_42 (by decide) ?_
          refine R_ior dX13_onlyCause_46 ?_
          refine R_istore_n (L' := [(3, .int (x3 ||| t11)), (0, va_rf x0), (1, .int x1), (2, .int x2), (4, .int x4)]) dX13_onlyCause_47 rfl (by decide) rfl ?_
          refine R_iinc (L' := [(4, .int (x4 + 1)), (3, .int (x3 ||| t11)), (0, va_rf x0), (1, .int x1), (2, .int x2)]) 4 dX13_onlyCause_48 rfl (k_inc_1 _) (by decide) rfl ?_
          refine R_goto (tgt := 5) dX13_onlyCause_51 (by decide) ?_
          refine R.sub [2, 3, 4, 1, 0] (L' := [(0, va_rf x0), (1, .int x1), (2, .int x2), (3, .int (x3 ||| t11)), (4, .int (x4 + 1))]) rfl ?_
          exact ih x0 x1 x2 (x3 ||| t11) (x4 + 1) q9.2 hf
        · rw [if_neg hc] at hf
          refine R_iconst dX13_onlyCause_45 k_iconst_0 ?_
          refine R_ior dX13_onlyCause_46 ?_
          refine R_istore_n (L' := [(3, .int (x3 ||| 0)), (0, va_rf x0), (1, .int x1), (2, .int x2), (4, .int x4)]) dX13_onlyCause_47 rfl (by decide) rfl ?_
          refine R_iinc (L' := [(4, .int (x4 + 1)), (3, .int (x3 ||| 0)), (0, va_rf x0), (1, .int x1), (2, .int x2)]) 4 dX13_onlyCause_48 rfl (k_inc_1 _) (by decide) rfl ?_
          refine R_goto (tgt := 5) dX13_onlyCause_51 (by decide) ?_
          refine R.sub [2, 3, 4, 1, 0] (L' := [(0, va_rf x0), (1, .int x1), (2, .int x2), (3, .int (x3 ||| 0)), (4, .int (x4 + 1))]) rfl ?_
          exact ih x0 x1 x2 (x3 ||| 0) (x4 + 1) q9.2 hf
noncomputable def f_X13_onlyCause (x0 : Option Nat) (x1 : Int32) (x2 : Int32) (h : PH) : Option (Int32 × PH) := f_X13_onlyCause_L5  FU x0 x1 x2 0 0 h
theorem T_X13_onlyCause {K : KT} {x0 : Option Nat} {x1 : Int32} {x2 : Int32} {h : PH} {q : (Int32 × PH)} (hf : f_X13_onlyCause x0 x1 x2 h = some q) : T K mi_X13_onlyCause [va_rf x0, .int x1, .int x2] h (.inl (some (.int q.1))) q.2 := by
  unfold f_X13_onlyCause at hf
  refine T_of (by decide +kernel) rfl (C1_r (C1_i (C1_i C1_0))) (Nat.le_of_ble_eq_true rfl) ?_
  show R K mi_X13_onlyCause h [va_rf x0, .int x1, .int x2] _ _ 0 [(0, va_rf x0), (1, .int x1), (2, .int x2)] [] h
  refine R_iconst dX13_onlyCause_0 k_iconst_0 ?_
  refine R_istore_n (L' := [(3, .int 0), (0, va_rf x0), (1, .int x1), (2, .int x2)]) dX13_onlyCause_1 rfl (by decide) rfl ?_
  refine R_iconst dX13_onlyCause_2 k_iconst_0 ?_
  refine R_istore (L' := [(4, .int 0), (3, .int 0), (0, va_rf x0), (1, .int x1), (2, .int x2)]) dX13_onlyCause_3 (by decide) rfl ?_
  refine R.sub [2, 3, 4, 1, 0] (L' := [(0, va_rf x0), (1, .int x1), (2, .int x2), (3, .int 0), (4, .int 0)]) rfl ?_
  exact f_X13_onlyCause_L5_ok  FU x0 x1 x2 0 0 h hf
abbrev mi_X13_soleCause : MI := (RX13, yX13_soleCause, cX13_soleCause, 4, (some FieldType.int), 2)
noncomputable def f_X13_soleCause_L2  : Nat → Option Nat → Int32 → Int32 → Int32 → PH → Option (Int32 × PH)
  | 0, _, _, _, _, _ => none
  | k + 1, x0, x1, x2, x3, h => (rcv 11 x0 h).bind (fun u1 => (f_X13_cells x0 h).bind (fun q2 => if q2.1 ≤ x3 then (some ((-99), q2.2)) else (if x3 = x1 then ((f_X13_soleCause_L2 k) x0 x1 x2 (x3 + 1) q2.2) else ((rcv 11 x0 q2.2).bind (fun u3 => (f_X13_blockOf x0 x3 q2.2).bind (fun q4 => (rcv 11 x0 q4.2).bind (fun u5 => (f_X13_blockOf x0 x1 q4.2).bind (fun q6 => if q4.1 = q6.1 then ((gfr 11 7 x0 q6.2).bind (fun t7 => (ald 0 t7 x3 q6.2).bind (fun t8 => if t8 = ((1 : Int32) <<< (x2 &&& 31)) then (some (x3, q6.2)) else ((f_X13_soleCause_L2 k) x0 x1 x2 (x3 + 1) q6.2)))) else ((f_X13_soleCause_L2 k) x0 x1 x2 (x3 + 1) q6.2)))))))))
theorem f_X13_soleCause_L2_ok {K : KT} {h0 : PH} {a0 : List Value} {q : (Int32 × PH)}  : ∀ (k : Nat) (x0 : Option Nat) (x1 : Int32) (x2 : Int32) (x3 : Int32) (h : PH), f_X13_soleCause_L2  k x0 x1 x2 x3 h = some q → R K mi_X13_soleCause h0 a0 (.inl (some (.int q.1))) q.2 2 [(0, va_rf x0), (1, .int x1), (2, .int x2), (3, .int x3)] [] h := by
  intro k
  induction k with
  | zero => intro _ _ _ _ _ hf; cases hf
  | succ k ih =>
    intro x0 x1 x2 x3 h hf
    unfold f_X13_soleCause_L2 at hf
    refine R_iload_n 3 dX13_soleCause_2 rfl rfl ?_
    refine R_aload_n 0 dX13_soleCause_3 rfl rfl ?_
    obtain ⟨u1, eu1, hf⟩ := Option.bind_eq_some_iff.mp hf
    obtain ⟨q2, eq2, hf⟩ := Option.bind_eq_some_iff.mp hf
    refine R_callV (mj := mi_X13_cells) (ci := 11) (q := (RX13, TX13, 24)) (As := []) (rest := [.int x3]) (T_X13_cells eq2) eu1 rfl lV_X13_61 ⟨rfl, oky_X13_cells⟩ (by decide) (by decide) rfl (C1_i C1_0) (Nat.le_of_ble_eq_true rfl) dX13_soleCause_4 ?_
    refine R_icge (tgt := 48) dX13_soleCause_7 (by decide) (fun hc => ?_) (fun hc => ?_)
    · rw [if_pos hc] at hf
      refine R_bipush dX13_soleCause_48 k_bipush_m99 ?_
      obtain rfl := Option.some.inj hf
      exact R_iretI rfl dX13_soleCause_50
    · rw [if_neg hc] at hf
      refine R_iload_n 3 dX13_soleCause_10 rfl rfl ?_
      refine R_iload_n 1 dX13_soleCause_11 rfl rfl ?_
      refine R_iceq (tgt := 42) dX13_soleCause_12 (by decide) (fun hc => ?_) (fun hc => ?_)
      · rw [if_pos hc] at hf
        refine R_iinc (L' := [(3, .int (x3 + 1)), (0, va_rf x0), (1, .int x1), (2, .int x2)]) 3 dX13_soleCause_42 rfl (k_inc_1 _) (by decide) rfl ?_
        refine R_goto (tgt := 2) dX13_soleCause_45 (by decide) ?_
        refine R.sub [1, 2, 3, 0] (L' := [(0, va_rf x0), (1, .int x1), (2, .int x2), (3, .int (x3 + 1))]) rfl ?_
        exact ih x0 x1 x2 (x3 + 1) q2.2 hf
      · rw [if_neg hc] at hf
        refine R_aload_n 0 dX13_soleCause_15 rfl rfl ?_
        refine R_iload_n 3 dX13_soleCause_16 rfl rfl ?_
        obtain ⟨u3, eu3, hf⟩ := Option.bind_eq_some_iff.mp hf
        obtain ⟨q4, eq4, hf⟩ := Option.bind_eq_some_iff.mp hf
        refine R_callV (mj := mi_X13_blockOf) (ci := 11) (q := (RX13, TX13, 24)) (As := [.int x3]) (rest := []) (T_X13_blockOf eq4) eu3 rfl lV_X13_72 ⟨rfl, oky_X13_blockOf⟩ (by decide) (by decide) rfl C1_0 (Nat.le_of_ble_eq_true rfl) dX13_soleCause_17 ?_
        refine R_aload_n 0 dX13_soleCause_20 rfl rfl ?_
        refine R_iload_n 1 dX13_soleCause_21 rfl rfl ?_
        obtain ⟨u5, eu5, hf⟩ := Option.bind_eq_some_iff.mp hf
        obtain ⟨q6, eq6, hf⟩ := Option.bind_eq_some_iff.mp hf
        refine R_callV (mj := mi_X13_blockOf) (ci := 11) (q := (RX13, TX13, 24)) (As := [.int x1]) (rest := [.int q4.1]) (T_X13_blockOf eq6) eu5 rfl lV_X13_72 ⟨rfl, oky_X13_blockOf⟩ (by decide) (by decide) rfl (C1_i C1_0) (Nat.le_of_ble_eq_true rfl) dX13_soleCause_22 ?_
        refine R_icne (tgt := 42) dX13_soleCause_25 (by decide) (fun hc => ?_) (fun hc => ?_)
        · rw [if_pos hc] at hf
          refine R_aload_n 0 dX13_soleCause_28 rfl rfl ?_
          obtain ⟨t7, et7, hf⟩ := Option.bind_eq_some_iff.mp hf
          refine R_getr lg_X13_22 et7 dX13_soleCause_29 ?_
          refine R_iload_n 3 dX13_soleCause_32 rfl rfl ?_
          obtain ⟨t8, et8, hf⟩ := Option.bind_eq_some_iff.mp hf
          refine R_iaload et8 dX13_soleCause_33 ?_
          refine R_iconst dX13_soleCause_34 k_iconst_1 ?_
          refine R_iload_n 2 dX13_soleCause_35 rfl rfl ?_
          refine R_ishl dX13_soleCause_36 ?_
          refine R_icne (tgt := 42) dX13_soleCause_37 (by decide) (fun hc => ?_) (fun hc => ?_)
          · rw [if_pos hc] at hf
            refine R_iload_n 3 dX13_soleCause_40 rfl rfl ?_
            obtain rfl := Option.some.inj hf
            exact R_iretI rfl dX13_soleCause_41
          · rw [if_neg hc] at hf
            refine R_iinc (L' := [(3, .int (x3 + 1)), (0, va_rf x0), (1, .int x1), (2, .int x2)]) 3 dX13_soleCause_42 rfl (k_inc_1 _) (by decide) rfl ?_
            refine R_goto (tgt := 2) dX13_soleCause_45 (by decide) ?_
            refine R.sub [1, 2, 3, 0] (L' := [(0, va_rf x0), (1, .int x1), (2, .int x2), (3, .int (x3 + 1))]) rfl ?_
            exact ih x0 x1 x2 (x3 + 1) q6.2 hf
        · rw [if_neg hc] at hf
          refine R_iinc (L' := [(3, .int (x3 + 1)), (0, va_rf x0), (1, .int x1), (2, .int x2)]) 3 dX13_soleCause_42 rfl (k_inc_1 _) (by decide) rfl ?_
          refine R_goto (tgt := 2) dX13_soleCause_45 (by decide) ?_
          refine R.sub [1, 2, 3, 0] (L' := [(0, va_rf x0), (1, .int x1), (2, .int x2), (3, .int (x3 + 1))]) rfl ?_
          exact ih x0 x1 x2 (x3 + 1) q6.2 hf
noncomputable def f_X13_soleCause (x0 : Option Nat) (x1 : Int32) (x2 : Int32) (h : PH) : Option (Int32 × PH) := f_X13_soleCause_L2  FU x0 x1 x2 0 h
theorem T_X13_soleCause {K : KT} {x0 : Option Nat} {x1 : Int32} {x2 : Int32} {h : PH} {q : (Int32 × PH)} (hf : f_X13_soleCause x0 x1 x2 h = some q) : T K mi_X13_soleCause [va_rf x0, .int x1, .int x2] h (.inl (some (.int q.1))) q.2 := by
  unfold f_X13_soleCause at hf
  refine T_of (by decide +kernel) rfl (C1_r (C1_i (C1_i C1_0))) (Nat.le_of_ble_eq_true rfl) ?_
  show R K mi_X13_soleCause h [va_rf x0, .int x1, .int x2] _ _ 0 [(0, va_rf x0), (1, .int x1), (2, .int x2)] [] h
  refine R_iconst dX13_soleCause_0 k_iconst_0 ?_
  refine R_istore_n (L' := [(3, .int 0), (0, va_rf x0), (1, .int x1), (2, .int x2)]) dX13_soleCause_1 rfl (by decide) rfl ?_
  refine R.sub [1, 2, 3, 0] (L' := [(0, va_rf x0), (1, .int x1), (2, .int x2), (3, .int 0)]) rfl ?_
  exact f_X13_soleCause_L2_ok  FU x0 x1 x2 0 h hf
abbrev mi_X13_ones : MI := (RX13, yX13_ones, cX13_ones, 3, (some FieldType.int), 1)
noncomputable def f_X13_ones_L4  : Nat → Int32 → Int32 → Int32 → PH → Option (Int32 × PH)
  | 0, _, _, _, _ => none
  | k + 1, x0, x1, x2, h => if 31 ≤ x2 then (some (x1, h)) else ((f_X13_ones_L4 k) x0 (x1 + ((x0 >>> (x2 &&& 31)) &&& 1)) (x2 + 1) h)
theorem f_X13_ones_L4_ok {K : KT} {h0 : PH} {a0 : List Value} {q : (Int32 × PH)}  : ∀ (k : Nat) (x0 : Int32) (x1 : Int32) (x2 : Int32) (h : PH), f_X13_ones_L4  k x0 x1 x2 h = some q → R K mi_X13_ones h0 a0 (.inl (some (.int q.1))) q.2 4 [(0, .int x0), (1, .int x1), (2, .int x2)] [] h := by
  intro k
  induction k with
  | zero => intro _ _ _ _ hf; cases hf
  | succ k ih =>
    intro x0 x1 x2 h hf
    unfold f_X13_ones_L4 at hf
    refine R_iload_n 2 dX13_ones_4 rfl rfl ?_
    refine R_bipush dX13_ones_5 k_bipush_31 ?_
    refine R_icge (tgt := 24) dX13_ones_7 (by decide) (fun hc => ?_) (fun hc => ?_)
    · rw [if_pos hc] at hf
      refine R_iload_n 1 dX13_ones_24 rfl rfl ?_
      obtain rfl := Option.some.inj hf
      exact R_iretI rfl dX13_ones_25
    · rw [if_neg hc] at hf
      refine R_iload_n 1 dX13_ones_10 rfl rfl ?_
      refine R_iload_n 0 dX13_ones_11 rfl rfl ?_
      refine R_iload_n 2 dX13_ones_12 rfl rfl ?_
      refine R_ishr dX13_ones_13 ?_
      refine R_iconst dX13_ones_14 k_iconst_1 ?_
      refine R_iand dX13_ones_15 ?_
      refine R_iadd dX13_ones_16 ?_
      refine R_istore_n (L' := [(1, .int (x1 + ((x0 >>> (x2 &&& 31)) &&& 1))), (0, .int x0), (2, .int x2)]) dX13_ones_17 rfl (by decide) rfl ?_
      refine R_iinc (L' := [(2, .int (x2 + 1)), (1, .int (x1 + ((x0 >>> (x2 &&& 31)) &&& 1))), (0, .int x0)]) 2 dX13_ones_18 rfl (k_inc_1 _) (by decide) rfl ?_
      refine R_goto (tgt := 4) dX13_ones_21 (by decide) ?_
      refine R.sub [2, 1, 0] (L' := [(0, .int x0), (1, .int (x1 + ((x0 >>> (x2 &&& 31)) &&& 1))), (2, .int (x2 + 1))]) rfl ?_
      exact ih x0 (x1 + ((x0 >>> (x2 &&& 31)) &&& 1)) (x2 + 1) h hf
noncomputable def f_X13_ones (x0 : Int32) (h : PH) : Option (Int32 × PH) := f_X13_ones_L4  FU x0 0 0 h
theorem T_X13_ones {K : KT} {x0 : Int32} {h : PH} {q : (Int32 × PH)} (hf : f_X13_ones x0 h = some q) : T K mi_X13_ones [.int x0] h (.inl (some (.int q.1))) q.2 := by
  unfold f_X13_ones at hf
  refine T_of (by decide +kernel) rfl (C1_i C1_0) (Nat.le_of_ble_eq_true rfl) ?_
  show R K mi_X13_ones h [.int x0] _ _ 0 [(0, .int x0)] [] h
  refine R_iconst dX13_ones_0 k_iconst_0 ?_
  refine R_istore_n (L' := [(1, .int 0), (0, .int x0)]) dX13_ones_1 rfl (by decide) rfl ?_
  refine R_iconst dX13_ones_2 k_iconst_0 ?_
  refine R_istore_n (L' := [(2, .int 0), (1, .int 0), (0, .int x0)]) dX13_ones_3 rfl (by decide) rfl ?_
  refine R.sub [2, 1, 0] (L' := [(0, .int x0), (1, .int 0), (2, .int 0)]) rfl ?_
  exact f_X13_ones_L4_ok  FU x0 0 0 h hf
theorem lS_X13_142 : GoodIn lw_all (va_wsS "EdgeSumsModel" 142 yX13_ones (ws_ yX13_ones cX13_ones 3 (some FieldType.int))) := lw_S q2919 q2920 q158 q2921
theorem oky_X13_ones : okY yX13_ones 1 := ⟨by decide +kernel, by decide +kernel, by decide +kernel⟩
abbrev mi_X13_pairCause : MI := (RX13, yX13_pairCause, cX13_pairCause, 6, (some FieldType.int), 2)
noncomputable def f_X13_pairCause_L66 (r2 : Option Nat → Int32 → Int32 → Int32 → PH → Option (Int32 × PH)) : Nat → Option Nat → Int32 → Int32 → Int32 → Int32 → Int32 → PH → Option (Int32 × PH)
  | 0, _, _, _, _, _, _, _ => none
  | k + 1, x0, x1, x2, x3, x4, x5, h => (rcv 11 x0 h).bind (fun u1 => (f_X13_cells x0 h).bind (fun q2 => if q2.1 ≤ x5 then (r2 x0 x1 x2 (x3 + 1) q2.2) else (if x4 = 0 then (r2 x0 x1 x2 (x3 + 1) q2.2) else (if x5 = x1 then ((f_X13_pairCause_L66 r2 k) x0 x1 x2 x3 x4 (x5 + 1) q2.2) else ((rcv 11 x0 q2.2).bind (fun u3 => (f_X13_blockOf x0 x5 q2.2).bind (fun q4 => (rcv 11 x0 q4.2).bind (fun u5 => (f_X13_blockOf x0 x1 q4.2).bind (fun q6 => if q4.1 = q6.1 then ((gfr 11 7 x0 q6.2).bind (fun t7 => (ald 0 t7 x5 q6.2).bind (fun t8 => (gfr 11 7 x0 q6.2).bind (fun t9 => (ald 0 t9 x3 q6.2).bind (fun t10 => if t8 = t10 then (some (x3, q6.2)) else ((f_X13_pairCause_L66 r2 k) x0 x1 x2 x3 x4 (x5 + 1) q6.2)))))) else ((f_X13_pairCause_L66 r2 k) x0 x1 x2 x3 x4 (x5 + 1) q6.2))))))))))
theorem f_X13_pairCause_L66_ok {K : KT} {h0 : PH} {a0 : List Value} {q : (Int32 × PH)} {r2 : Option Nat → Int32 → Int32 → Int32 → PH → Option (Int32 × PH)} (hr2 : ∀ (y0 : Option Nat) (y1 : Int32) (y2 : Int32) (y3 : Int32) (h : PH), r2 y0 y1 y2 y3 h = some q → R K mi_X13_pairCause h0 a0 (.inl (some (.int q.1))) q.2 2 [(0, va_rf y0), (1, .int y1), (2, .int y2), (3, .int y3)] [] h) : ∀ (k : Nat) (x0 : Option Nat) (x1 : Int32) (x2 : Int32) (x3 : Int32) (x4 : Int32) (x5 : Int32) (h : PH), f_X13_pairCause_L66 r2 k x0 x1 x2 x3 x4 x5 h = some q → R K mi_X13_pairCause h0 a0 (.inl (some (.int q.1))) q.2 66 [(0, va_rf x0), (1, .int x1), (2, .int x2), (3, .int x3), (4, .int x4), (5, .int x5)] [] h := by
  intro k
  induction k with
  | zero => intro _ _ _ _ _ _ _ hf; cases hf
  | succ k ih =>
    intro x0 x1 x2 x3 x4 x5 h hf
    unfold f_X13_pairCause_L66 at hf
    refine R_iload 5 dX13_pairCause_66 rfl ?_
    refine R_aload_n 0 dX13_pairCause_68 rfl rfl ?_
    obtain ⟨u1, eu1, hf⟩ := Option.bind_eq_some_iff.mp hf
    obtain ⟨q2, eq2, hf⟩ := Option.bind_eq_some_iff.mp hf
    refine R_callV (mj := mi_X13_cells) (ci := 11) (q := (RX13, TX13, 24)) (As := []) (rest := [.int x5]) (T_X13_cells eq2) eu1 rfl lV_X13_61 ⟨rfl, oky_X13_cells⟩ (by decide) (by decide) rfl (C1_i C1_0) (Nat.le_of_ble_eq_true rfl) dX13_pairCause_69 ?_
    refine R_icge (tgt := 124) dX13_pairCause_72 (by decide) (fun hc => ?_) (fun hc => ?_)
    · rw [if_pos hc] at hf
      refine R_iinc (L' := [(3, .int (x3 + 1)), (0, va_rf x0), (1, .int x1), (2, .int x2), (4, .int x4), (5, .int x5)]) 3 dX13_pairCause_124 rfl (k_inc_1 _) (by decide) rfl ?_
      refine R_goto (tgt := 2) dX13_pairCause_127 (by decide) ?_
      refine R.sub [1, 2, 3, 0] (L' := [(0, va_rf x0), (1, .int x1), (2, .int x2), (3, .int (x3 + 1))]) rfl ?_
      exact hr2 x0 x1 x2 (x3 + 1) q2.2 hf
    · rw [if_neg hc] at hf
      refine R_iload 4 dX13_pairCause_75 rfl ?_
      refine R_ifeq (tgt := 124) dX13_pairCause_77 (by decide) (fun hc => ?_) (fun hc => ?_)
      · rw [if_pos hc] at hf
        refine R_iinc (L' := [(3, .int (x3 + 1)), (0, va_rf x0), (1, .int x1), (2, .int x2), (4, .int x4), (5, .int x5)]) 3 dX13_pairCause_124 rfl (k_inc_1 _) (by decide) rfl ?_
        refine R_goto (tgt := 2) dX13_pairCause_127 (by decide) ?_
        refine R.sub [1, 2, 3, 0] (L' := [(0, va_rf x0), (1, .int x1), (2, .int x2), (3, .int (x3 + 1))]) rfl ?_
        exact hr2 x0 x1 x2 (x3 + 1) q2.2 hf
      · rw [if_neg hc] at hf
        refine R_iload 5 dX13_pairCause_80 rfl ?_
        refine R_iload_n 1 dX13_pairCause_82 rfl rfl ?_
        refine R_iceq (tgt := 118) dX13_pairCause_83 (by decide) (fun hc => ?_) (fun hc => ?_)
        · rw [if_pos hc] at hf
          refine R_iinc (L' := [(5, .int (x5 + 1)), (0, va_rf x0), (1, .int x1), (2, .int x2), (3, .int x3), (4, .int x4)]) 5 dX13_pairCause_118 rfl (k_inc_1 _) (by decide) rfl ?_
          refine R_goto (tgt := 66) dX13_pairCause_121 (by decide) ?_
          refine R.sub [1, 2, 3, 4, 5, 0] (L' := [(0, va_rf x0), (1, .int x1), (2, .int x2), (3, .int x3), (4, .int x4), (5, .int (x5 + 1))]) rfl ?_
          exact ih x0 x1 x2 x3 x4 (x5 + 1) q2.2 hf
        · rw [if_neg hc] at hf
          refine R_aload_n 0 dX13_pairCause_86 rfl rfl ?_
          refine R_iload 5 dX13_pairCause_87 rfl ?_
          obtain ⟨u3, eu3, hf⟩ := Option.bind_eq_some_iff.mp hf
          obtain ⟨q4, eq4, hf⟩ := Option.bind_eq_some_iff.mp hf
          refine R_callV (mj := mi_X13_blockOf) (ci := 11) (q := (RX13, TX13, 24)) (As := [.int x5]) (rest := []) (T_X13_blockOf eq4) eu3 rfl lV_X13_72 ⟨rfl, oky_X13_blockOf⟩ (by decide) (by decide) rfl C1_0 (Nat.le_of_ble_eq_true rfl) dX13_pairCause_89 ?_
          refine R_aload_n 0 dX13_pairCause_92 rfl rfl ?_
          refine R_iload_n 1 dX13_pairCause_93 rfl rfl ?_
          obtain ⟨u5, eu5, hf⟩ := Option.bind_eq_some_iff.mp hf
          obtain ⟨q6, eq6, hf⟩ := Option.bind_eq_some_iff.mp hf
          refine R_callV (mj := mi_X13_blockOf) (ci := 11) (q := (RX13, TX13, 24)) (As := [.int x1]) (rest := [.int q4.1]) (T_X13_blockOf eq6) eu5 rfl lV_X13_72 ⟨rfl, oky_X13_blockOf⟩ (by decide) (by decide) rfl (C1_i C1_0) (Nat.le_of_ble_eq_true rfl) dX13_pairCause_94 ?_
          refine R_icne (tgt := 118) dX13_pairCause_97 (by decide) (fun hc => ?_) (fun hc => ?_)
          · rw [if_pos hc] at hf
            refine R_aload_n 0 dX13_pairCause_100 rfl rfl ?_
            obtain ⟨t7, et7, hf⟩ := Option.bind_eq_some_iff.mp hf
            refine R_getr lg_X13_22 et7 dX13_pairCause_101 ?_
            refine R_iload 5 dX13_pairCause_104 rfl ?_
            obtain ⟨t8, et8, hf⟩ := Option.bind_eq_some_iff.mp hf
            refine R_iaload et8 dX13_pairCause_106 ?_
            refine R_aload_n 0 dX13_pairCause_107 rfl rfl ?_
            obtain ⟨t9, et9, hf⟩ := Option.bind_eq_some_iff.mp hf
            refine R_getr lg_X13_22 et9 dX13_pairCause_108 ?_
            refine R_iload_n 3 dX13_pairCause_111 rfl rfl ?_
            obtain ⟨t10, et10, hf⟩ := Option.bind_eq_some_iff.mp hf
            refine R_iaload et10 dX13_pairCause_112 ?_
            refine R_icne (tgt := 118) dX13_pairCause_113 (by decide) (fun hc => ?_) (fun hc => ?_)
            · rw [if_pos hc] at hf
              refine R_iload_n 3 dX13_pairCause_116 rfl rfl ?_
              obtain rfl := Option.some.inj hf
              exact R_iretI rfl dX13_pairCause_117
            · rw [if_neg hc] at hf
              refine R_iinc (L' := [(5, .int (x5 + 1)), (0, va_rf x0), (1, .int x1), (2, .int x2), (3, .int x3), (4, .int x4)]) 5 dX13_pairCause_118 rfl (k_inc_1 _) (by decide) rfl ?_
              refine R_goto (tgt := 66) dX13_pairCause_121 (by decide) ?_
              refine R.sub [1, 2, 3, 4, 5, 0] (L' := [(0, va_rf x0), (1, .int x1), (2, .int x2), (3, .int x3), (4, .int x4), (5, .int (x5 + 1))]) rfl ?_
              exact ih x0 x1 x2 x3 x4 (x5 + 1) q6.2 hf
          · rw [if_neg hc] at hf
            refine R_iinc (L' := [(5, .int (x5 + 1)), (0, va_rf x0), (1, .int x1), (2, .int x2), (3, .int x3), (4, .int x4)]) 5 dX13_pairCause_118 rfl (k_inc_1 _) (by decide) rfl ?_
            refine R_goto (tgt := 66) dX13_pairCause_121 (by decide) ?_
            refine R.sub [1, 2, 3, 4, 5, 0] (L' := [(0, va_rf x0), (1, .int x1), (2, .int x2), (3, .int x3), (4, .int x4), (5, .int (x5 + 1))]) rfl ?_
            exact ih x0 x1 x2 x3 x4 (x5 + 1) q6.2 hf
noncomputable def f_X13_pairCause_B59 (r2 : Option Nat → Int32 → Int32 → Int32 → PH → Option (Int32 × PH)) (x0 : Option Nat) (x1 : Int32) (x2 : Int32) (x3 : Int32) (s0 : Int32) (h : PH) : Option (Int32 × PH) := f_X13_pairCause_L66 r2 FU x0 x1 x2 x3 s0 (x3 + 1) h
theorem f_X13_pairCause_B59_ok {K : KT} {h0 : PH} {a0 : List Value} {q : (Int32 × PH)} {r2 : Option Nat → Int32 → Int32 → Int32 → PH → Option (Int32 × PH)} (hr2 : ∀ (y0 : Option Nat) (y1 : Int32) (y2 : Int32) (y3 : Int32) (h : PH), r2 y0 y1 y2 y3 h = some q → R K mi_X13_pairCause h0 a0 (.inl (some (.int q.1))) q.2 2 [(0, va_rf y0), (1, .int y1), (2, .int y2), (3, .int y3)] [] h) (x0 : Option Nat) (x1 : Int32) (x2 : Int32) (x3 : Int32) (s0 : Int32) (h : PH) (hf : f_X13_pairCause_B59 r2 x0 x1 x2 x3 s0 h = some q) : R K mi_X13_pairCause h0 a0 (.inl (some (.int q.1))) q.2 59 [(0, va_rf x0), (1, .int x1), (2, .int x2), (3, .int x3)] [.int s0] h := by
  unfold f_X13_pairCause_B59 at hf
  refine R_istore (L' := [(4, .int s0), (0, va_rf x0), (1, .int x1), (2, .int x2), (3, .int x3)]) dX13_pairCause_59 (by decide) rfl ?_
  refine R_iload_n 4 dX13_pairCause_61 rfl rfl ?_
  refine R_iconst dX13_pairCause_62 k_iconst_1 ?_
  refine R_iadd dX13_pairCause_63 ?_
  refine R_istore (L' := [(5, .int (x3 + 1)), (4, .int s0), (0, va_rf x0), (1, .int x1), (2, .int x2), (3, .int x3)]) dX13_pairCause_64 (by decide) rfl ?_
  refine R.sub [2, 3, 4, 5, 1, 0] (L' := [(0, va_rf x0), (1, .int x1), (2, .int x2), (3, .int x3), (4, .int s0), (5, .int (x3 + 1))]) rfl ?_
  exact f_X13_pairCause_L66_ok hr2 FU x0 x1 x2 x3 s0 (x3 + 1) h hf
noncomputable def f_X13_pairCause_L2  : Nat → Option Nat → Int32 → Int32 → Int32 → PH → Option (Int32 × PH)
  | 0, _, _, _, _, _ => none
  | k + 1, x0, x1, x2, x3, h => (rcv 11 x0 h).bind (fun u1 => (f_X13_cells x0 h).bind (fun q2 => if q2.1 ≤ x3 then (some ((-99), q2.2)) else (if x3 = x1 then (f_X13_pairCause_B59 (f_X13_pairCause_L2 k) x0 x1 x2 x3 0 q2.2) else ((rcv 11 x0 q2.2).bind (fun u3 => (f_X13_blockOf x0 x3 q2.2).bind (fun q4 => (rcv 11 x0 q4.2).bind (fun u5 => (f_X13_blockOf x0 x1 q4.2).bind (fun q6 => if q4.1 = q6.1 then ((gfr 11 7 x0 q6.2).bind (fun t7 => (ald 0 t7 x3 q6.2).bind (fun t8 => (f_X13_ones t8 q6.2).bind (fun q9 => if q9.1 = 2 then ((gfr 11 7 x0 q9.2).bind (fun t10 => (ald 0 t10 x3 q9.2).bind (fun t11 => (f_X13_has t11 x2 q9.2).bind (fun q12 => if q12.1 = 0 then (f_X13_pairCause_B59 (f_X13_pairCause_L2 k) x0 x1 x2 x3 0 q12.2) else (f_X13_pairCause_B59 (f_X13_pairCause_L2 k) x0 x1 x2 x3 1 q12.2))))) else (f_X13_pairCause_B59 (f_X13_pairCause_L2 k) x0 x1 x2 x3 0 q9.2))))) else (f_X13_pairCause_B59 (f_X13_pairCause_L2 k) x0 x1 x2 x3 0 q6.2)))))))))
theorem f_X13_pairCause_L2_ok {K : KT} {h0 : PH} {a0 : List Value} {q : (Int32 × PH)}  : ∀ (k : Nat) (x0 : Option Nat) (x1 : Int32) (x2 : Int32) (x3 : Int32) (h : PH), f_X13_pairCause_L2  k x0 x1 x2 x3 h = some q → R K mi_X13_pairCause h0 a0 (.inl (some (.int q.1))) q.2 2 [(0, va_rf x0), (1, .int x1), (2, .int x2), (3, .int x3)] [] h := by
  intro k
  induction k with
  | zero => intro _ _ _ _ _ hf; cases hf
  | succ k ih =>
    intro x0 x1 x2 x3 h hf
    unfold f_X13_pairCause_L2 at hf
    refine R_iload_n 3 dX13_pairCause_2 rfl rfl ?_
    refine R_aload_n 0 dX13_pairCause_3 rfl rfl ?_
    obtain ⟨u1, eu1, hf⟩ := Option.bind_eq_some_iff.mp hf
    obtain ⟨q2, eq2, hf⟩ := Option.bind_eq_some_iff.mp hf
    refine R_callV (mj := mi_X13_cells) (ci := 11) (q := (RX13, TX13, 24)) (As := []) (rest := [.int x3]) (T_X13_cells eq2) eu1 rfl lV_X13_61 ⟨rfl, oky_X13_cells⟩ (by decide) (by decide) rfl (C1_i C1_0) (Nat.le_of_ble_eq_true rfl) dX13_pairCause_4 ?_
    refine R_icge (tgt := 130) dX13_pairCause_7 (by decide) (fun hc => ?_) (fun hc => ?_)
    · rw [if_pos hc] at hf
      refine R_bipush dX13_pairCause_130 k_bipush_m99 ?_
      obtain rfl := Option.some.inj hf
      exact R_iretI rfl dX13_pairCause_132
    · rw [if_neg hc] at hf
      refine R_iload_n 3 dX13_pairCause_10 rfl rfl ?_
      refine R_iload_n 1 dX13_pairCause_11 rfl rfl ?_
      refine R_iceq (tgt := 58) dX13_pairCause_12 (by decide) (fun hc => ?_) (fun hc => ?_)
      · rw [if_pos hc] at hf
        refine R_iconst dX13_pairCause_58 k_iconst_0 ?_
        exact f_X13_pairCause_B59_ok ih x0 x1 x2 x3 0 q2.2 hf
      · rw [if_neg hc] at hf
        refine R_aload_n 0 dX13_pairCause_15 rfl rfl ?_
        refine R_iload_n 3 dX13_pairCause_16 rfl rfl ?_
        obtain ⟨u3, eu3, hf⟩ := Option.bind_eq_some_iff.mp hf
        obtain ⟨q4, eq4, hf⟩ := Option.bind_eq_some_iff.mp hf
        refine R_callV (mj := mi_X13_blockOf) (ci := 11) (q := (RX13, TX13, 24)) (As := [.int x3]) (rest := []) (T_X13_blockOf eq4) eu3 rfl lV_X13_72 ⟨rfl, oky_X13_blockOf⟩ (by decide) (by decide) rfl C1_0 (Nat.le_of_ble_eq_true rfl) dX13_pairCause_17 ?_
        refine R_aload_n 0 dX13_pairCause_20 rfl rfl ?_
        refine R_iload_n 1 dX13_pairCause_21 rfl rfl ?_
        obtain ⟨u5, eu5, hf⟩ := Option.bind_eq_some_iff.mp hf
        obtain ⟨q6, eq6, hf⟩ := Option.bind_eq_some_iff.mp hf
        refine R_callV (mj := mi_X13_blockOf) (ci := 11) (q := (RX13, TX13, 24)) (As := [.int x1]) (rest := [.int q4.1]) (T_X13_blockOf eq6) eu5 rfl lV_X13_72 ⟨rfl, oky_X13_blockOf⟩ (by decide) (by decide) rfl (C1_i C1_0) (Nat.le_of_ble_eq_true rfl) dX13_pairCause_22 ?_
        refine R_icne (tgt := 58) dX13_pairCause_25 (by decide) (fun hc => ?_) (fun hc => ?_)
        · rw [if_pos hc] at hf
          refine R_aload_n 0 dX13_pairCause_28 rfl rfl ?_
          obtain ⟨t7, et7, hf⟩ := Option.bind_eq_some_iff.mp hf
          refine R_getr lg_X13_22 et7 dX13_pairCause_29 ?_
          refine R_iload_n 3 dX13_pairCause_32 rfl rfl ?_
          obtain ⟨t8, et8, hf⟩ := Option.bind_eq_some_iff.mp hf
          refine R_iaload et8 dX13_pairCause_33 ?_
          obtain ⟨q9, eq9, hf⟩ := Option.bind_eq_some_iff.mp hf
          refine R_callS (mj := mi_X13_ones) (As := [.int t8]) (rest := []) (T_X13_ones eq9) lS_X13_142 oky_X13_ones (by decide) (by decide) rfl C1_0 (Nat.le_of_ble_eq_true rfl) dX13_pairCause_34 ?_
          refine R_iconst dX13_pairCause_37 k_iconst_2 ?_
          refine R_icne (tgt := 58) dX13_pairCause_38 (by decide) (fun hc => ?_) (fun hc => ?_)
          · rw [if_pos hc] at hf
            refine R_aload_n 0 dX13_pairCause_41 rfl rfl ?_
            obtain ⟨t10, et10, hf⟩ := Option.bind_eq_some_iff.mp hf
            refine R_getr lg_X13_22 et10 dX13_pairCause_42 ?_
            refine R_iload_n 3 dX13_pairCause_45 rfl rfl ?_
            obtain ⟨t11, et11, hf⟩ := Option.bind_eq_some_iff.mp hf
            refine R_iaload et11 dX13_pairCause_46 ?_
            refine R_iload_n 2 dX13_pairCause_47 rfl rfl ?_
            obtain ⟨q12, eq12, hf⟩ := Option.bind_eq_some_iff.mp hf
            refine R_callS (mj := mi_X13_has) (As := [.int t11, .int x2]) (rest := []) (T_X13_has eq12) lS_X13_54 oky_X13_has (by decide) (by decide) rfl C1_0 (Nat.le_of_ble_eq_true rfl) dX13_pairCause_48 ?_
            refine R_ifeq (tgt := 58) dX13_pairCause_51 (by decide) (fun hc => ?_) (fun hc => ?_)
            · rw [if_pos hc] at hf
              refine R_iconst dX13_pairCause_58 k_iconst_0 ?_
              exact f_X13_pairCause_B59_ok ih x0 x1 x2 x3 0 q12.2 hf
            · rw [if_neg hc] at hf
              refine R_iconst dX13_pairCause_54 k_iconst_1 ?_
              refine R_goto (tgt := 59) dX13_pairCause_55 (by decide) ?_
              exact f_X13_pairCause_B59_ok ih x0 x1 x2 x3 1 q12.2 hf
          · rw [if_neg hc] at hf
            refine R_iconst dX13_pairCause_58 k_iconst_0 ?_
            exact f_X13_pairCause_B59_ok ih x0 x1 x2 x3 0 q9.2 hf
        · rw [if_neg hc] at hf
          refine R_iconst dX13_pairCause_58 k_iconst_0 ?_
          exact f_X13_pairCause_B59_ok ih x0 x1 x2 x3 0 q6.2 hf
noncomputable def f_X13_pairCause (x0 : Option Nat) (x1 : Int32) (x2 : Int32) (h : PH) : Option (Int32 × PH) := f_X13_pairCause_L2  FU x0 x1 x2 0 h
theorem T_X13_pairCause {K : KT} {x0 : Option Nat} {x1 : Int32} {x2 : Int32} {h : PH} {q : (Int32 × PH)} (hf : f_X13_pairCause x0 x1 x2 h = some q) : T K mi_X13_pairCause [va_rf x0, .int x1, .int x2] h (.inl (some (.int q.1))) q.2 := by
  unfold f_X13_pairCause at hf
  refine T_of (by decide +kernel) rfl (C1_r (C1_i (C1_i C1_0))) (Nat.le_of_ble_eq_true rfl) ?_
  show R K mi_X13_pairCause h [va_rf x0, .int x1, .int x2] _ _ 0 [(0, va_rf x0), (1, .int x1), (2, .int x2)] [] h
  refine R_iconst dX13_pairCause_0 k_iconst_0 ?_
  refine R_istore_n (L' := [(3, .int 0), (0, va_rf x0), (1, .int x1), (2, .int x2)]) dX13_pairCause_1 rfl (by decide) rfl ?_
  refine R.sub [1, 2, 3, 0] (L' := [(0, va_rf x0), (1, .int x1), (2, .int x2), (3, .int 0)]) rfl ?_
  exact f_X13_pairCause_L2_ok  FU x0 x1 x2 0 h hf
theorem lV_X13_170 : GoodIn lw_all (wsV "EdgeSumsModel" 170 "EdgeSumsModel" yX13_soleCause (ws_ yX13_soleCause cX13_soleCause 4 (some FieldType.int))) := lw_V q2881 q2883 qs83 q158 q2884
theorem oky_X13_soleCause : okY yX13_soleCause 2 := ⟨by decide +kernel, by decide +kernel, by decide +kernel⟩
theorem lV_X13_173 : GoodIn lw_all (wsV "EdgeSumsModel" 173 "EdgeSumsModel" yX13_onlyCause (ws_ yX13_onlyCause cX13_onlyCause 5 (some FieldType.int))) := lw_V q2885 q2887 qs84 q158 q2888
theorem oky_X13_onlyCause : okY yX13_onlyCause 2 := ⟨by decide +kernel, by decide +kernel, by decide +kernel⟩
theorem lV_X13_176 : GoodIn lw_all (wsV "EdgeSumsModel" 176 "EdgeSumsModel" yX13_lineCause (ws_ yX13_lineCause cX13_lineCause 8 (some FieldType.int))) := lw_V q2892 q2894 qs85 q158 q2895
theorem oky_X13_lineCause : okY yX13_lineCause 3 := ⟨by decide +kernel, by decide +kernel, by decide +kernel⟩
theorem lV_X13_180 : GoodIn lw_all (wsV "EdgeSumsModel" 180 "EdgeSumsModel" yX13_pairCause (ws_ yX13_pairCause cX13_pairCause 6 (some FieldType.int))) := lw_V q2915 q2917 qs90 q158 q2918
theorem oky_X13_pairCause : okY yX13_pairCause 2 := ⟨by decide +kernel, by decide +kernel, by decide +kernel⟩
abbrev mi_X13_causeOf : MI := (RX13, yX13_causeOf, cX13_causeOf, 4, (some FieldType.int), 5)
noncomputable def f_X13_causeOf_B46  (x0 : Option Nat) (x1 : Int32) (x2 : Int32) (x3 : Int32) (h : PH) : Option (Int32 × PH) := (rcv 11 x0 h).bind (fun u1 => (f_X13_lineCause x0 x1 x2 x3 h).bind (fun q2 => some (q2.1, q2.2)))
theorem f_X13_causeOf_B46_ok {K : KT} {h0 : PH} {a0 : List Value} {q : (Int32 × PH)}  (x0 : Option Nat) (x1 : Int32) (x2 : Int32) (x3 : Int32) (h : PH) (hf : f_X13_causeOf_B46  x0 x1 x2 x3 h = some q) : R K mi_X13_causeOf h0 a0 (.inl (some (.int q.1))) q.2 46 [(0, va_rf x0), (1, .int x1), (2, .int x2), (3, .int x3)] [] h := by
  unfold f_X13_causeOf_B46 at hf
  refine R_aload_n 0 dX13_causeOf_46 rfl rfl ?_
  refine R_iload_n 1 dX13_causeOf_47 rfl rfl ?_
  refine R_iload_n 2 dX13_causeOf_48 rfl rfl ?_
  refine R_iload_n 3 dX13_causeOf_49 rfl rfl ?_
  obtain ⟨u1, eu1, hf⟩ := Option.bind_eq_some_iff.mp hf
  obtain ⟨q2, eq2, hf⟩ := Option.bind_eq_some_iff.mp hf
  refine R_callV (mj := mi_X13_lineCause) (ci := 11) (q := (RX13, TX13, 24)) (As := [.int x1, .int x2, .int x3]) (rest := []) (T_X13_lineCause eq2) eu1 rfl lV_X13_176 ⟨rfl, oky_X13_lineCause⟩ (by decide) (by decide) rfl C1_0 (Nat.le_of_ble_eq_true rfl) dX13_causeOf_50 ?_
  obtain rfl := Option.some.inj hf
  exact R_iretI rfl dX13_causeOf_53
noncomputable def f_X13_causeOf (x0 : Option Nat) (x1 : Int32) (x2 : Int32) (x3 : Int32) (h : PH) : Option (Int32 × PH) := if x1 = 0 then ((rcv 11 x0 h).bind (fun u1 => (f_X13_soleCause x0 x2 x3 h).bind (fun q2 => some (q2.1, q2.2)))) else (if x1 = 1 then ((rcv 11 x0 h).bind (fun u3 => (f_X13_onlyCause x0 x2 x3 h).bind (fun q4 => some (q4.1, q4.2)))) else (if x1 = 2 then (f_X13_causeOf_B46  x0 x1 x2 x3 h) else (if x1 = 3 then (f_X13_causeOf_B46  x0 x1 x2 x3 h) else ((rcv 11 x0 h).bind (fun u5 => (f_X13_pairCause x0 x2 x3 h).bind (fun q6 => some (q6.1, q6.2)))))))
theorem T_X13_causeOf {K : KT} {x0 : Option Nat} {x1 : Int32} {x2 : Int32} {x3 : Int32} {h : PH} {q : (Int32 × PH)} (hf : f_X13_causeOf x0 x1 x2 x3 h = some q) : T K mi_X13_causeOf [va_rf x0, .int x1, .int x2, .int x3] h (.inl (some (.int q.1))) q.2 := by
  unfold f_X13_causeOf at hf
  refine T_of (by decide +kernel) rfl (C1_r (C1_i (C1_i (C1_i C1_0)))) (Nat.le_of_ble_eq_true rfl) ?_
  show R K mi_X13_causeOf h [va_rf x0, .int x1, .int x2, .int x3] _ _ 0 [(0, va_rf x0), (1, .int x1), (2, .int x2), (3, .int x3)] [] h
  refine R_iload_n 1 dX13_causeOf_0 rfl rfl ?_
  by_cases hc0 : x1 = 0
  · rw [if_pos hc0] at hf
    refine R_tswIn (tgt := 32) dX13_causeOf_1 (by rw [hc0]; decide) (by rw [hc0]; decide) (by rw [hc0]; rfl) (by decide) ?_
    refine R_aload_n 0 dX13_causeOf_32 rfl rfl ?_
    refine R_iload_n 2 dX13_causeOf_33 rfl rfl ?_
    refine R_iload_n 3 dX13_causeOf_34 rfl rfl ?_
    obtain ⟨u1, eu1, hf⟩ := Option.bind_eq_some_iff.mp hf
    obtain ⟨q2, eq2, hf⟩ := Option.bind_eq_some_iff.mp hf
    refine R_callV (mj := mi_X13_soleCause) (ci := 11) (q := (RX13, TX13, 24)) (As := [.int x2, .int x3]) (rest := []) (T_X13_soleCause eq2) eu1 rfl lV_X13_170 ⟨rfl, oky_X13_soleCause⟩ (by decide) (by decide) rfl C1_0 (Nat.le_of_ble_eq_true rfl) dX13_causeOf_35 ?_
    obtain rfl := Option.some.inj hf
    exact R_iretI rfl dX13_causeOf_38
  · rw [if_neg hc0] at hf
    by_cases hc1 : x1 = 1
    · rw [if_pos hc1] at hf
      refine R_tswIn (tgt := 39) dX13_causeOf_1 (by rw [hc1]; decide) (by rw [hc1]; decide) (by rw [hc1]; rfl) (by decide) ?_
      refine R_aload_n 0 dX13_causeOf_39 rfl rfl ?_
      refine R_iload_n 2 dX13_causeOf_40 rfl rfl ?_
      refine R_iload_n 3 dX13_causeOf_41 rfl rfl ?_
      obtain ⟨u3, eu3, hf⟩ := Option.bind_eq_some_iff.mp hf
      obtain ⟨q4, eq4, hf⟩ := Option.bind_eq_some_iff.mp hf
      refine R_callV (mj := mi_X13_onlyCause) (ci := 11) (q := (RX13, TX13, 24)) (As := [.int x2, .int x3]) (rest := []) (T_X13_onlyCause eq4) eu3 rfl lV_X13_173 ⟨rfl, oky_X13_onlyCause⟩ (by decide) (by decide) rfl C1_0 (Nat.le_of_ble_eq_true rfl) dX13_causeOf_42 ?_
      obtain rfl := Option.some.inj hf
      exact R_iretI rfl dX13_causeOf_45
    · rw [if_neg hc1] at hf
      by_cases hc2 : x1 = 2
      · rw [if_pos hc2] at hf
        refine R_tswIn (tgt := 46) dX13_causeOf_1 (by rw [hc2]; decide) (by rw [hc2]; decide) (by rw [hc2]; rfl) (by decide) ?_
        exact f_X13_causeOf_B46_ok  x0 x1 x2 x3 h hf
      · rw [if_neg hc2] at hf
        by_cases hc3 : x1 = 3
        · rw [if_pos hc3] at hf
          refine R_tswIn (tgt := 46) dX13_causeOf_1 (by rw [hc3]; decide) (by rw [hc3]; decide) (by rw [hc3]; rfl) (by decide) ?_
          exact f_X13_causeOf_B46_ok  x0 x1 x2 x3 h hf
        · rw [if_neg hc3] at hf
          refine R_tswOut (tgt := 54) dX13_causeOf_1 (by have := (⟨i32_ne hc0, i32_ne hc1, i32_ne hc2, i32_ne hc3, trivial⟩ : x1.toInt ≠ 0 ∧ x1.toInt ≠ 1 ∧ x1.toInt ≠ 2 ∧ x1.toInt ≠ 3 ∧ True); omega) (by decide) ?_
          refine R_aload_n 0 dX13_causeOf_54 rfl rfl ?_
          refine R_iload_n 2 dX13_causeOf_55 rfl rfl ?_
          refine R_iload_n 3 dX13_causeOf_56 rfl rfl ?_
          obtain ⟨u5, eu5, hf⟩ := Option.bind_eq_some_iff.mp hf
          obtain ⟨q6, eq6, hf⟩ := Option.bind_eq_some_iff.mp hf
          refine R_callV (mj := mi_X13_pairCause) (ci := 11) (q := (RX13, TX13, 24)) (As := [.int x2, .int x3]) (rest := []) (T_X13_pairCause eq6) eu5 rfl lV_X13_180 ⟨rfl, oky_X13_pairCause⟩ (by decide) (by decide) rfl C1_0 (Nat.le_of_ble_eq_true rfl) dX13_causeOf_57 ?_
          obtain rfl := Option.some.inj hf
          exact R_iretI rfl dX13_causeOf_60
theorem lV_X13_145 : GoodIn lw_all (wsV "EdgeSumsModel" 145 "EdgeSumsModel" yX13_isBroken (ws_ yX13_isBroken cX13_isBroken 3 (some FieldType.boolean))) := lw_V q2870 q2872 qs81 q158 q2873
theorem oky_X13_isBroken : okY yX13_isBroken 0 := ⟨by decide +kernel, by decide +kernel, by decide +kernel⟩
theorem fp_X13_186 {mi : MI} (ho : mi.own = "EdgeSumsModel") : FP mi 186 11 8 .int := ⟨_, _, _, ck_11, by decide, by decide +kernel, Or.inl ⟨rfl, by rw [ho]; exact Or.inl q2659⟩⟩
theorem fp_X13_189 {mi : MI} (ho : mi.own = "EdgeSumsModel") : FP mi 189 11 9 .int := ⟨_, _, _, ck_11, by decide, by decide +kernel, Or.inl ⟨rfl, by rw [ho]; exact Or.inl q2660⟩⟩
theorem fp_X13_192 {mi : MI} (ho : mi.own = "EdgeSumsModel") : FP mi 192 11 10 .int := ⟨_, _, _, ck_11, by decide, by decide +kernel, Or.inl ⟨rfl, by rw [ho]; exact Or.inl q2661⟩⟩
theorem fp_X13_195 {mi : MI} (ho : mi.own = "EdgeSumsModel") : FP mi 195 11 11 .int := ⟨_, _, _, ck_11, by decide, by decide +kernel, Or.inl ⟨rfl, by rw [ho]; exact Or.inl q2662⟩⟩
theorem lV_X13_183 : GoodIn lw_all (wsV "EdgeSumsModel" 183 "EdgeSumsModel" yX13_causeOf (ws_ yX13_causeOf cX13_causeOf 4 (some FieldType.int))) := lw_V q2877 q2879 qs82 q158 q2880
theorem oky_X13_causeOf : okY yX13_causeOf 3 := ⟨by decide +kernel, by decide +kernel, by decide +kernel⟩
abbrev mi_X13_findStep : MI := (RX13, yX13_findStep, cX13_findStep, 6, (some FieldType.boolean), 6)
noncomputable def f_X13_findStep_B71 (r11 : Option Nat → Int32 → Int32 → PH → Option (Int32 × PH)) (r18 : Option Nat → Int32 → Int32 → Int32 → PH → Option (Int32 × PH)) (r37 : Option Nat → Int32 → Int32 → Int32 → Int32 → PH → Option (Int32 × PH)) (x0 : Option Nat) (x1 : Int32) (x2 : Int32) (x3 : Int32) (x4 : Int32) (s0 : Int32) (h : PH) : Option (Int32 × PH) := if s0 = (-99) then (r37 x0 x1 x2 x3 (x4 + 1) h) else ((pf 11 8 x0 (.int x2) h).bind (fun h1 => (pf 11 9 x0 (.int x3) h1).bind (fun h2 => (pf 11 10 x0 (.int x4) h2).bind (fun h3 => (pf 11 11 x0 (.int s0) h3).bind (fun h4 => some (1, h4))))))
theorem f_X13_findStep_B71_ok {K : KT} {h0 : PH} {a0 : List Value} {q : (Int32 × PH)} {r11 : Option Nat → Int32 → Int32 → PH → Option (Int32 × PH)} (hr11 : ∀ (y0 : Option Nat) (y1 : Int32) (y2 : Int32) (h : PH), r11 y0 y1 y2 h = some q → R K mi_X13_findStep h0 a0 (.inl (some (.int q.1))) q.2 11 [(0, va_rf y0), (1, .int y1), (2, .int y2)] [] h) {r18 : Option Nat → Int32 → Int32 → Int32 → PH → Option (Int32 × PH)} (hr18 : ∀ (y0 : Option Nat) (y1 : Int32) (y2 : Int32) (y3 : Int32) (h : PH), r18 y0 y1 y2 y3 h = some q → R K mi_X13_findStep h0 a0 (.inl (some (.int q.1))) q.2 18 [(0, va_rf y0), (1, .int y1), (2, .int y2), (3, .int y3)] [] h) {r37 : Option Nat → Int32 → Int32 → Int32 → Int32 → PH → Option (Int32 × PH)} (hr37 : ∀ (y0 : Option Nat) (y1 : Int32) (y2 : Int32) (y3 : Int32) (y4 : Int32) (h : PH), r37 y0 y1 y2 y3 y4 h = some q → R K mi_X13_findStep h0 a0 (.inl (some (.int q.1))) q.2 37 [(0, va_rf y0), (1, .int y1), (2, .int y2), (3, .int y3), (4, .int y4)] [] h) (x0 : Option Nat) (x1 : Int32) (x2 : Int32) (x3 : Int32) (x4 : Int32) (s0 : Int32) (h : PH) (hf : f_X13_findStep_B71 r11 r18 r37 x0 x1 x2 x3 x4 s0 h = some q) : R K mi_X13_findStep h0 a0 (.inl (some (.int q.1))) q.2 71 [(0, va_rf x0), (1, .int x1), (2, .int x2), (3, .int x3), (4, .int x4)] [.int s0] h := by
  unfold f_X13_findStep_B71 at hf
  refine R_istore (L' := [(5, .int s0), (0, va_rf x0), (1, .int x1), (2, .int x2), (3, .int x3), (4, .int x4)]) dX13_findStep_71 (by decide) rfl ?_
  refine R_iload 0 dX13_findStep_73 rfl ?_
  refine R_bipush dX13_findStep_75 k_bipush_m99 ?_
  refine R_iceq (tgt := 104) dX13_findStep_77 (by decide) (fun hc => ?_) (fun hc => ?_)
  · rw [if_pos hc] at hf
    refine R_iinc (L' := [(4, .int (x4 + 1)), (5, .int s0), (0, va_rf x0), (1, .int x1), (2, .int x2), (3, .int x3)]) 5 dX13_findStep_104 rfl (k_inc_1 _) (by decide) rfl ?_
    refine R_goto (tgt := 37) dX13_findStep_107 (by decide) ?_
    refine R.sub [2, 3, 4, 5, 0] (L' := [(0, va_rf x0), (1, .int x1), (2, .int x2), (3, .int x3), (4, .int (x4 + 1))]) rfl ?_
    exact hr37 x0 x1 x2 x3 (x4 + 1) h hf
  · rw [if_neg hc] at hf
    refine R_aload_n 1 dX13_findStep_80 rfl rfl ?_
    refine R_iload_n 3 dX13_findStep_81 rfl rfl ?_
    obtain ⟨h1, eh1, hf⟩ := Option.bind_eq_some_iff.mp hf
    refine R_putI (fp_X13_186 rfl) eh1 dX13_findStep_82 ?_
    refine R_aload_n 1 dX13_findStep_85 rfl rfl ?_
    refine R_iload_n 4 dX13_findStep_86 rfl rfl ?_
    obtain ⟨h2, eh2, hf⟩ := Option.bind_eq_some_iff.mp hf
    refine R_putI (fp_X13_189 rfl) eh2 dX13_findStep_87 ?_
    refine R_aload_n 1 dX13_findStep_90 rfl rfl ?_
    refine R_iload 5 dX13_findStep_91 rfl ?_
    obtain ⟨h3, eh3, hf⟩ := Option.bind_eq_some_iff.mp hf
    refine R_putI (fp_X13_192 rfl) eh3 dX13_findStep_93 ?_
    refine R_aload_n 1 dX13_findStep_96 rfl rfl ?_
    refine R_iload 0 dX13_findStep_97 rfl ?_
    obtain ⟨h4, eh4, hf⟩ := Option.bind_eq_some_iff.mp hf
    refine R_putI (fp_X13_195 rfl) eh4 dX13_findStep_99 ?_
    refine R_iconst dX13_findStep_102 k_iconst_1 ?_
    obtain rfl := Option.some.inj hf
    exact R_iretZ1 rfl dX13_findStep_103
noncomputable def f_X13_findStep_L37 (r11 : Option Nat → Int32 → Int32 → PH → Option (Int32 × PH)) (r18 : Option Nat → Int32 → Int32 → Int32 → PH → Option (Int32 × PH)) : Nat → Option Nat → Int32 → Int32 → Int32 → Int32 → PH → Option (Int32 × PH)
  | 0, _, _, _, _, _, _ => none
  | k + 1, x0, x1, x2, x3, x4, h => if 6 < x4 then (r18 x0 x1 x2 (x3 + 1) h) else ((gfr 11 7 x0 h).bind (fun t1 => (ald 0 t1 x3 h).bind (fun t2 => (f_X13_has t2 x4 h).bind (fun q3 => if q3.1 = 0 then (f_X13_findStep_B71 r11 r18 (f_X13_findStep_L37 r11 r18 k) x0 x1 x2 x3 x4 (-99) q3.2) else ((rcv 11 x0 q3.2).bind (fun u4 => (f_X13_causeOf x0 x2 x3 x4 q3.2).bind (fun q5 => f_X13_findStep_B71 r11 r18 (f_X13_findStep_L37 r11 r18 k) x0 x1 x2 x3 x4 q5.1 q5.2)))))))
theorem f_X13_findStep_L37_ok {K : KT} {h0 : PH} {a0 : List Value} {q : (Int32 × PH)} {r11 : Option Nat → Int32 → Int32 → PH → Option (Int32 × PH)} (hr11 : ∀ (y0 : Option Nat) (y1 : Int32) (y2 : Int32) (h : PH), r11 y0 y1 y2 h = some q → R K mi_X13_findStep h0 a0 (.inl (some (.int q.1))) q.2 11 [(0, va_rf y0), (1, .int y1), (2, .int y2)] [] h) {r18 : Option Nat → Int32 → Int32 → Int32 → PH → Option (Int32 × PH)} (hr18 : ∀ (y0 : Option Nat) (y1 : Int32) (y2 : Int32) (y3 : Int32) (h : PH), r18 y0 y1 y2 y3 h = some q → R K mi_X13_findStep h0 a0 (.inl (some (.int q.1))) q.2 18 [(0, va_rf y0), (1, .int y1), (2, .int y2), (3, .int y3)] [] h) : ∀ (k : Nat) (x0 : Option Nat) (x1 : Int32) (x2 : Int32) (x3 : Int32) (x4 : Int32) (h : PH), f_X13_findStep_L37 r11 r18 k x0 x1 x2 x3 x4 h = some q → R K mi_X13_findStep h0 a0 (.inl (some (.int q.1))) q.2 37 [(0, va_rf x0), (1, .int x1), (2, .int x2), (3, .int x3), (4, .int x4)] [] h := by
  intro k
  induction k with
  | zero => intro _ _ _ _ _ _ hf; cases hf
  | succ k ih =>
    intro x0 x1 x2 x3 x4 h hf
    unfold f_X13_findStep_L37 at hf
    refine R_iload 4 dX13_findStep_37 rfl ?_
    refine R_bipush dX13_findStep_39 k_bipush_6 ?_
    refine R_icgt (tgt := 110) dX13_findStep_41 (by decide) (fun hc => ?_) (fun hc => ?_)
    · rw [if_pos hc] at hf
      refine R_iinc (L' := [(3, .int (x3 + 1)), (0, va_rf x0), (1, .int x1), (2, .int x2), (4, .int x4)]) 3 dX13_findStep_110 rfl (k_inc_1 _) (by decide) rfl ?_
      refine R_goto (tgt := 18) dX13_findStep_113 (by decide) ?_
      refine R.sub [1, 2, 3, 0] (L' := [(0, va_rf x0), (1, .int x1), (2, .int x2), (3, .int (x3 + 1))]) rfl ?_
      exact hr18 x0 x1 x2 (x3 + 1) h hf
    · rw [if_neg hc] at hf
      refine R_aload_n 0 dX13_findStep_44 rfl rfl ?_
      obtain ⟨t1, et1, hf⟩ := Option.bind_eq_some_iff.mp hf
      refine R_getr lg_X13_22 et1 dX13_findStep_45 ?_
      refine R_iload_n 3 dX13_findStep_48 rfl rfl ?_
      obtain ⟨t2, et2, hf⟩ := Option.bind_eq_some_iff.mp hf
      refine R_iaload et2 dX13_findStep_49 ?_
      refine R_iload 4 dX13_findStep_50 rfl ?_
      obtain ⟨q3, eq3, hf⟩ := Option.bind_eq_some_iff.mp hf
      refine R_callS (mj := mi_X13_has) (As := [.int t2, .int x4]) (rest := []) (T_X13_has eq3) lS_X13_54 oky_X13_has (by decide) (by decide) rfl C1_0 (Nat.le_of_ble_eq_true rfl) dX13_findStep_52 ?_
      refine R_ifeq (tgt := 69) dX13_findStep_55 (by decide) (fun hc => ?_) (fun hc => ?_)
      · rw [if_pos hc] at hf
        refine R_bipush dX13_findStep_69 k_bipush_m99 ?_
        exact f_X13_findStep_B71_ok hr11 hr18 ih x0 x1 x2 x3 x4 (-99) q3.2 hf
      · rw [if_neg hc] at hf
        refine R_aload_n 0 dX13_findStep_58 rfl rfl ?_
        refine R_iload_n 2 dX13_findStep_59 rfl rfl ?_
        refine R_iload_n 3 dX13_findStep_60 rfl rfl ?_
        refine R_iload 4 dX13_findStep_61 rfl ?_
        obtain ⟨u4, eu4, hf⟩ := Option.bind_eq_some_iff.mp hf
        obtain ⟨q5, eq5, hf⟩ := Option.bind_eq_some_iff.mp hf
        refine R_callV (mj := mi_X13_causeOf) (ci := 11) (q := (RX13, TX13, 24)) (As := [.int x2, .int x3, .int x4]) (rest := []) (T_X13_causeOf eq5) eu4 rfl lV_X13_183 ⟨rfl, oky_X13_causeOf⟩ (by decide) (by decide) rfl C1_0 (Nat.le_of_ble_eq_true rfl) dX13_findStep_63 ?_
        refine R_goto (tgt := 71) dX13_findStep_66 (by decide) ?_
        exact f_X13_findStep_B71_ok hr11 hr18 ih x0 x1 x2 x3 x4 q5.1 q5.2 hf
noncomputable def f_X13_findStep_L18 (r11 : Option Nat → Int32 → Int32 → PH → Option (Int32 × PH)) : Nat → Option Nat → Int32 → Int32 → Int32 → PH → Option (Int32 × PH)
  | 0, _, _, _, _, _ => none
  | k + 1, x0, x1, x2, x3, h => (rcv 11 x0 h).bind (fun u1 => (f_X13_cells x0 h).bind (fun q2 => if q2.1 ≤ x3 then (r11 x0 x1 (x2 + 1) q2.2) else ((f_X13_has x1 x2 q2.2).bind (fun q3 => if q3.1 = 0 then (r11 x0 x1 (x2 + 1) q3.2) else (f_X13_findStep_L37 r11 (f_X13_findStep_L18 r11 k) FU x0 x1 x2 x3 1 q3.2)))))
theorem f_X13_findStep_L18_ok {K : KT} {h0 : PH} {a0 : List Value} {q : (Int32 × PH)} {r11 : Option Nat → Int32 → Int32 → PH → Option (Int32 × PH)} (hr11 : ∀ (y0 : Option Nat) (y1 : Int32) (y2 : Int32) (h : PH), r11 y0 y1 y2 h = some q → R K mi_X13_findStep h0 a0 (.inl (some (.int q.1))) q.2 11 [(0, va_rf y0), (1, .int y1), (2, .int y2)] [] h) : ∀ (k : Nat) (x0 : Option Nat) (x1 : Int32) (x2 : Int32) (x3 : Int32) (h : PH), f_X13_findStep_L18 r11 k x0 x1 x2 x3 h = some q → R K mi_X13_findStep h0 a0 (.inl (some (.int q.1))) q.2 18 [(0, va_rf x0), (1, .int x1), (2, .int x2), (3, .int x3)] [] h := by
  intro k
  induction k with
  | zero => intro _ _ _ _ _ hf; cases hf
  | succ k ih =>
    intro x0 x1 x2 x3 h hf
    unfold f_X13_findStep_L18 at hf
    refine R_iload_n 3 dX13_findStep_18 rfl rfl ?_
    refine R_aload_n 0 dX13_findStep_19 rfl rfl ?_
    obtain ⟨u1, eu1, hf⟩ := Option.bind_eq_some_iff.mp hf
    obtain ⟨q2, eq2, hf⟩ := Option.bind_eq_some_iff.mp hf
    refine R_callV (mj := mi_X13_cells) (ci := 11) (q := (RX13, TX13, 24)) (As := []) (rest := [.int x3]) (T_X13_cells eq2) eu1 rfl lV_X13_61 ⟨rfl, oky_X13_cells⟩ (by decide) (by decide) rfl (C1_i C1_0) (Nat.le_of_ble_eq_true rfl) dX13_findStep_20 ?_
    refine R_icge (tgt := 116) dX13_findStep_23 (by decide) (fun hc => ?_) (fun hc => ?_)
    · rw [if_pos hc] at hf
      refine R_iinc (L' := [(2, .int (x2 + 1)), (0, va_rf x0), (1, .int x1), (3, .int x3)]) 2 dX13_findStep_116 rfl (k_inc_1 _) (by decide) rfl ?_
      refine R_goto (tgt := 11) dX13_findStep_119 (by decide) ?_
      refine R.sub [1, 2, 0] (L' := [(0, va_rf x0), (1, .int x1), (2, .int (x2 + 1))]) rfl ?_
      exact hr11 x0 x1 (x2 + 1) q2.2 hf
    · rw [if_neg hc] at hf
      refine R_iload_n 1 dX13_findStep_26 rfl rfl ?_
      refine R_iload_n 2 dX13_findStep_27 rfl rfl ?_
      obtain ⟨q3, eq3, hf⟩ := Option.bind_eq_some_iff.mp hf
      refine R_callS (mj := mi_X13_has) (As := [.int x1, .int x2]) (rest := []) (T_X13_has eq3) lS_X13_54 oky_X13_has (by decide) (by decide) rfl C1_0 (Nat.le_of_ble_eq_true rfl) dX13_findStep_28 ?_
      refine R_ifeq (tgt := 116) dX13_findStep_31 (by decide) (fun hc => ?_) (fun hc => ?_)
      · rw [if_pos hc] at hf
        refine R_iinc (L' := [(2, .int (x2 + 1)), (0, va_rf x0), (1, .int x1), (3, .int x3)]) 2 dX13_findStep_116 rfl (k_inc_1 _) (by decide) rfl ?_
        refine R_goto (tgt := 11) dX13_findStep_119 (by decide) ?_
        refine R.sub [1, 2, 0] (L' := [(0, va_rf x0), (1, .int x1), (2, .int (x2 + 1))]) rfl ?_
        exact hr11 x0 x1 (x2 + 1) q3.2 hf
      · rw [if_neg hc] at hf
        refine R_iconst dX13_findStep_34 k_iconst_1 ?_
        refine R_istore (L' := [(4, .int 1), (0, va_rf x0), (1, .int x1), (2, .int x2), (3, .int x3)]) dX13_findStep_35 (by decide) rfl ?_
        refine R.sub [1, 2, 3, 4, 0] (L' := [(0, va_rf x0), (1, .int x1), (2, .int x2), (3, .int x3), (4, .int 1)]) rfl ?_
        exact f_X13_findStep_L37_ok hr11 ih FU x0 x1 x2 x3 1 q3.2 hf
noncomputable def f_X13_findStep_L11  : Nat → Option Nat → Int32 → Int32 → PH → Option (Int32 × PH)
  | 0, _, _, _, _ => none
  | k + 1, x0, x1, x2, h => if 5 ≤ x2 then (some (0, h)) else (f_X13_findStep_L18 (f_X13_findStep_L11 k) FU x0 x1 x2 0 h)
theorem f_X13_findStep_L11_ok {K : KT} {h0 : PH} {a0 : List Value} {q : (Int32 × PH)}  : ∀ (k : Nat) (x0 : Option Nat) (x1 : Int32) (x2 : Int32) (h : PH), f_X13_findStep_L11  k x0 x1 x2 h = some q → R K mi_X13_findStep h0 a0 (.inl (some (.int q.1))) q.2 11 [(0, va_rf x0), (1, .int x1), (2, .int x2)] [] h := by
  intro k
  induction k with
  | zero => intro _ _ _ _ hf; cases hf
  | succ k ih =>
    intro x0 x1 x2 h hf
    unfold f_X13_findStep_L11 at hf
    refine R_iload_n 2 dX13_findStep_11 rfl rfl ?_
    refine R_iconst dX13_findStep_12 k_iconst_5 ?_
    refine R_icge (tgt := 122) dX13_findStep_13 (by decide) (fun hc => ?_) (fun hc => ?_)
    · rw [if_pos hc] at hf
      refine R_iconst dX13_findStep_122 k_iconst_0 ?_
      obtain rfl := Option.some.inj hf
      exact R_iretZ0 rfl dX13_findStep_123
    · rw [if_neg hc] at hf
      refine R_iconst dX13_findStep_16 k_iconst_0 ?_
      refine R_istore_n (L' := [(3, .int 0), (0, va_rf x0), (1, .int x1), (2, .int x2)]) dX13_findStep_17 rfl (by decide) rfl ?_
      refine R.sub [1, 2, 3, 0] (L' := [(0, va_rf x0), (1, .int x1), (2, .int x2), (3, .int 0)]) rfl ?_
      exact f_X13_findStep_L18_ok ih FU x0 x1 x2 0 h hf
noncomputable def f_X13_findStep (x0 : Option Nat) (x1 : Int32) (h : PH) : Option (Int32 × PH) := (rcv 11 x0 h).bind (fun u1 => (f_X13_isBroken x0 h).bind (fun q2 => if q2.1 = 0 then (f_X13_findStep_L11  FU x0 x1 0 q2.2) else (some (0, q2.2))))
theorem T_X13_findStep {K : KT} {x0 : Option Nat} {x1 : Int32} {h : PH} {q : (Int32 × PH)} (hf : f_X13_findStep x0 x1 h = some q) : T K mi_X13_findStep [va_rf x0, .int x1] h (.inl (some (.int q.1))) q.2 := by
  unfold f_X13_findStep at hf
  refine T_of (by decide +kernel) rfl (C1_r (C1_i C1_0)) (Nat.le_of_ble_eq_true rfl) ?_
  show R K mi_X13_findStep h [va_rf x0, .int x1] _ _ 0 [(0, va_rf x0), (1, .int x1)] [] h
  refine R_aload_n 0 dX13_findStep_0 rfl rfl ?_
  obtain ⟨u1, eu1, hf⟩ := Option.bind_eq_some_iff.mp hf
  obtain ⟨q2, eq2, hf⟩ := Option.bind_eq_some_iff.mp hf
  refine R_callV (mj := mi_X13_isBroken) (ci := 11) (q := (RX13, TX13, 24)) (As := []) (rest := []) (T_X13_isBroken eq2) eu1 rfl lV_X13_145 ⟨rfl, oky_X13_isBroken⟩ (by decide) (by decide) rfl C1_0 (Nat.le_of_ble_eq_true rfl) dX13_findStep_1 ?_
  refine R_ifeq (tgt := 9) dX13_findStep_4 (by decide) (fun hc => ?_) (fun hc => ?_)
  · rw [if_pos hc] at hf
    refine R_iconst dX13_findStep_9 k_iconst_0 ?_
    refine R_istore_n (L' := [(2, .int 0), (0, va_rf x0), (1, .int x1)]) dX13_findStep_10 rfl (by decide) rfl ?_
    refine R.sub [1, 2, 0] (L' := [(0, va_rf x0), (1, .int x1), (2, .int 0)]) rfl ?_
    exact f_X13_findStep_L11_ok  FU x0 x1 0 q2.2 hf
  · rw [if_neg hc] at hf
    refine R_iconst dX13_findStep_7 k_iconst_0 ?_
    obtain rfl := Option.some.inj hf
    exact R_iretZ0 rfl dX13_findStep_8
theorem fp_X13_198 {mi : MI} (ho : mi.own = "EdgeSumsModel") : FP mi 198 11 13 .int := ⟨_, _, _, ck_11, by decide, by decide +kernel, Or.inl ⟨rfl, by rw [ho]; exact Or.inl q2664⟩⟩
theorem lV_X13_201 : GoodIn lw_all (wsV "EdgeSumsModel" 201 "EdgeSumsModel" yX13_findStep (ws_ yX13_findStep cX13_findStep 6 (some FieldType.boolean))) := lw_V q2866 q2868 qs80 q158 q2869
theorem oky_X13_findStep : okY yX13_findStep 1 := ⟨by decide +kernel, by decide +kernel, by decide +kernel⟩
theorem lg_X13_189 : LG "EdgeSumsModel" 189 11 9 := ⟨_, _, _, ck_11, by decide, Or.inl q2660⟩
theorem lg_X13_192 : LG "EdgeSumsModel" 192 11 10 := ⟨_, _, _, ck_11, by decide, Or.inl q2661⟩
theorem lg_X13_198 : LG "EdgeSumsModel" 198 11 13 := ⟨_, _, _, ck_11, by decide, Or.inl q2664⟩
theorem lg_X13_25 : LG "EdgeSumsModel" 25 11 12 := ⟨_, _, _, ck_11, by decide, Or.inl q2663⟩
theorem lg_X13_186 : LG "EdgeSumsModel" 186 11 8 := ⟨_, _, _, ck_11, by decide, Or.inl q2659⟩
theorem lg_X13_195 : LG "EdgeSumsModel" 195 11 11 := ⟨_, _, _, ck_11, by decide, Or.inl q2662⟩
abbrev mi_X13_goToEnd : MI := (RX13, yX13_goToEnd, cX13_goToEnd, 3, none, 7)
noncomputable def f_X13_goToEnd_L5  : Nat → Option Nat → Int32 → PH → Option PH
  | 0, _, _, _ => none
  | k + 1, x0, x1, h => (rcv 11 x0 h).bind (fun u1 => (f_X13_findStep x0 x1 h).bind (fun q2 => if q2.1 = 0 then (some q2.2) else ((gfr 11 7 x0 q2.2).bind (fun t3 => (gfi 11 9 x0 q2.2).bind (fun t4 => (ald 0 t3 t4 q2.2).bind (fun t5 => (gfi 11 10 x0 q2.2).bind (fun t6 => (asi 0 t3 t4 (t5 &&& (((1 : Int32) <<< (t6 &&& 31)) ^^^ (-1))) q2.2).bind (fun h7 => (gfi 11 13 x0 h7).bind (fun t8 => (gfr 11 12 x0 h7).bind (fun t9 => (gfi 11 8 x0 h7).bind (fun t10 => (asi 0 t9 (4 * t8) t10 h7).bind (fun h11 => (gfr 11 12 x0 h11).bind (fun t12 => (gfi 11 9 x0 h11).bind (fun t13 => (asi 0 t12 ((4 * t8) + 1) t13 h11).bind (fun h14 => (gfr 11 12 x0 h14).bind (fun t15 => (gfi 11 10 x0 h14).bind (fun t16 => (asi 0 t15 ((4 * t8) + 2) t16 h14).bind (fun h17 => (gfr 11 12 x0 h17).bind (fun t18 => (gfi 11 11 x0 h17).bind (fun t19 => (asi 0 t18 ((4 * t8) + 3) t19 h17).bind (fun h20 => (gfi 11 13 x0 h20).bind (fun t21 => (pf 11 13 x0 (.int (t21 + 1)) h20).bind (fun h22 => (f_X13_goToEnd_L5 k) x0 x1 h22)))))))))))))))))))))))
theorem f_X13_goToEnd_L5_ok {K : KT} {h0 : PH} {a0 : List Value} {q : PH}  : ∀ (k : Nat) (x0 : Option Nat) (x1 : Int32) (h : PH), f_X13_goToEnd_L5  k x0 x1 h = some q → R K mi_X13_goToEnd h0 a0 (.inl none) q 5 [(0, va_rf x0), (1, .int x1)] [] h := by
  intro k
  induction k with
  | zero => intro _ _ _ hf; cases hf
  | succ k ih =>
    intro x0 x1 h hf
    unfold f_X13_goToEnd_L5 at hf
    refine R_aload_n 0 dX13_goToEnd_5 rfl rfl ?_
    refine R_iload_n 1 dX13_goToEnd_6 rfl rfl ?_
    obtain ⟨u1, eu1, hf⟩ := Option.bind_eq_some_iff.mp hf
    obtain ⟨q2, eq2, hf⟩ := Option.bind_eq_some_iff.mp hf
    refine R_callV (mj := mi_X13_findStep) (ci := 11) (q := (RX13, TX13, 24)) (As := [.int x1]) (rest := []) (T_X13_findStep eq2) eu1 rfl lV_X13_201 ⟨rfl, oky_X13_findStep⟩ (by decide) (by decide) rfl C1_0 (Nat.le_of_ble_eq_true rfl) dX13_goToEnd_7 ?_
    refine R_ifeq (tgt := 99) dX13_goToEnd_10 (by decide) (fun hc => ?_) (fun hc => ?_)
    · rw [if_pos hc] at hf
      obtain rfl := Option.some.inj hf
      exact R_return rfl dX13_goToEnd_99
    · rw [if_neg hc] at hf
      refine R_aload_n 0 dX13_goToEnd_13 rfl rfl ?_
      obtain ⟨t3, et3, hf⟩ := Option.bind_eq_some_iff.mp hf
      refine R_getr lg_X13_22 et3 dX13_goToEnd_14 ?_
      refine R_aload_n 0 dX13_goToEnd_17 rfl rfl ?_
      obtain ⟨t4, et4, hf⟩ := Option.bind_eq_some_iff.mp hf
      refine R_geti lg_X13_189 et4 dX13_goToEnd_18 ?_
      refine R_dup2 dX13_goToEnd_21 rfl (rf_cat _) ?_
      obtain ⟨t5, et5, hf⟩ := Option.bind_eq_some_iff.mp hf
      refine R_iaload et5 dX13_goToEnd_22 ?_
      refine R_iconst dX13_goToEnd_23 k_iconst_1 ?_
      refine R_aload_n 0 dX13_goToEnd_24 rfl rfl ?_
      obtain ⟨t6, et6, hf⟩ := Option.bind_eq_some_iff.mp hf
      refine R_geti lg_X13_192 et6 dX13_goToEnd_25 ?_
      refine R_ishl dX13_goToEnd_28 ?_
      refine R_iconst dX13_goToEnd_29 k_iconst_m1 ?_
      refine R_ixor dX13_goToEnd_30 ?_
      refine R_iand dX13_goToEnd_31 ?_
      obtain ⟨h7, eh7, hf⟩ := Option.bind_eq_some_iff.mp hf
      refine R_iastore eh7 dX13_goToEnd_32 ?_
      refine R_iconst dX13_goToEnd_33 k_iconst_4 ?_
      refine R_aload_n 0 dX13_goToEnd_34 rfl rfl ?_
      obtain ⟨t8, et8, hf⟩ := Option.bind_eq_some_iff.mp hf
      refine R_geti lg_X13_198 et8 dX13_goToEnd_35 ?_
      refine R_imul dX13_goToEnd_38 ?_
      refine R_istore_n (L' := [(2, .int (4 * t8)), (0, va_rf x0), (1, .int x1)]) dX13_goToEnd_39 rfl (by decide) rfl ?_
      refine R_aload_n 1 dX13_goToEnd_40 rfl rfl ?_
      obtain ⟨t9, et9, hf⟩ := Option.bind_eq_some_iff.mp hf
      refine R_getr lg_X13_25 et9 dX13_goToEnd_41 ?_
      refine R_iload_n 0 dX13_goToEnd_44 rfl rfl ?_
      refine R_aload_n 1 dX13_goToEnd_45 rfl rfl ?_
      obtain ⟨t10, et10, hf⟩ := Option.bind_eq_some_iff.mp hf
      refine R_geti lg_X13_186 et10 dX13_goToEnd_46 ?_
      obtain ⟨h11, eh11, hf⟩ := Option.bind_eq_some_iff.mp hf
      refine R_iastore eh11 dX13_goToEnd_49 ?_
      refine R_aload_n 1 dX13_goToEnd_50 rfl rfl ?_
      obtain ⟨t12, et12, hf⟩ := Option.bind_eq_some_iff.mp hf
      refine R_getr lg_X13_25 et12 dX13_goToEnd_51 ?_
      refine R_iload_n 0 dX13_goToEnd_54 rfl rfl ?_
      refine R_iconst dX13_goToEnd_55 k_iconst_1 ?_
      refine R_iadd dX13_goToEnd_56 ?_
      refine R_aload_n 1 dX13_goToEnd_57 rfl rfl ?_
      obtain ⟨t13, et13, hf⟩ := Option.bind_eq_some_iff.mp hf
      refine R_geti lg_X13_189 et13 dX13_goToEnd_58 ?_
      obtain ⟨h14, eh14, hf⟩ := Option.bind_eq_some_iff.mp hf
      refine R_iastore eh14 dX13_goToEnd_61 ?_
      refine R_aload_n 1 dX13_goToEnd_62 rfl rfl ?_
      obtain ⟨t15, et15, hf⟩ := Option.bind_eq_some_iff.mp hf
      refine R_getr lg_X13_25 et15 dX13_goToEnd_63 ?_
      refine R_iload_n 0 dX13_goToEnd_66 rfl rfl ?_
      refine R_iconst dX13_goToEnd_67 k_iconst_2 ?_
      refine R_iadd dX13_goToEnd_68 ?_
      refine R_aload_n 1 dX13_goToEnd_69 rfl rfl ?_
      obtain ⟨t16, et16, hf⟩ := Option.bind_eq_some_iff.mp hf
      refine R_geti lg_X13_192 et16 dX13_goToEnd_70 ?_
      obtain ⟨h17, eh17, hf⟩ := Option.bind_eq_some_iff.mp hf
      refine R_iastore eh17 dX13_goToEnd_73 ?_
      refine R_aload_n 1 dX13_goToEnd_74 rfl rfl ?_
      obtain ⟨t18, et18, hf⟩ := Option.bind_eq_some_iff.mp hf
      refine R_getr lg_X13_25 et18 dX13_goToEnd_75 ?_
      refine R_iload_n 0 dX13_goToEnd_78 rfl rfl ?_
      refine R_iconst dX13_goToEnd_79 k_iconst_3 ?_
      refine R_iadd dX13_goToEnd_80 ?_
      refine R_aload_n 1 dX13_goToEnd_81 rfl rfl ?_
      obtain ⟨t19, et19, hf⟩ := Option.bind_eq_some_iff.mp hf
      refine R_geti lg_X13_195 et19 dX13_goToEnd_82 ?_
      obtain ⟨h20, eh20, hf⟩ := Option.bind_eq_some_iff.mp hf
      refine R_iastore eh20 dX13_goToEnd_85 ?_
      refine R_aload_n 1 dX13_goToEnd_86 rfl rfl ?_
      refine R_dup dX13_goToEnd_87 (rf_cat _) ?_
      obtain ⟨t21, et21, hf⟩ := Option.bind_eq_some_iff.mp hf
      refine R_geti lg_X13_198 et21 dX13_goToEnd_88 ?_
      refine R_iconst dX13_goToEnd_91 k_iconst_1 ?_
      refine R_iadd dX13_goToEnd_92 ?_
      obtain ⟨h22, eh22, hf⟩ := Option.bind_eq_some_iff.mp hf
      refine R_putI (fp_X13_198 rfl) eh22 dX13_goToEnd_93 ?_
      refine R_goto (tgt := 5) dX13_goToEnd_96 (by decide) ?_
      refine R.sub [1, 2] (L' := [(0, va_rf x0), (1, .int x1)]) rfl ?_
      exact ih x0 x1 h22 hf
noncomputable def f_X13_goToEnd (x0 : Option Nat) (x1 : Int32) (h : PH) : Option PH := (pf 11 13 x0 (.int 0) h).bind (fun h1 => f_X13_goToEnd_L5  FU x0 x1 h1)
theorem T_X13_goToEnd {K : KT} {x0 : Option Nat} {x1 : Int32} {h : PH} {q : PH} (hf : f_X13_goToEnd x0 x1 h = some q) : T K mi_X13_goToEnd [va_rf x0, .int x1] h (.inl none) q := by
  unfold f_X13_goToEnd at hf
  refine T_of (by decide +kernel) rfl (C1_r (C1_i C1_0)) (Nat.le_of_ble_eq_true rfl) ?_
  show R K mi_X13_goToEnd h [va_rf x0, .int x1] _ _ 0 [(0, va_rf x0), (1, .int x1)] [] h
  refine R_aload_n 0 dX13_goToEnd_0 rfl rfl ?_
  refine R_iconst dX13_goToEnd_1 k_iconst_0 ?_
  obtain ⟨h1, eh1, hf⟩ := Option.bind_eq_some_iff.mp hf
  refine R_putI (fp_X13_198 rfl) eh1 dX13_goToEnd_2 ?_
  exact f_X13_goToEnd_L5_ok  FU x0 x1 h1 hf
abbrev mi_X13_singleMany : MI := (RX13, yX13_singleMany, cX13_singleMany, 3, (some FieldType.int), 2)
noncomputable def f_X13_singleMany_L4  : Nat → Option Nat → Int32 → Int32 → PH → Option (Int32 × PH)
  | 0, _, _, _, _ => none
  | k + 1, x0, x1, x2, h => (rcv 11 x0 h).bind (fun u1 => (f_X13_cells x0 h).bind (fun q2 => if q2.1 ≤ x2 then (some (x1, q2.2)) else ((gfr 11 7 x0 q2.2).bind (fun t3 => (ald 0 t3 x2 q2.2).bind (fun t4 => (f_X13_ones t4 q2.2).bind (fun q5 => if q5.1 = 1 then ((f_X13_singleMany_L4 k) x0 (x1 + 1) (x2 + 1) q5.2) else ((f_X13_singleMany_L4 k) x0 (x1 + 0) (x2 + 1) q5.2)))))))
theorem f_X13_singleMany_L4_ok {K : KT} {h0 : PH} {a0 : List Value} {q : (Int32 × PH)}  : ∀ (k : Nat) (x0 : Option Nat) (x1 : Int32) (x2 : Int32) (h : PH), f_X13_singleMany_L4  k x0 x1 x2 h = some q → R K mi_X13_singleMany h0 a0 (.inl (some (.int q.1))) q.2 4 [(0, va_rf x0), (1, .int x1), (2, .int x2)] [] h := by
  intro k
  induction k with
  | zero => intro _ _ _ _ hf; cases hf
  | succ k ih =>
    intro x0 x1 x2 h hf
    unfold f_X13_singleMany_L4 at hf
    refine R_iload_n 2 dX13_singleMany_4 rfl rfl ?_
    refine R_aload_n 0 dX13_singleMany_5 rfl rfl ?_
    obtain ⟨u1, eu1, hf⟩ := Option.bind_eq_some_iff.mp hf
    obtain ⟨q2, eq2, hf⟩ := Option.bind_eq_some_iff.mp hf
    refine R_callV (mj := mi_X13_cells) (ci := 11) (q := (RX13, TX13, 24)) (As := []) (rest := [.int x2]) (T_X13_cells eq2) eu1 rfl lV_X13_61 ⟨rfl, oky_X13_cells⟩ (by decide) (by decide) rfl (C1_i C1_0) (Nat.le_of_ble_eq_true rfl) dX13_singleMany_6 ?_
    refine R_icge (tgt := 39) dX13_singleMany_9 (by decide) (fun hc => ?_) (fun hc => ?_)
    · rw [if_pos hc] at hf
      refine R_iload_n 1 dX13_singleMany_39 rfl rfl ?_
      obtain rfl := Option.some.inj hf
      exact R_iretI rfl dX13_singleMany_40
    · rw [if_neg hc] at hf
      refine R_iload_n 1 dX13_singleMany_12 rfl rfl ?_
      refine R_aload_n 0 dX13_singleMany_13 rfl rfl ?_
      obtain ⟨t3, et3, hf⟩ := Option.bind_eq_some_iff.mp hf
      refine R_getr lg_X13_22 et3 dX13_singleMany_14 ?_
      refine R_iload_n 2 dX13_singleMany_17 rfl rfl ?_
      obtain ⟨t4, et4, hf⟩ := Option.bind_eq_some_iff.mp hf
      refine R_iaload et4 dX13_singleMany_18 ?_
      obtain ⟨q5, eq5, hf⟩ := Option.bind_eq_some_iff.mp hf
      refine R_callS (mj := mi_X13_ones) (As := [.int t4]) (rest := [.int x1]) (T_X13_ones eq5) lS_X13_142 oky_X13_ones (by decide) (by decide) rfl (C1_i C1_0) (Nat.le_of_ble_eq_true rfl) dX13_singleMany_19 ?_
      refine R_iconst dX13_singleMany_22 k_iconst_1 ?_
      refine R_icne (tgt := 30) dX13_singleMany_23 (by decide) (fun hc => ?_) (fun hc => ?_)
      · rw [if_pos hc] at hf
        refine R_iconst dX13_singleMany_26 k_iconst_1 ?_
        refine R_goto (tgt := 31) dX13_singleMany_27 (by decide) ?_
        refine R_iadd dX13_singleMany_31 ?_
        refine R_istore_n (L' := [(1, .int (x1 + 1)), (0, va_rf x0), (2, .int x2)]) dX13_singleMany_32 rfl (by decide) rfl ?_
        refine R_iinc (L' := [(2, .int (x2 + 1)), (1, .int (x1 + 1)), (0, va_rf x0)]) 2 dX13_singleMany_33 rfl (k_inc_1 _) (by decide) rfl ?_
        refine R_goto (tgt := 4) dX13_singleMany_36 (by decide) ?_
        refine R.sub [2, 1, 0] (L' := [(0, va_rf x0), (1, .int (x1 + 1)), (2, .int (x2 + 1))]) rfl ?_
        exact ih x0 (x1 + 1) (x2 + 1) q5.2 hf
      · rw [if_neg hc] at hf
        refine R_iconst dX13_singleMany_30 k_iconst_0 ?_
        refine R_iadd dX13_singleMany_31 ?_
        refine R_istore_n (L' := [(1, .int (x1 + 0)), (0, va_rf x0), (2, .int x2)]) dX13_singleMany_32 rfl (by decide) rfl ?_
        refine R_iinc (L' := [(2, .int (x2 + 1)), (1, .int (x1 + 0)), (0, va_rf x0)]) 2 dX13_singleMany_33 rfl (k_inc_1 _) (by decide) rfl ?_
        refine R_goto (tgt := 4) dX13_singleMany_36 (by decide) ?_
        refine R.sub [2, 1, 0] (L' := [(0, va_rf x0), (1, .int (x1 + 0)), (2, .int (x2 + 1))]) rfl ?_
        exact ih x0 (x1 + 0) (x2 + 1) q5.2 hf
noncomputable def f_X13_singleMany (x0 : Option Nat) (h : PH) : Option (Int32 × PH) := f_X13_singleMany_L4  FU x0 0 0 h
theorem T_X13_singleMany {K : KT} {x0 : Option Nat} {h : PH} {q : (Int32 × PH)} (hf : f_X13_singleMany x0 h = some q) : T K mi_X13_singleMany [va_rf x0] h (.inl (some (.int q.1))) q.2 := by
  unfold f_X13_singleMany at hf
  refine T_of (by decide +kernel) rfl (C1_r C1_0) (Nat.le_of_ble_eq_true rfl) ?_
  show R K mi_X13_singleMany h [va_rf x0] _ _ 0 [(0, va_rf x0)] [] h
  refine R_iconst dX13_singleMany_0 k_iconst_0 ?_
  refine R_istore_n (L' := [(1, .int 0), (0, va_rf x0)]) dX13_singleMany_1 rfl (by decide) rfl ?_
  refine R_iconst dX13_singleMany_2 k_iconst_0 ?_
  refine R_istore_n (L' := [(2, .int 0), (1, .int 0), (0, va_rf x0)]) dX13_singleMany_3 rfl (by decide) rfl ?_
  refine R.sub [2, 1, 0] (L' := [(0, va_rf x0), (1, .int 0), (2, .int 0)]) rfl ?_
  exact f_X13_singleMany_L4_ok  FU x0 0 0 h hf
theorem lV_X13_149 : GoodIn lw_all (wsV "EdgeSumsModel" 149 "EdgeSumsModel" yX13_singleMany (ws_ yX13_singleMany cX13_singleMany 3 (some FieldType.int))) := lw_V q2926 q2928 qs92 q158 q2929
theorem oky_X13_singleMany : okY yX13_singleMany 0 := ⟨by decide +kernel, by decide +kernel, by decide +kernel⟩
abbrev mi_X13_how : MI := (RX13, yX13_how, cX13_how, 1, (some FieldType.int), 3)
noncomputable def f_X13_how (x0 : Option Nat) (h : PH) : Option (Int32 × PH) := (rcv 11 x0 h).bind (fun u1 => (f_X13_isBroken x0 h).bind (fun q2 => if q2.1 = 0 then ((rcv 11 x0 q2.2).bind (fun u3 => (f_X13_singleMany x0 q2.2).bind (fun q4 => (rcv 11 x0 q4.2).bind (fun u5 => (f_X13_cells x0 q4.2).bind (fun q6 => if q4.1 = q6.1 then (some (1, q6.2)) else (some (0, q6.2))))))) else (some (2, q2.2))))
theorem T_X13_how {K : KT} {x0 : Option Nat} {h : PH} {q : (Int32 × PH)} (hf : f_X13_how x0 h = some q) : T K mi_X13_how [va_rf x0] h (.inl (some (.int q.1))) q.2 := by
  unfold f_X13_how at hf
  refine T_of (by decide +kernel) rfl (C1_r C1_0) (Nat.le_of_ble_eq_true rfl) ?_
  show R K mi_X13_how h [va_rf x0] _ _ 0 [(0, va_rf x0)] [] h
  refine R_aload_n 0 dX13_how_0 rfl rfl ?_
  obtain ⟨u1, eu1, hf⟩ := Option.bind_eq_some_iff.mp hf
  obtain ⟨q2, eq2, hf⟩ := Option.bind_eq_some_iff.mp hf
  refine R_callV (mj := mi_X13_isBroken) (ci := 11) (q := (RX13, TX13, 24)) (As := []) (rest := []) (T_X13_isBroken eq2) eu1 rfl lV_X13_145 ⟨rfl, oky_X13_isBroken⟩ (by decide) (by decide) rfl C1_0 (Nat.le_of_ble_eq_true rfl) dX13_how_1 ?_
  refine R_ifeq (tgt := 11) dX13_how_4 (by decide) (fun hc => ?_) (fun hc => ?_)
  · rw [if_pos hc] at hf
    refine R_aload_n 0 dX13_how_11 rfl rfl ?_
    obtain ⟨u3, eu3, hf⟩ := Option.bind_eq_some_iff.mp hf
    obtain ⟨q4, eq4, hf⟩ := Option.bind_eq_some_iff.mp hf
    refine R_callV (mj := mi_X13_singleMany) (ci := 11) (q := (RX13, TX13, 24)) (As := []) (rest := []) (T_X13_singleMany eq4) eu3 rfl lV_X13_149 ⟨rfl, oky_X13_singleMany⟩ (by decide) (by decide) rfl C1_0 (Nat.le_of_ble_eq_true rfl) dX13_how_12 ?_
    refine R_aload_n 0 dX13_how_15 rfl rfl ?_
    obtain ⟨u5, eu5, hf⟩ := Option.bind_eq_some_iff.mp hf
    obtain ⟨q6, eq6, hf⟩ := Option.bind_eq_some_iff.mp hf
    refine R_callV (mj := mi_X13_cells) (ci := 11) (q := (RX13, TX13, 24)) (As := []) (rest := [.int q4.1]) (T_X13_cells eq6) eu5 rfl lV_X13_61 ⟨rfl, oky_X13_cells⟩ (by decide) (by decide) rfl (C1_i C1_0) (Nat.le_of_ble_eq_true rfl) dX13_how_16 ?_
    refine R_icne (tgt := 26) dX13_how_19 (by decide) (fun hc => ?_) (fun hc => ?_)
    · rw [if_pos hc] at hf
      refine R_iconst dX13_how_22 k_iconst_1 ?_
      refine R_goto (tgt := 27) dX13_how_23 (by decide) ?_
      obtain rfl := Option.some.inj hf
      exact R_iretI rfl dX13_how_27
    · rw [if_neg hc] at hf
      refine R_iconst dX13_how_26 k_iconst_0 ?_
      obtain rfl := Option.some.inj hf
      exact R_iretI rfl dX13_how_27
  · rw [if_neg hc] at hf
    refine R_iconst dX13_how_7 k_iconst_2 ?_
    refine R_goto (tgt := 27) dX13_how_8 (by decide) ?_
    obtain rfl := Option.some.inj hf
    exact R_iretI rfl dX13_how_27
theorem lV_X13_204 : GoodIn lw_all (wsV "EdgeSumsModel" 204 "EdgeSumsModel" yX13_goToEnd (ws_ yX13_goToEnd cX13_goToEnd 3 none)) := lw_V q2862 q2864 qs79 q158 q2865
theorem oky_X13_goToEnd : okY yX13_goToEnd 1 := ⟨by decide +kernel, by decide +kernel, by decide +kernel⟩
theorem lV_X13_207 : GoodIn lw_all (wsV "EdgeSumsModel" 207 "EdgeSumsModel" yX13_how (ws_ yX13_how cX13_how 1 (some FieldType.int))) := lw_V q2922 q2924 qs91 q158 q2925
theorem oky_X13_how : okY yX13_how 0 := ⟨by decide +kernel, by decide +kernel, by decide +kernel⟩
abbrev mi_X13_isSolvableBy : MI := (RX13, yX13_isSolvableBy, cX13_isSolvableBy, 2, (some FieldType.boolean), 8)
noncomputable def f_X13_isSolvableBy (x0 : Option Nat) (x1 : Int32) (h : PH) : Option (Int32 × PH) := (rcv 11 x0 h).bind (fun u1 => (f_X13_layFirst x0 h).bind (fun h2 => (rcv 11 x0 h2).bind (fun u3 => (f_X13_goToEnd x0 x1 h2).bind (fun h4 => (rcv 11 x0 h4).bind (fun u5 => (f_X13_how x0 h4).bind (fun q6 => if q6.1 = 1 then (some (1, q6.2)) else (some (0, q6.2))))))))
theorem T_X13_isSolvableBy {K : KT} {x0 : Option Nat} {x1 : Int32} {h : PH} {q : (Int32 × PH)} (hf : f_X13_isSolvableBy x0 x1 h = some q) : T K mi_X13_isSolvableBy [va_rf x0, .int x1] h (.inl (some (.int q.1))) q.2 := by
  unfold f_X13_isSolvableBy at hf
  refine T_of (by decide +kernel) rfl (C1_r (C1_i C1_0)) (Nat.le_of_ble_eq_true rfl) ?_
  show R K mi_X13_isSolvableBy h [va_rf x0, .int x1] _ _ 0 [(0, va_rf x0), (1, .int x1)] [] h
  refine R_aload_n 0 dX13_isSolvableBy_0 rfl rfl ?_
  obtain ⟨u1, eu1, hf⟩ := Option.bind_eq_some_iff.mp hf
  obtain ⟨h2, eh2, hf⟩ := Option.bind_eq_some_iff.mp hf
  refine R_callV (mj := mi_X13_layFirst) (ci := 11) (q := (RX13, TX13, 24)) (As := []) (rest := []) (T_X13_layFirst eh2) eu1 rfl lV_X13_139 ⟨rfl, oky_X13_layFirst⟩ (by decide) (by decide) rfl C1_0 (Nat.le_of_ble_eq_true rfl) dX13_isSolvableBy_1 ?_
  refine R_aload_n 0 dX13_isSolvableBy_4 rfl rfl ?_
  refine R_iload_n 1 dX13_isSolvableBy_5 rfl rfl ?_
  obtain ⟨u3, eu3, hf⟩ := Option.bind_eq_some_iff.mp hf
  obtain ⟨h4, eh4, hf⟩ := Option.bind_eq_some_iff.mp hf
  refine R_callV (mj := mi_X13_goToEnd) (ci := 11) (q := (RX13, TX13, 24)) (As := [.int x1]) (rest := []) (T_X13_goToEnd eh4) eu3 rfl lV_X13_204 ⟨rfl, oky_X13_goToEnd⟩ (by decide) (by decide) rfl C1_0 (Nat.le_of_ble_eq_true rfl) dX13_isSolvableBy_6 ?_
  refine R_aload_n 0 dX13_isSolvableBy_9 rfl rfl ?_
  obtain ⟨u5, eu5, hf⟩ := Option.bind_eq_some_iff.mp hf
  obtain ⟨q6, eq6, hf⟩ := Option.bind_eq_some_iff.mp hf
  refine R_callV (mj := mi_X13_how) (ci := 11) (q := (RX13, TX13, 24)) (As := []) (rest := []) (T_X13_how eq6) eu5 rfl lV_X13_207 ⟨rfl, oky_X13_how⟩ (by decide) (by decide) rfl C1_0 (Nat.le_of_ble_eq_true rfl) dX13_isSolvableBy_10 ?_
  refine R_iconst dX13_isSolvableBy_13 k_iconst_1 ?_
  refine R_icne (tgt := 21) dX13_isSolvableBy_14 (by decide) (fun hc => ?_) (fun hc => ?_)
  · rw [if_pos hc] at hf
    refine R_iconst dX13_isSolvableBy_17 k_iconst_1 ?_
    refine R_goto (tgt := 22) dX13_isSolvableBy_18 (by decide) ?_
    obtain rfl := Option.some.inj hf
    exact R_iretZ1 rfl dX13_isSolvableBy_22
  · rw [if_neg hc] at hf
    refine R_iconst dX13_isSolvableBy_21 k_iconst_0 ?_
    obtain rfl := Option.some.inj hf
    exact R_iretZ0 rfl dX13_isSolvableBy_22
theorem lV_X13_210 : GoodIn lw_all (wsV "EdgeSumsModel" 210 "EdgeSumsModel" yX13_isSolvableBy (ws_ yX13_isSolvableBy cX13_isSolvableBy 2 (some FieldType.boolean))) := lw_V q2858 q2860 qs78 q158 q2861
theorem oky_X13_isSolvableBy : okY yX13_isSolvableBy 1 := ⟨by decide +kernel, by decide +kernel, by decide +kernel⟩
abbrev mi_X13_isSolvable : MI := (RX13, yX13_isSolvable, cX13_isSolvable, 1, (some FieldType.boolean), 9)
noncomputable def f_X13_isSolvable (x0 : Option Nat) (h : PH) : Option (Int32 × PH) := (gfr 11 1 x0 h).bind (fun t1 => (ald 0 t1 2 h).bind (fun t2 => (rcv 11 x0 h).bind (fun u3 => (f_X13_isSolvableBy x0 t2 h).bind (fun q4 => (gb q4.1).bind (fun u5 => some (q4.1, q4.2))))))
theorem T_X13_isSolvable {K : KT} {x0 : Option Nat} {h : PH} {q : (Int32 × PH)} (hf : f_X13_isSolvable x0 h = some q) : T K mi_X13_isSolvable [va_rf x0] h (.inl (some (.int q.1))) q.2 := by
  unfold f_X13_isSolvable at hf
  refine T_of (by decide +kernel) rfl (C1_r C1_0) (Nat.le_of_ble_eq_true rfl) ?_
  show R K mi_X13_isSolvable h [va_rf x0] _ _ 0 [(0, va_rf x0)] [] h
  refine R_aload_n 0 dX13_isSolvable_0 rfl rfl ?_
  refine R_aload_n 0 dX13_isSolvable_1 rfl rfl ?_
  obtain ⟨t1, et1, hf⟩ := Option.bind_eq_some_iff.mp hf
  refine R_getr lg_X13_7 et1 dX13_isSolvable_2 ?_
  refine R_iconst dX13_isSolvable_5 k_iconst_2 ?_
  obtain ⟨t2, et2, hf⟩ := Option.bind_eq_some_iff.mp hf
  refine R_iaload et2 dX13_isSolvable_6 ?_
  obtain ⟨u3, eu3, hf⟩ := Option.bind_eq_some_iff.mp hf
  obtain ⟨q4, eq4, hf⟩ := Option.bind_eq_some_iff.mp hf
  refine R_callV (mj := mi_X13_isSolvableBy) (ci := 11) (q := (RX13, TX13, 24)) (As := [.int t2]) (rest := []) (T_X13_isSolvableBy eq4) eu3 rfl lV_X13_210 ⟨rfl, oky_X13_isSolvableBy⟩ (by decide) (by decide) rfl C1_0 (Nat.le_of_ble_eq_true rfl) dX13_isSolvable_7 ?_
  obtain ⟨u5, eu5, hf⟩ := Option.bind_eq_some_iff.mp hf
  obtain rfl := Option.some.inj hf
  exact R_iretZ eu5 rfl dX13_isSolvable_10
abbrev mi_X13_worth : MI := (RX13, yX13_worth, cX13_worth, 3, (some FieldType.int), 3)
noncomputable def f_X13_worth (x0 : Option Nat) (x1 : Int32) (x2 : Int32) (h : PH) : Option (Int32 × PH) := if x1 = 0 then ((rcv 11 x0 h).bind (fun u1 => (f_X13_numberOf x0 x2 h).bind (fun q2 => some (q2.1, q2.2)))) else ((rcv 11 x0 h).bind (fun u3 => (f_X13_sumOf x0 x2 h).bind (fun q4 => some (q4.1, q4.2))))
theorem T_X13_worth {K : KT} {x0 : Option Nat} {x1 : Int32} {x2 : Int32} {h : PH} {q : (Int32 × PH)} (hf : f_X13_worth x0 x1 x2 h = some q) : T K mi_X13_worth [va_rf x0, .int x1, .int x2] h (.inl (some (.int q.1))) q.2 := by
  unfold f_X13_worth at hf
  refine T_of (by decide +kernel) rfl (C1_r (C1_i (C1_i C1_0))) (Nat.le_of_ble_eq_true rfl) ?_
  show R K mi_X13_worth h [va_rf x0, .int x1, .int x2] _ _ 0 [(0, va_rf x0), (1, .int x1), (2, .int x2)] [] h
  refine R_iload_n 1 dX13_worth_0 rfl rfl ?_
  refine R_ifne (tgt := 12) dX13_worth_1 (by decide) (fun hc => ?_) (fun hc => ?_)
  · rw [if_pos hc] at hf
    refine R_aload_n 0 dX13_worth_4 rfl rfl ?_
    refine R_iload_n 2 dX13_worth_5 rfl rfl ?_
    obtain ⟨u1, eu1, hf⟩ := Option.bind_eq_some_iff.mp hf
    obtain ⟨q2, eq2, hf⟩ := Option.bind_eq_some_iff.mp hf
    refine R_callV (mj := mi_X13_numberOf) (ci := 11) (q := (RX13, TX13, 24)) (As := [.int x2]) (rest := []) (T_X13_numberOf eq2) eu1 rfl lV_X13_99 ⟨rfl, oky_X13_numberOf⟩ (by decide) (by decide) rfl C1_0 (Nat.le_of_ble_eq_true rfl) dX13_worth_6 ?_
    refine R_goto (tgt := 17) dX13_worth_9 (by decide) ?_
    obtain rfl := Option.some.inj hf
    exact R_iretI rfl dX13_worth_17
  · rw [if_neg hc] at hf
    refine R_aload_n 0 dX13_worth_12 rfl rfl ?_
    refine R_iload_n 2 dX13_worth_13 rfl rfl ?_
    obtain ⟨u3, eu3, hf⟩ := Option.bind_eq_some_iff.mp hf
    obtain ⟨q4, eq4, hf⟩ := Option.bind_eq_some_iff.mp hf
    refine R_callV (mj := mi_X13_sumOf) (ci := 11) (q := (RX13, TX13, 24)) (As := [.int x2]) (rest := []) (T_X13_sumOf eq4) eu3 rfl lV_X13_158 ⟨rfl, oky_X13_sumOf⟩ (by decide) (by decide) rfl C1_0 (Nat.le_of_ble_eq_true rfl) dX13_worth_14 ?_
    obtain rfl := Option.some.inj hf
    exact R_iretI rfl dX13_worth_17
theorem lg_X13_34 : LG "EdgeSumsModel" 34 11 16 := ⟨_, _, _, ck_11, by decide, Or.inl q2667⟩
theorem lV_X13_225 : GoodIn lw_all (wsV "EdgeSumsModel" 225 "EdgeSumsModel" yX13_worth (ws_ yX13_worth cX13_worth 3 (some FieldType.int))) := lw_V q2934 q2936 qs94 q158 q2937
theorem oky_X13_worth : okY yX13_worth 2 := ⟨by decide +kernel, by decide +kernel, by decide +kernel⟩
abbrev mi_X13_listClues : MI := (RX13, yX13_listClues, cX13_listClues, 8, (some FieldType.int), 4)
noncomputable def f_X13_listClues_B130 (r22 : Option Nat → Int32 → Int32 → Int32 → Int32 → Int32 → PH → Option (Int32 × PH)) (x0 : Option Nat) (x1 : Int32) (x2 : Int32) (x3 : Int32) (x4 : Int32) (x5 : Int32) (x6 : Int32) (x7 : Int32) (h : PH) : Option (Int32 × PH) := (gfr 11 16 x0 h).bind (fun t1 => (asi 0 t1 x7 x6 h).bind (fun h2 => r22 x0 x1 x2 (x3 + 1) x4 (x5 + 1) h2))
theorem f_X13_listClues_B130_ok {K : KT} {h0 : PH} {a0 : List Value} {q : (Int32 × PH)} {r22 : Option Nat → Int32 → Int32 → Int32 → Int32 → Int32 → PH → Option (Int32 × PH)} (hr22 : ∀ (y0 : Option Nat) (y1 : Int32) (y2 : Int32) (y3 : Int32) (y4 : Int32) (y5 : Int32) (h : PH), r22 y0 y1 y2 y3 y4 y5 h = some q → R K mi_X13_listClues h0 a0 (.inl (some (.int q.1))) q.2 22 [(0, va_rf y0), (1, .int y1), (2, .int y2), (3, .int y3), (4, .int y4), (5, .int y5)] [] h) (x0 : Option Nat) (x1 : Int32) (x2 : Int32) (x3 : Int32) (x4 : Int32) (x5 : Int32) (x6 : Int32) (x7 : Int32) (h : PH) (hf : f_X13_listClues_B130 r22 x0 x1 x2 x3 x4 x5 x6 x7 h = some q) : R K mi_X13_listClues h0 a0 (.inl (some (.int q.1))) q.2 130 [(0, va_rf x0), (1, .int x1), (2, .int x2), (3, .int x3), (4, .int x4), (5, .int x5), (6, .int x6), (7, .int x7)] [] h := by
  unfold f_X13_listClues_B130 at hf
  refine R_aload_n 0 dX13_listClues_130 rfl rfl ?_
  obtain ⟨t1, et1, hf⟩ := Option.bind_eq_some_iff.mp hf
  refine R_getr lg_X13_34 et1 dX13_listClues_131 ?_
  refine R_iload 7 dX13_listClues_134 rfl ?_
  refine R_iload 6 dX13_listClues_136 rfl ?_
  obtain ⟨h2, eh2, hf⟩ := Option.bind_eq_some_iff.mp hf
  refine R_iastore eh2 dX13_listClues_138 ?_
  refine R_iinc (L' := [(3, .int (x3 + 1)), (0, va_rf x0), (1, .int x1), (2, .int x2), (4, .int x4), (5, .int x5), (6, .int x6), (7, .int x7)]) 3 dX13_listClues_139 rfl (k_inc_1 _) (by decide) rfl ?_
  refine R_iinc (L' := [(5, .int (x5 + 1)), (3, .int (x3 + 1)), (0, va_rf x0), (1, .int x1), (2, .int x2), (4, .int x4), (6, .int x6), (7, .int x7)]) 5 dX13_listClues_142 rfl (k_inc_1 _) (by decide) rfl ?_
  refine R_goto (tgt := 22) dX13_listClues_145 (by decide) ?_
  refine R.sub [2, 3, 4, 1, 5, 0] (L' := [(0, va_rf x0), (1, .int x1), (2, .int x2), (3, .int (x3 + 1)), (4, .int x4), (5, .int (x5 + 1))]) rfl ?_
  exact hr22 x0 x1 x2 (x3 + 1) x4 (x5 + 1) h2 hf
noncomputable def f_X13_listClues_L74 (r22 : Option Nat → Int32 → Int32 → Int32 → Int32 → Int32 → PH → Option (Int32 × PH)) : Nat → Option Nat → Int32 → Int32 → Int32 → Int32 → Int32 → Int32 → Int32 → PH → Option (Int32 × PH)
  | 0, _, _, _, _, _, _, _, _, _ => none
  | k + 1, x0, x1, x2, x3, x4, x5, x6, x7, h => if x7 ≤ 0 then (f_X13_listClues_B130 r22 x0 x1 x2 x3 x4 x5 x6 x7 h) else (if x2 = 2 then ((gfr 11 16 x0 h).bind (fun t1 => (ald 0 t1 (x7 - 1) h).bind (fun t2 => (rcv 11 x0 h).bind (fun u3 => (f_X13_worth x0 x1 t2 h).bind (fun q4 => (rcv 11 x0 q4.2).bind (fun u5 => (f_X13_worth x0 x1 x6 q4.2).bind (fun q6 => if q6.1 ≤ q4.1 then (f_X13_listClues_B130 r22 x0 x1 x2 x3 x4 x5 x6 x7 q6.2) else ((gfr 11 16 x0 q6.2).bind (fun t7 => (gfr 11 16 x0 q6.2).bind (fun t8 => (ald 0 t8 (x7 - 1) q6.2).bind (fun t9 => (asi 0 t7 x7 t9 q6.2).bind (fun h10 => (f_X13_listClues_L74 r22 k) x0 x1 x2 x3 x4 x5 x6 (x7 + (-1)) h10)))))))))))) else (f_X13_listClues_B130 r22 x0 x1 x2 x3 x4 x5 x6 x7 h))
theorem f_X13_listClues_L74_ok {K : KT} {h0 : PH} {a0 : List Value} {q : (Int32 × PH)} {r22 : Option Nat → Int32 → Int32 → Int32 → Int32 → Int32 → PH → Option (Int32 × PH)} (hr22 : ∀ (y0 : Option Nat) (y1 : Int32) (y2 : Int32) (y3 : Int32) (y4 : Int32) (y5 : Int32) (h : PH), r22 y0 y1 y2 y3 y4 y5 h = some q → R K mi_X13_listClues h0 a0 (.inl (some (.int q.1))) q.2 22 [(0, va_rf y0), (1, .int y1), (2, .int y2), (3, .int y3), (4, .int y4), (5, .int y5)] [] h) : ∀ (k : Nat) (x0 : Option Nat) (x1 : Int32) (x2 : Int32) (x3 : Int32) (x4 : Int32) (x5 : Int32) (x6 : Int32) (x7 : Int32) (h : PH), f_X13_listClues_L74 r22 k x0 x1 x2 x3 x4 x5 x6 x7 h = some q → R K mi_X13_listClues h0 a0 (.inl (some (.int q.1))) q.2 74 [(0, va_rf x0), (1, .int x1), (2, .int x2), (3, .int x3), (4, .int x4), (5, .int x5), (6, .int x6), (7, .int x7)] [] h := by
  intro k
  induction k with
  | zero => intro _ _ _ _ _ _ _ _ _ hf; cases hf
  | succ k ih =>
    intro x0 x1 x2 x3 x4 x5 x6 x7 h hf
    unfold f_X13_listClues_L74 at hf
    refine R_iload 7 dX13_listClues_74 rfl ?_
    refine R_ifle (tgt := 130) dX13_listClues_76 (by decide) (fun hc => ?_) (fun hc => ?_)
    · rw [if_pos hc] at hf
      exact f_X13_listClues_B130_ok hr22 x0 x1 x2 x3 x4 x5 x6 x7 h hf
    · rw [if_neg hc] at hf
      refine R_iload_n 2 dX13_listClues_79 rfl rfl ?_
      refine R_iconst dX13_listClues_80 k_iconst_2 ?_
      refine R_icne (tgt := 130) dX13_listClues_81 (by decide) (fun hc => ?_) (fun hc => ?_)
      · rw [if_pos hc] at hf
        refine R_aload_n 0 dX13_listClues_84 rfl rfl ?_
        refine R_iload_n 1 dX13_listClues_85 rfl rfl ?_
        refine R_aload_n 0 dX13_listClues_86 rfl rfl ?_
        obtain ⟨t1, et1, hf⟩ := Option.bind_eq_some_iff.mp hf
        refine R_getr lg_X13_34 et1 dX13_listClues_87 ?_
        refine R_iload 7 dX13_listClues_90 rfl ?_
        refine R_iconst dX13_listClues_92 k_iconst_1 ?_
        refine R_isub dX13_listClues_93 ?_
        obtain ⟨t2, et2, hf⟩ := Option.bind_eq_some_iff.mp hf
        refine R_iaload et2 dX13_listClues_94 ?_
        obtain ⟨u3, eu3, hf⟩ := Option.bind_eq_some_iff.mp hf
        obtain ⟨q4, eq4, hf⟩ := Option.bind_eq_some_iff.mp hf
        refine R_callV (mj := mi_X13_worth) (ci := 11) (q := (RX13, TX13, 24)) (As := [.int x1, .int t2]) (rest := []) (T_X13_worth eq4) eu3 rfl lV_X13_225 ⟨rfl, oky_X13_worth⟩ (by decide) (by decide) rfl C1_0 (Nat.le_of_ble_eq_true rfl) dX13_listClues_95 ?_
        refine R_aload_n 0 dX13_listClues_98 rfl rfl ?_
        refine R_iload_n 1 dX13_listClues_99 rfl rfl ?_
        refine R_iload 6 dX13_listClues_100 rfl ?_
        obtain ⟨u5, eu5, hf⟩ := Option.bind_eq_some_iff.mp hf
        obtain ⟨q6, eq6, hf⟩ := Option.bind_eq_some_iff.mp hf
        refine R_callV (mj := mi_X13_worth) (ci := 11) (q := (RX13, TX13, 24)) (As := [.int x1, .int x6]) (rest := [.int q4.1]) (T_X13_worth eq6) eu5 rfl lV_X13_225 ⟨rfl, oky_X13_worth⟩ (by decide) (by decide) rfl (C1_i C1_0) (Nat.le_of_ble_eq_true rfl) dX13_listClues_102 ?_
        refine R_icge (tgt := 130) dX13_listClues_105 (by decide) (fun hc => ?_) (fun hc => ?_)
        · rw [if_pos hc] at hf
          exact f_X13_listClues_B130_ok hr22 x0 x1 x2 x3 x4 x5 x6 x7 q6.2 hf
        · rw [if_neg hc] at hf
          refine R_aload_n 0 dX13_listClues_108 rfl rfl ?_
          obtain ⟨t7, et7, hf⟩ := Option.bind_eq_some_iff.mp hf
          refine R_getr lg_X13_34 et7 dX13_listClues_109 ?_
          refine R_iload 7 dX13_listClues_112 rfl ?_
          refine R_aload_n 0 dX13_listClues_114 rfl rfl ?_
          obtain ⟨t8, et8, hf⟩ := Option.bind_eq_some_iff.mp hf
          refine R_getr lg_X13_34 et8 dX13_listClues_115 ?_
          refine R_iload 7 dX13_listClues_118 rfl ?_
          refine R_iconst dX13_listClues_120 k_iconst_1 ?_
          refine R_isub dX13_listClues_121 ?_
          obtain ⟨t9, et9, hf⟩ := Option.bind_eq_some_iff.mp hf
          refine R_iaload et9 dX13_listClues_122 ?_
          obtain ⟨h10, eh10, hf⟩ := Option.bind_eq_some_iff.mp hf
          refine R_iastore eh10 dX13_listClues_123 ?_
          refine R_iinc (L' := [(7, .int (x7 + (-1))), (0, va_rf x0), (1, .int x1), (2, .int x2), (3, .int x3), (4, .int x4), (5, .int x5), (6, .int x6)]) 7 dX13_listClues_124 rfl (k_inc_m1 _) (by decide) rfl ?_
          refine R_goto (tgt := 74) dX13_listClues_127 (by decide) ?_
          refine R.sub [1, 2, 3, 4, 5, 6, 7, 0] (L' := [(0, va_rf x0), (1, .int x1), (2, .int x2), (3, .int x3), (4, .int x4), (5, .int x5), (6, .int x6), (7, .int (x7 + (-1)))]) rfl ?_
          exact ih x0 x1 x2 x3 x4 x5 x6 (x7 + (-1)) h10 hf
      · rw [if_neg hc] at hf
        exact f_X13_listClues_B130_ok hr22 x0 x1 x2 x3 x4 x5 x6 x7 h hf
noncomputable def f_X13_listClues_B63 (r22 : Option Nat → Int32 → Int32 → Int32 → Int32 → Int32 → PH → Option (Int32 × PH)) (x0 : Option Nat) (x1 : Int32) (x2 : Int32) (x3 : Int32) (x4 : Int32) (x5 : Int32) (x6 : Int32) (s0 : Option Nat) (s1 : Int32) (h : PH) : Option (Int32 × PH) := (ald 0 s0 (s1 + x6) h).bind (fun t1 => if t1 = 1 then (f_X13_listClues_L74 r22 FU x0 x1 x2 x3 x4 x5 x6 x3 h) else (r22 x0 x1 x2 x3 x4 (x5 + 1) h))
theorem f_X13_listClues_B63_ok {K : KT} {h0 : PH} {a0 : List Value} {q : (Int32 × PH)} {r22 : Option Nat → Int32 → Int32 → Int32 → Int32 → Int32 → PH → Option (Int32 × PH)} (hr22 : ∀ (y0 : Option Nat) (y1 : Int32) (y2 : Int32) (y3 : Int32) (y4 : Int32) (y5 : Int32) (h : PH), r22 y0 y1 y2 y3 y4 y5 h = some q → R K mi_X13_listClues h0 a0 (.inl (some (.int q.1))) q.2 22 [(0, va_rf y0), (1, .int y1), (2, .int y2), (3, .int y3), (4, .int y4), (5, .int y5)] [] h) (x0 : Option Nat) (x1 : Int32) (x2 : Int32) (x3 : Int32) (x4 : Int32) (x5 : Int32) (x6 : Int32) (s0 : Option Nat) (s1 : Int32) (h : PH) (hf : f_X13_listClues_B63 r22 x0 x1 x2 x3 x4 x5 x6 s0 s1 h = some q) : R K mi_X13_listClues h0 a0 (.inl (some (.int q.1))) q.2 63 [(0, va_rf x0), (1, .int x1), (2, .int x2), (3, .int x3), (4, .int x4), (5, .int x5), (6, .int x6)] [.int s1, va_rf s0] h := by
  unfold f_X13_listClues_B63 at hf
  refine R_iload 6 dX13_listClues_63 rfl ?_
  refine R_iadd dX13_listClues_65 ?_
  obtain ⟨t1, et1, hf⟩ := Option.bind_eq_some_iff.mp hf
  refine R_iaload et1 dX13_listClues_66 ?_
  refine R_iconst dX13_listClues_67 k_iconst_1 ?_
  refine R_icne (tgt := 142) dX13_listClues_68 (by decide) (fun hc => ?_) (fun hc => ?_)
  · rw [if_pos hc] at hf
    refine R_iload_n 3 dX13_listClues_71 rfl rfl ?_
    refine R_istore (L' := [(7, .int x3), (0, va_rf x0), (1, .int x1), (2, .int x2), (3, .int x3), (4, .int x4), (5, .int x5), (6, .int x6)]) dX13_listClues_72 (by decide) rfl ?_
    refine R.sub [1, 2, 3, 4, 5, 6, 7, 0] (L' := [(0, va_rf x0), (1, .int x1), (2, .int x2), (3, .int x3), (4, .int x4), (5, .int x5), (6, .int x6), (7, .int x3)]) rfl ?_
    exact f_X13_listClues_L74_ok hr22 FU x0 x1 x2 x3 x4 x5 x6 x3 h hf
  · rw [if_neg hc] at hf
    refine R_iinc (L' := [(5, .int (x5 + 1)), (0, va_rf x0), (1, .int x1), (2, .int x2), (3, .int x3), (4, .int x4), (6, .int x6)]) 5 dX13_listClues_142 rfl (k_inc_1 _) (by decide) rfl ?_
    refine R_goto (tgt := 22) dX13_listClues_145 (by decide) ?_
    refine R.sub [1, 2, 3, 4, 5, 0] (L' := [(0, va_rf x0), (1, .int x1), (2, .int x2), (3, .int x3), (4, .int x4), (5, .int (x5 + 1))]) rfl ?_
    exact hr22 x0 x1 x2 x3 x4 (x5 + 1) h hf
noncomputable def f_X13_listClues_B46 (r22 : Option Nat → Int32 → Int32 → Int32 → Int32 → Int32 → PH → Option (Int32 × PH)) (x0 : Option Nat) (x1 : Int32) (x2 : Int32) (x3 : Int32) (x4 : Int32) (x5 : Int32) (s0 : Int32) (h : PH) : Option (Int32 × PH) := (gfr 11 1 x0 h).bind (fun t1 => if x1 = 0 then (f_X13_listClues_B63 r22 x0 x1 x2 x3 x4 x5 s0 t1 58 h) else (f_X13_listClues_B63 r22 x0 x1 x2 x3 x4 x5 s0 t1 83 h))
theorem f_X13_listClues_B46_ok {K : KT} {h0 : PH} {a0 : List Value} {q : (Int32 × PH)} {r22 : Option Nat → Int32 → Int32 → Int32 → Int32 → Int32 → PH → Option (Int32 × PH)} (hr22 : ∀ (y0 : Option Nat) (y1 : Int32) (y2 : Int32) (y3 : Int32) (y4 : Int32) (y5 : Int32) (h : PH), r22 y0 y1 y2 y3 y4 y5 h = some q → R K mi_X13_listClues h0 a0 (.inl (some (.int q.1))) q.2 22 [(0, va_rf y0), (1, .int y1), (2, .int y2), (3, .int y3), (4, .int y4), (5, .int y5)] [] h) (x0 : Option Nat) (x1 : Int32) (x2 : Int32) (x3 : Int32) (x4 : Int32) (x5 : Int32) (s0 : Int32) (h : PH) (hf : f_X13_listClues_B46 r22 x0 x1 x2 x3 x4 x5 s0 h = some q) : R K mi_X13_listClues h0 a0 (.inl (some (.int q.1))) q.2 46 [(0, va_rf x0), (1, .int x1), (2, .int x2), (3, .int x3), (4, .int x4), (5, .int x5)] [.int s0] h := by
  unfold f_X13_listClues_B46 at hf
  refine R_istore (L' := [(6, .int s0), (0, va_rf x0), (1, .int x1), (2, .int x2), (3, .int x3), (4, .int x4), (5, .int x5)]) dX13_listClues_46 (by decide) rfl ?_
  refine R_aload_n 1 dX13_listClues_48 rfl rfl ?_
  obtain ⟨t1, et1, hf⟩ := Option.bind_eq_some_iff.mp hf
  refine R_getr lg_X13_7 et1 dX13_listClues_49 ?_
  refine R_iload_n 2 dX13_listClues_52 rfl rfl ?_
  refine R_ifne (tgt := 61) dX13_listClues_53 (by decide) (fun hc => ?_) (fun hc => ?_)
  · rw [if_pos hc] at hf
    refine R_bipush dX13_listClues_56 k_bipush_58 ?_
    refine R_goto (tgt := 63) dX13_listClues_58 (by decide) ?_
    refine R.sub [1, 2, 3, 4, 5, 6, 0] (L' := [(0, va_rf x0), (1, .int x1), (2, .int x2), (3, .int x3), (4, .int x4), (5, .int x5), (6, .int s0)]) rfl ?_
    exact f_X13_listClues_B63_ok hr22 x0 x1 x2 x3 x4 x5 s0 t1 58 h hf
  · rw [if_neg hc] at hf
    refine R_bipush dX13_listClues_61 k_bipush_83 ?_
    refine R.sub [1, 2, 3, 4, 5, 6, 0] (L' := [(0, va_rf x0), (1, .int x1), (2, .int x2), (3, .int x3), (4, .int x4), (5, .int x5), (6, .int s0)]) rfl ?_
    exact f_X13_listClues_B63_ok hr22 x0 x1 x2 x3 x4 x5 s0 t1 83 h hf
noncomputable def f_X13_listClues_L22  : Nat → Option Nat → Int32 → Int32 → Int32 → Int32 → Int32 → PH → Option (Int32 × PH)
  | 0, _, _, _, _, _, _, _ => none
  | k + 1, x0, x1, x2, x3, x4, x5, h => if x4 ≤ x5 then (some (x3, h)) else (if x2 = 1 then (f_X13_listClues_B46 (f_X13_listClues_L22 k) x0 x1 x2 x3 x4 x5 ((x4 - 1) - x5) h) else (f_X13_listClues_B46 (f_X13_listClues_L22 k) x0 x1 x2 x3 x4 x5 x5 h))
theorem f_X13_listClues_L22_ok {K : KT} {h0 : PH} {a0 : List Value} {q : (Int32 × PH)}  : ∀ (k : Nat) (x0 : Option Nat) (x1 : Int32) (x2 : Int32) (x3 : Int32) (x4 : Int32) (x5 : Int32) (h : PH), f_X13_listClues_L22  k x0 x1 x2 x3 x4 x5 h = some q → R K mi_X13_listClues h0 a0 (.inl (some (.int q.1))) q.2 22 [(0, va_rf x0), (1, .int x1), (2, .int x2), (3, .int x3), (4, .int x4), (5, .int x5)] [] h := by
  intro k
  induction k with
  | zero => intro _ _ _ _ _ _ _ hf; cases hf
  | succ k ih =>
    intro x0 x1 x2 x3 x4 x5 h hf
    unfold f_X13_listClues_L22 at hf
    refine R_iload 5 dX13_listClues_22 rfl ?_
    refine R_iload 4 dX13_listClues_24 rfl ?_
    refine R_icge (tgt := 148) dX13_listClues_26 (by decide) (fun hc => ?_) (fun hc => ?_)
    · rw [if_pos hc] at hf
      refine R_iload_n 3 dX13_listClues_148 rfl rfl ?_
      obtain rfl := Option.some.inj hf
      exact R_iretI rfl dX13_listClues_149
    · rw [if_neg hc] at hf
      refine R_iload_n 2 dX13_listClues_29 rfl rfl ?_
      refine R_iconst dX13_listClues_30 k_iconst_1 ?_
      refine R_icne (tgt := 44) dX13_listClues_31 (by decide) (fun hc => ?_) (fun hc => ?_)
      · rw [if_pos hc] at hf
        refine R_iload 4 dX13_listClues_34 rfl ?_
        refine R_iconst dX13_listClues_36 k_iconst_1 ?_
        refine R_isub dX13_listClues_37 ?_
        refine R_iload 5 dX13_listClues_38 rfl ?_
        refine R_isub dX13_listClues_40 ?_
        refine R_goto (tgt := 46) dX13_listClues_41 (by decide) ?_
        exact f_X13_listClues_B46_ok ih x0 x1 x2 x3 x4 x5 ((x4 - 1) - x5) h hf
      · rw [if_neg hc] at hf
        refine R_iload 5 dX13_listClues_44 rfl ?_
        exact f_X13_listClues_B46_ok ih x0 x1 x2 x3 x4 x5 x5 h hf
noncomputable def f_X13_listClues (x0 : Option Nat) (x1 : Int32) (x2 : Int32) (h : PH) : Option (Int32 × PH) := if x1 = 0 then ((rcv 11 x0 h).bind (fun u1 => (f_X13_cells x0 h).bind (fun q2 => f_X13_listClues_L22  FU x0 x1 x2 0 q2.1 0 q2.2))) else ((rcv 11 x0 h).bind (fun u3 => (f_X13_lines x0 h).bind (fun q4 => f_X13_listClues_L22  FU x0 x1 x2 0 q4.1 0 q4.2)))
theorem T_X13_listClues {K : KT} {x0 : Option Nat} {x1 : Int32} {x2 : Int32} {h : PH} {q : (Int32 × PH)} (hf : f_X13_listClues x0 x1 x2 h = some q) : T K mi_X13_listClues [va_rf x0, .int x1, .int x2] h (.inl (some (.int q.1))) q.2 := by
  unfold f_X13_listClues at hf
  refine T_of (by decide +kernel) rfl (C1_r (C1_i (C1_i C1_0))) (Nat.le_of_ble_eq_true rfl) ?_
  show R K mi_X13_listClues h [va_rf x0, .int x1, .int x2] _ _ 0 [(0, va_rf x0), (1, .int x1), (2, .int x2)] [] h
  refine R_iconst dX13_listClues_0 k_iconst_0 ?_
  refine R_istore_n (L' := [(3, .int 0), (0, va_rf x0), (1, .int x1), (2, .int x2)]) dX13_listClues_1 rfl (by decide) rfl ?_
  refine R_iload_n 2 dX13_listClues_2 rfl rfl ?_
  refine R_ifne (tgt := 13) dX13_listClues_3 (by decide) (fun hc => ?_) (fun hc => ?_)
  · rw [if_pos hc] at hf
    refine R_aload_n 1 dX13_listClues_6 rfl rfl ?_
    obtain ⟨u1, eu1, hf⟩ := Option.bind_eq_some_iff.mp hf
    obtain ⟨q2, eq2, hf⟩ := Option.bind_eq_some_iff.mp hf
    refine R_callV (mj := mi_X13_cells) (ci := 11) (q := (RX13, TX13, 24)) (As := []) (rest := []) (T_X13_cells eq2) eu1 rfl lV_X13_61 ⟨rfl, oky_X13_cells⟩ (by decide) (by decide) rfl C1_0 (Nat.le_of_ble_eq_true rfl) dX13_listClues_7 ?_
    refine R_goto (tgt := 17) dX13_listClues_10 (by decide) ?_
    refine R_istore (L' := [(4, .int q2.1), (3, .int 0), (0, va_rf x0), (1, .int x1), (2, .int x2)]) dX13_listClues_17 (by decide) rfl ?_
    refine R_iconst dX13_listClues_19 k_iconst_0 ?_
    refine R_istore (L' := [(5, .int 0), (4, .int q2.1), (3, .int 0), (0, va_rf x0), (1, .int x1), (2, .int x2)]) dX13_listClues_20 (by decide) rfl ?_
    refine R.sub [3, 4, 5, 2, 1, 0] (L' := [(0, va_rf x0), (1, .int x1), (2, .int x2), (3, .int 0), (4, .int q2.1), (5, .int 0)]) rfl ?_
    exact f_X13_listClues_L22_ok  FU x0 x1 x2 0 q2.1 0 q2.2 hf
  · rw [if_neg hc] at hf
    refine R_aload_n 1 dX13_listClues_13 rfl rfl ?_
    obtain ⟨u3, eu3, hf⟩ := Option.bind_eq_some_iff.mp hf
    obtain ⟨q4, eq4, hf⟩ := Option.bind_eq_some_iff.mp hf
    refine R_callV (mj := mi_X13_lines) (ci := 11) (q := (RX13, TX13, 24)) (As := []) (rest := []) (T_X13_lines eq4) eu3 rfl lV_X13_69 ⟨rfl, oky_X13_lines⟩ (by decide) (by decide) rfl C1_0 (Nat.le_of_ble_eq_true rfl) dX13_listClues_14 ?_
    refine R_istore (L' := [(4, .int q4.1), (3, .int 0), (0, va_rf x0), (1, .int x1), (2, .int x2)]) dX13_listClues_17 (by decide) rfl ?_
    refine R_iconst dX13_listClues_19 k_iconst_0 ?_
    refine R_istore (L' := [(5, .int 0), (4, .int q4.1), (3, .int 0), (0, va_rf x0), (1, .int x1), (2, .int x2)]) dX13_listClues_20 (by decide) rfl ?_
    refine R.sub [3, 4, 5, 2, 1, 0] (L' := [(0, va_rf x0), (1, .int x1), (2, .int x2), (3, .int 0), (4, .int q4.1), (5, .int 0)]) rfl ?_
    exact f_X13_listClues_L22_ok  FU x0 x1 x2 0 q4.1 0 q4.2 hf
theorem lV_X13_228 : GoodIn lw_all (wsV "EdgeSumsModel" 228 "EdgeSumsModel" yX13_isSolvable (ws_ yX13_isSolvable cX13_isSolvable 1 (some FieldType.boolean))) := lw_V q2854 q2856 qs77 q158 q2857
theorem oky_X13_isSolvable : okY yX13_isSolvable 0 := ⟨by decide +kernel, by decide +kernel, by decide +kernel⟩
theorem lV_X13_231 : GoodIn lw_all (wsV "EdgeSumsModel" 231 "EdgeSumsModel" yX13_listClues (ws_ yX13_listClues cX13_listClues 8 (some FieldType.int))) := lw_V q2930 q2932 qs93 q158 q2933
theorem oky_X13_listClues : okY yX13_listClues 2 := ⟨by decide +kernel, by decide +kernel, by decide +kernel⟩
abbrev mi_X13_reduce : MI := (RX13, yX13_reduce, cX13_reduce, 7, (some FieldType.int), 10)
noncomputable def f_X13_reduce_B105 (r52 : Option Nat → Int32 → Int32 → Int32 → Int32 → PH → Option (Int32 × PH)) (x0 : Option Nat) (x1 : Int32) (x3 : Int32) (x4 : Int32) (x5 : Int32) (x6 : Int32) (s0 : Option Nat) (s1 : Int32) (s2 : Int32) (h : PH) : Option (Int32 × PH) := (asi 0 s0 s1 s2 h).bind (fun h1 => (gfr 11 1 x0 h1).bind (fun t2 => (ald 0 t2 x6 h1).bind (fun t3 => r52 x0 x1 x3 (x4 + (1 - t3)) (x5 + 1) h1)))
theorem f_X13_reduce_B105_ok {K : KT} {h0 : PH} {a0 : List Value} {q : (Int32 × PH)} {r52 : Option Nat → Int32 → Int32 → Int32 → Int32 → PH → Option (Int32 × PH)} (hr52 : ∀ (y0 : Option Nat) (y1 : Int32) (y3 : Int32) (y4 : Int32) (y5 : Int32) (h : PH), r52 y0 y1 y3 y4 y5 h = some q → R K mi_X13_reduce h0 a0 (.inl (some (.int q.1))) q.2 52 [(0, va_rf y0), (1, .int y1), (3, .int y3), (4, .int y4), (5, .int y5)] [] h) (x0 : Option Nat) (x1 : Int32) (x3 : Int32) (x4 : Int32) (x5 : Int32) (x6 : Int32) (s0 : Option Nat) (s1 : Int32) (s2 : Int32) (h : PH) (hf : f_X13_reduce_B105 r52 x0 x1 x3 x4 x5 x6 s0 s1 s2 h = some q) : R K mi_X13_reduce h0 a0 (.inl (some (.int q.1))) q.2 105 [(0, va_rf x0), (1, .int x1), (3, .int x3), (4, .int x4), (5, .int x5), (6, .int x6)] [.int s2, .int s1, va_rf s0] h := by
  unfold f_X13_reduce_B105 at hf
  obtain ⟨h1, eh1, hf⟩ := Option.bind_eq_some_iff.mp hf
  refine R_iastore eh1 dX13_reduce_105 ?_
  refine R_iload 3 dX13_reduce_106 rfl ?_
  refine R_iconst dX13_reduce_108 k_iconst_1 ?_
  refine R_aload_n 0 dX13_reduce_109 rfl rfl ?_
  obtain ⟨t2, et2, hf⟩ := Option.bind_eq_some_iff.mp hf
  refine R_getr lg_X13_7 et2 dX13_reduce_110 ?_
  refine R_iload 5 dX13_reduce_113 rfl ?_
  obtain ⟨t3, et3, hf⟩ := Option.bind_eq_some_iff.mp hf
  refine R_iaload et3 dX13_reduce_115 ?_
  refine R_isub dX13_reduce_116 ?_
  refine R_iadd dX13_reduce_117 ?_
  refine R_istore (L' := [(4, .int (x4 + (1 - t3))), (0, va_rf x0), (1, .int x1), (3, .int x3), (5, .int x5), (6, .int x6)]) dX13_reduce_118 (by decide) rfl ?_
  refine R_iinc (L' := [(5, .int (x5 + 1)), (4, .int (x4 + (1 - t3))), (0, va_rf x0), (1, .int x1), (3, .int x3), (6, .int x6)]) 4 dX13_reduce_120 rfl (k_inc_1 _) (by decide) rfl ?_
  refine R_goto (tgt := 52) dX13_reduce_123 (by decide) ?_
  refine R.sub [2, 3, 4, 1, 0] (L' := [(0, va_rf x0), (1, .int x1), (3, .int x3), (4, .int (x4 + (1 - t3))), (5, .int (x5 + 1))]) rfl ?_
  exact hr52 x0 x1 x3 (x4 + (1 - t3)) (x5 + 1) h1 hf
noncomputable def f_X13_reduce_B69 (r52 : Option Nat → Int32 → Int32 → Int32 → Int32 → PH → Option (Int32 × PH)) (x0 : Option Nat) (x1 : Int32) (x3 : Int32) (x4 : Int32) (x5 : Int32) (s0 : Int32) (h : PH) : Option (Int32 × PH) := (gfr 11 16 x0 h).bind (fun t1 => (ald 0 t1 x5 h).bind (fun t2 => (gfr 11 1 x0 h).bind (fun t3 => (asi 0 t3 (s0 + t2) 0 h).bind (fun h4 => (gfr 11 1 x0 h4).bind (fun t5 => (rcv 11 x0 h4).bind (fun u6 => (f_X13_isSolvable x0 h4).bind (fun q7 => if q7.1 = 0 then (f_X13_reduce_B105 r52 x0 x1 x3 x4 x5 (s0 + t2) t5 (s0 + t2) 1 q7.2) else (f_X13_reduce_B105 r52 x0 x1 x3 x4 x5 (s0 + t2) t5 (s0 + t2) 0 q7.2))))))))
theorem f_X13_reduce_B69_ok {K : KT} {h0 : PH} {a0 : List Value} {q : (Int32 × PH)} {r52 : Option Nat → Int32 → Int32 → Int32 → Int32 → PH → Option (Int32 × PH)} (hr52 : ∀ (y0 : Option Nat) (y1 : Int32) (y3 : Int32) (y4 : Int32) (y5 : Int32) (h : PH), r52 y0 y1 y3 y4 y5 h = some q → R K mi_X13_reduce h0 a0 (.inl (some (.int q.1))) q.2 52 [(0, va_rf y0), (1, .int y1), (3, .int y3), (4, .int y4), (5, .int y5)] [] h) (x0 : Option Nat) (x1 : Int32) (x3 : Int32) (x4 : Int32) (x5 : Int32) (s0 : Int32) (h : PH) (hf : f_X13_reduce_B69 r52 x0 x1 x3 x4 x5 s0 h = some q) : R K mi_X13_reduce h0 a0 (.inl (some (.int q.1))) q.2 69 [(0, va_rf x0), (1, .int x1), (3, .int x3), (4, .int x4), (5, .int x5)] [.int s0] h := by
  unfold f_X13_reduce_B69 at hf
  refine R_aload_n 0 dX13_reduce_69 rfl rfl ?_
  obtain ⟨t1, et1, hf⟩ := Option.bind_eq_some_iff.mp hf
  refine R_getr lg_X13_34 et1 dX13_reduce_70 ?_
  refine R_iload 4 dX13_reduce_73 rfl ?_
  obtain ⟨t2, et2, hf⟩ := Option.bind_eq_some_iff.mp hf
  refine R_iaload et2 dX13_reduce_75 ?_
  refine R_iadd dX13_reduce_76 ?_
  refine R_istore (L' := [(6, .int (s0 + t2)), (0, va_rf x0), (1, .int x1), (3, .int x3), (4, .int x4), (5, .int x5)]) dX13_reduce_77 (by decide) rfl ?_
  refine R_aload_n 1 dX13_reduce_79 rfl rfl ?_
  obtain ⟨t3, et3, hf⟩ := Option.bind_eq_some_iff.mp hf
  refine R_getr lg_X13_7 et3 dX13_reduce_80 ?_
  refine R_iload 0 dX13_reduce_83 rfl ?_
  refine R_iconst dX13_reduce_85 k_iconst_0 ?_
  obtain ⟨h4, eh4, hf⟩ := Option.bind_eq_some_iff.mp hf
  refine R_iastore eh4 dX13_reduce_86 ?_
  refine R_aload_n 1 dX13_reduce_87 rfl rfl ?_
  obtain ⟨t5, et5, hf⟩ := Option.bind_eq_some_iff.mp hf
  refine R_getr lg_X13_7 et5 dX13_reduce_88 ?_
  refine R_iload 0 dX13_reduce_91 rfl ?_
  refine R_aload_n 1 dX13_reduce_93 rfl rfl ?_
  obtain ⟨u6, eu6, hf⟩ := Option.bind_eq_some_iff.mp hf
  obtain ⟨q7, eq7, hf⟩ := Option.bind_eq_some_iff.mp hf
  refine R_callV (mj := mi_X13_isSolvable) (ci := 11) (q := (RX13, TX13, 24)) (As := []) (rest := [.int (s0 + t2), va_rf t5]) (T_X13_isSolvable eq7) eu6 rfl lV_X13_228 ⟨rfl, oky_X13_isSolvable⟩ (by decide) (by decide) rfl (C1_i (C1_r C1_0)) (Nat.le_of_ble_eq_true rfl) dX13_reduce_94 ?_
  refine R_ifeq (tgt := 104) dX13_reduce_97 (by decide) (fun hc => ?_) (fun hc => ?_)
  · rw [if_pos hc] at hf
    refine R_iconst dX13_reduce_104 k_iconst_1 ?_
    refine R.sub [1, 2, 3, 4, 5, 0] (L' := [(0, va_rf x0), (1, .int x1), (3, .int x3), (4, .int x4), (5, .int x5), (6, .int (s0 + t2))]) rfl ?_
    exact f_X13_reduce_B105_ok hr52 x0 x1 x3 x4 x5 (s0 + t2) t5 (s0 + t2) 1 q7.2 hf
  · rw [if_neg hc] at hf
    refine R_iconst dX13_reduce_100 k_iconst_0 ?_
    refine R_goto (tgt := 105) dX13_reduce_101 (by decide) ?_
    refine R.sub [1, 2, 3, 4, 5, 0] (L' := [(0, va_rf x0), (1, .int x1), (3, .int x3), (4, .int x4), (5, .int x5), (6, .int (s0 + t2))]) rfl ?_
    exact f_X13_reduce_B105_ok hr52 x0 x1 x3 x4 x5 (s0 + t2) t5 (s0 + t2) 0 q7.2 hf
noncomputable def f_X13_reduce_L52  : Nat → Option Nat → Int32 → Int32 → Int32 → Int32 → PH → Option (Int32 × PH)
  | 0, _, _, _, _, _, _ => none
  | k + 1, x0, x1, x3, x4, x5, h => if x3 ≤ x5 then ((rcv 11 x0 h).bind (fun u1 => (f_X13_reset x0 h).bind (fun h2 => some (x4, h2)))) else (if x1 = 0 then (f_X13_reduce_B69 (f_X13_reduce_L52 k) x0 x1 x3 x4 x5 58 h) else (f_X13_reduce_B69 (f_X13_reduce_L52 k) x0 x1 x3 x4 x5 83 h))
theorem f_X13_reduce_L52_ok {K : KT} {h0 : PH} {a0 : List Value} {q : (Int32 × PH)}  : ∀ (k : Nat) (x0 : Option Nat) (x1 : Int32) (x3 : Int32) (x4 : Int32) (x5 : Int32) (h : PH), f_X13_reduce_L52  k x0 x1 x3 x4 x5 h = some q → R K mi_X13_reduce h0 a0 (.inl (some (.int q.1))) q.2 52 [(0, va_rf x0), (1, .int x1), (3, .int x3), (4, .int x4), (5, .int x5)] [] h := by
  intro k
  induction k with
  | zero => intro _ _ _ _ _ _ hf; cases hf
  | succ k ih =>
    intro x0 x1 x3 x4 x5 h hf
    unfold f_X13_reduce_L52 at hf
    refine R_iload 4 dX13_reduce_52 rfl ?_
    refine R_iload_n 2 dX13_reduce_54 rfl rfl ?_
    refine R_icge (tgt := 126) dX13_reduce_55 (by decide) (fun hc => ?_) (fun hc => ?_)
    · rw [if_pos hc] at hf
      refine R_aload_n 0 dX13_reduce_126 rfl rfl ?_
      obtain ⟨u1, eu1, hf⟩ := Option.bind_eq_some_iff.mp hf
      obtain ⟨h2, eh2, hf⟩ := Option.bind_eq_some_iff.mp hf
      refine R_callV (mj := mi_X13_reset) (ci := 11) (q := (RX13, TX13, 24)) (As := []) (rest := []) (T_X13_reset eh2) eu1 rfl lV_X13_51 ⟨rfl, oky_X13_reset⟩ (by decide) (by decide) rfl C1_0 (Nat.le_of_ble_eq_true rfl) dX13_reduce_127 ?_
      refine R_iload 3 dX13_reduce_130 rfl ?_
      obtain rfl := Option.some.inj hf
      exact R_iretI rfl dX13_reduce_132
    · rw [if_neg hc] at hf
      refine R_iload_n 1 dX13_reduce_58 rfl rfl ?_
      refine R_ifne (tgt := 67) dX13_reduce_59 (by decide) (fun hc => ?_) (fun hc => ?_)
      · rw [if_pos hc] at hf
        refine R_bipush dX13_reduce_62 k_bipush_58 ?_
        refine R_goto (tgt := 69) dX13_reduce_64 (by decide) ?_
        exact f_X13_reduce_B69_ok ih x0 x1 x3 x4 x5 58 h hf
      · rw [if_neg hc] at hf
        refine R_bipush dX13_reduce_67 k_bipush_83 ?_
        exact f_X13_reduce_B69_ok ih x0 x1 x3 x4 x5 83 h hf
noncomputable def f_X13_reduce (x0 : Option Nat) (x1 : Int32) (x2 : Int32) (h : PH) : Option (Int32 × PH) := (pf 11 0 x0 (.int 0) h).bind (fun h1 => (f_X13_in x1 0 1 h1).bind (fun q2 => if q2.1 = 0 then (some ((-1), q2.2)) else ((f_X13_in x2 0 2 q2.2).bind (fun q3 => if q3.1 = 0 then (some ((-1), q3.2)) else ((rcv 11 x0 q3.2).bind (fun u4 => (f_X13_isSolvable x0 q3.2).bind (fun q5 => if q5.1 = 0 then (some ((-2), q5.2)) else ((rcv 11 x0 q5.2).bind (fun u6 => (f_X13_act x0 q5.2).bind (fun h7 => (rcv 11 x0 h7).bind (fun u8 => (f_X13_listClues x0 x1 x2 h7).bind (fun q9 => f_X13_reduce_L52  FU x0 x1 q9.1 0 0 q9.2))))))))))))
theorem T_X13_reduce {K : KT} {x0 : Option Nat} {x1 : Int32} {x2 : Int32} {h : PH} {q : (Int32 × PH)} (hf : f_X13_reduce x0 x1 x2 h = some q) : T K mi_X13_reduce [va_rf x0, .int x1, .int x2] h (.inl (some (.int q.1))) q.2 := by
  unfold f_X13_reduce at hf
  refine T_of (by decide +kernel) rfl (C1_r (C1_i (C1_i C1_0))) (Nat.le_of_ble_eq_true rfl) ?_
  show R K mi_X13_reduce h [va_rf x0, .int x1, .int x2] _ _ 0 [(0, va_rf x0), (1, .int x1), (2, .int x2)] [] h
  refine R_aload_n 0 dX13_reduce_0 rfl rfl ?_
  refine R_iconst dX13_reduce_1 k_iconst_0 ?_
  obtain ⟨h1, eh1, hf⟩ := Option.bind_eq_some_iff.mp hf
  refine R_putI (fp_X13_43 rfl) eh1 dX13_reduce_2 ?_
  refine R_iload_n 1 dX13_reduce_5 rfl rfl ?_
  refine R_iconst dX13_reduce_6 k_iconst_0 ?_
  refine R_iconst dX13_reduce_7 k_iconst_1 ?_
  obtain ⟨q2, eq2, hf⟩ := Option.bind_eq_some_iff.mp hf
  refine R_callS (mj := mi_X13_in) (As := [.int x1, .int 0, .int 1]) (rest := []) (T_X13_in eq2) lS_X13_65 oky_X13_in (by decide) (by decide) rfl C1_0 (Nat.le_of_ble_eq_true rfl) dX13_reduce_8 ?_
  refine R_ifeq (tgt := 23) dX13_reduce_11 (by decide) (fun hc => ?_) (fun hc => ?_)
  · rw [if_pos hc] at hf
    refine R_iconst dX13_reduce_23 k_iconst_m1 ?_
    obtain rfl := Option.some.inj hf
    exact R_iretI rfl dX13_reduce_24
  · rw [if_neg hc] at hf
    refine R_iload_n 2 dX13_reduce_14 rfl rfl ?_
    refine R_iconst dX13_reduce_15 k_iconst_0 ?_
    refine R_iconst dX13_reduce_16 k_iconst_2 ?_
    obtain ⟨q3, eq3, hf⟩ := Option.bind_eq_some_iff.mp hf
    refine R_callS (mj := mi_X13_in) (As := [.int x2, .int 0, .int 2]) (rest := []) (T_X13_in eq3) lS_X13_65 oky_X13_in (by decide) (by decide) rfl C1_0 (Nat.le_of_ble_eq_true rfl) dX13_reduce_17 ?_
    refine R_ifne (tgt := 25) dX13_reduce_20 (by decide) (fun hc => ?_) (fun hc => ?_)
    · rw [if_pos hc] at hf
      refine R_iconst dX13_reduce_23 k_iconst_m1 ?_
      obtain rfl := Option.some.inj hf
      exact R_iretI rfl dX13_reduce_24
    · rw [if_neg hc] at hf
      refine R_aload_n 0 dX13_reduce_25 rfl rfl ?_
      obtain ⟨u4, eu4, hf⟩ := Option.bind_eq_some_iff.mp hf
      obtain ⟨q5, eq5, hf⟩ := Option.bind_eq_some_iff.mp hf
      refine R_callV (mj := mi_X13_isSolvable) (ci := 11) (q := (RX13, TX13, 24)) (As := []) (rest := []) (T_X13_isSolvable eq5) eu4 rfl lV_X13_228 ⟨rfl, oky_X13_isSolvable⟩ (by decide) (by decide) rfl C1_0 (Nat.le_of_ble_eq_true rfl) dX13_reduce_26 ?_
      refine R_ifne (tgt := 35) dX13_reduce_29 (by decide) (fun hc => ?_) (fun hc => ?_)
      · rw [if_pos hc] at hf
        refine R_bipush dX13_reduce_32 k_bipush_m2 ?_
        obtain rfl := Option.some.inj hf
        exact R_iretI rfl dX13_reduce_34
      · rw [if_neg hc] at hf
        refine R_aload_n 0 dX13_reduce_35 rfl rfl ?_
        obtain ⟨u6, eu6, hf⟩ := Option.bind_eq_some_iff.mp hf
        obtain ⟨h7, eh7, hf⟩ := Option.bind_eq_some_iff.mp hf
        refine R_callV (mj := mi_X13_act) (ci := 11) (q := (RX13, TX13, 24)) (As := []) (rest := []) (T_X13_act eh7) eu6 rfl lV_X13_102 ⟨rfl, oky_X13_act⟩ (by decide) (by decide) rfl C1_0 (Nat.le_of_ble_eq_true rfl) dX13_reduce_36 ?_
        refine R_aload_n 0 dX13_reduce_39 rfl rfl ?_
        refine R_iload_n 1 dX13_reduce_40 rfl rfl ?_
        refine R_iload_n 2 dX13_reduce_41 rfl rfl ?_
        obtain ⟨u8, eu8, hf⟩ := Option.bind_eq_some_iff.mp hf
        obtain ⟨q9, eq9, hf⟩ := Option.bind_eq_some_iff.mp hf
        refine R_callV (mj := mi_X13_listClues) (ci := 11) (q := (RX13, TX13, 24)) (As := [.int x1, .int x2]) (rest := []) (T_X13_listClues eq9) eu8 rfl lV_X13_231 ⟨rfl, oky_X13_listClues⟩ (by decide) (by decide) rfl C1_0 (Nat.le_of_ble_eq_true rfl) dX13_reduce_42 ?_
        refine R_istore_n (L' := [(3, .int q9.1), (0, va_rf x0), (1, .int x1), (2, .int x2)]) dX13_reduce_45 rfl (by decide) rfl ?_
        refine R_iconst dX13_reduce_46 k_iconst_0 ?_
        refine R_istore (L' := [(4, .int 0), (3, .int q9.1), (0, va_rf x0), (1, .int x1), (2, .int x2)]) dX13_reduce_47 (by decide) rfl ?_
        refine R_iconst dX13_reduce_49 k_iconst_0 ?_
        refine R_istore (L' := [(5, .int 0), (4, .int 0), (3, .int q9.1), (0, va_rf x0), (1, .int x1), (2, .int x2)]) dX13_reduce_50 (by decide) rfl ?_
        refine R.sub [3, 4, 2, 1, 0] (L' := [(0, va_rf x0), (1, .int x1), (3, .int q9.1), (4, .int 0), (5, .int 0)]) rfl ?_
        exact f_X13_reduce_L52_ok  FU x0 x1 q9.1 0 0 q9.2 hf
abbrev mi_X13_support : MI := (RX13, yX13_support, cX13_support, 4, (some FieldType.int), 10)
noncomputable def f_X13_support_L39 (r28 : Option Nat → Int32 → PH → Option (Int32 × PH)) : Nat → Option Nat → Int32 → Int32 → Int32 → PH → Option (Int32 × PH)
  | 0, _, _, _, _, _ => none
  | k + 1, x0, x1, x2, x3, h => (rcv 11 x0 h).bind (fun u1 => (f_X13_cells x0 h).bind (fun q2 => if q2.1 ≤ x3 then ((gfr 11 1 x0 q2.2).bind (fun t3 => (asi 0 t3 (58 + x2) 1 q2.2).bind (fun h4 => r28 x0 (x1 + 1) h4))) else ((gfr 11 7 x0 q2.2).bind (fun t5 => (ald 0 t5 x3 q2.2).bind (fun t6 => (f_X13_ones t6 q2.2).bind (fun q7 => (gfr 11 7 x0 q7.2).bind (fun t8 => (ald 0 t8 x2 q7.2).bind (fun t9 => (f_X13_ones t9 q7.2).bind (fun q10 => if q7.1 ≤ q10.1 then ((f_X13_support_L39 r28 k) x0 x1 x2 (x3 + 1) q10.2) else ((f_X13_support_L39 r28 k) x0 x1 x3 (x3 + 1) q10.2))))))))))
theorem f_X13_support_L39_ok {K : KT} {h0 : PH} {a0 : List Value} {q : (Int32 × PH)} {r28 : Option Nat → Int32 → PH → Option (Int32 × PH)} (hr28 : ∀ (y0 : Option Nat) (y1 : Int32) (h : PH), r28 y0 y1 h = some q → R K mi_X13_support h0 a0 (.inl (some (.int q.1))) q.2 28 [(0, va_rf y0), (1, .int y1)] [] h) : ∀ (k : Nat) (x0 : Option Nat) (x1 : Int32) (x2 : Int32) (x3 : Int32) (h : PH), f_X13_support_L39 r28 k x0 x1 x2 x3 h = some q → R K mi_X13_support h0 a0 (.inl (some (.int q.1))) q.2 39 [(0, va_rf x0), (1, .int x1), (2, .int x2), (3, .int x3)] [] h := by
  intro k
  induction k with
  | zero => intro _ _ _ _ _ hf; cases hf
  | succ k ih =>
    intro x0 x1 x2 x3 h hf
    unfold f_X13_support_L39 at hf
    refine R_iload_n 3 dX13_support_39 rfl rfl ?_
    refine R_aload_n 0 dX13_support_40 rfl rfl ?_
    obtain ⟨u1, eu1, hf⟩ := Option.bind_eq_some_iff.mp hf
    obtain ⟨q2, eq2, hf⟩ := Option.bind_eq_some_iff.mp hf
    refine R_callV (mj := mi_X13_cells) (ci := 11) (q := (RX13, TX13, 24)) (As := []) (rest := [.int x3]) (T_X13_cells eq2) eu1 rfl lV_X13_61 ⟨rfl, oky_X13_cells⟩ (by decide) (by decide) rfl (C1_i C1_0) (Nat.le_of_ble_eq_true rfl) dX13_support_41 ?_
    refine R_icge (tgt := 80) dX13_support_44 (by decide) (fun hc => ?_) (fun hc => ?_)
    · rw [if_pos hc] at hf
      refine R_aload_n 0 dX13_support_80 rfl rfl ?_
      obtain ⟨t3, et3, hf⟩ := Option.bind_eq_some_iff.mp hf
      refine R_getr lg_X13_7 et3 dX13_support_81 ?_
      refine R_bipush dX13_support_84 k_bipush_58 ?_
      refine R_iload_n 2 dX13_support_86 rfl rfl ?_
      refine R_iadd dX13_support_87 ?_
      refine R_iconst dX13_support_88 k_iconst_1 ?_
      obtain ⟨h4, eh4, hf⟩ := Option.bind_eq_some_iff.mp hf
      refine R_iastore eh4 dX13_support_89 ?_
      refine R_iinc (L' := [(1, .int (x1 + 1)), (0, va_rf x0), (2, .int x2), (3, .int x3)]) 1 dX13_support_90 rfl (k_inc_1 _) (by decide) rfl ?_
      refine R_goto (tgt := 28) dX13_support_93 (by decide) ?_
      refine R.sub [1, 0] (L' := [(0, va_rf x0), (1, .int (x1 + 1))]) rfl ?_
      exact hr28 x0 (x1 + 1) h4 hf
    · rw [if_neg hc] at hf
      refine R_aload_n 0 dX13_support_47 rfl rfl ?_
      obtain ⟨t5, et5, hf⟩ := Option.bind_eq_some_iff.mp hf
      refine R_getr lg_X13_22 et5 dX13_support_48 ?_
      refine R_iload_n 3 dX13_support_51 rfl rfl ?_
      obtain ⟨t6, et6, hf⟩ := Option.bind_eq_some_iff.mp hf
      refine R_iaload et6 dX13_support_52 ?_
      obtain ⟨q7, eq7, hf⟩ := Option.bind_eq_some_iff.mp hf
      refine R_callS (mj := mi_X13_ones) (As := [.int t6]) (rest := []) (T_X13_ones eq7) lS_X13_142 oky_X13_ones (by decide) (by decide) rfl C1_0 (Nat.le_of_ble_eq_true rfl) dX13_support_53 ?_
      refine R_aload_n 0 dX13_support_56 rfl rfl ?_
      obtain ⟨t8, et8, hf⟩ := Option.bind_eq_some_iff.mp hf
      refine R_getr lg_X13_22 et8 dX13_support_57 ?_
      refine R_iload_n 2 dX13_support_60 rfl rfl ?_
      obtain ⟨t9, et9, hf⟩ := Option.bind_eq_some_iff.mp hf
      refine R_iaload et9 dX13_support_61 ?_
      obtain ⟨q10, eq10, hf⟩ := Option.bind_eq_some_iff.mp hf
      refine R_callS (mj := mi_X13_ones) (As := [.int t9]) (rest := [.int q7.1]) (T_X13_ones eq10) lS_X13_142 oky_X13_ones (by decide) (by decide) rfl (C1_i C1_0) (Nat.le_of_ble_eq_true rfl) dX13_support_62 ?_
      refine R_icle (tgt := 72) dX13_support_65 (by decide) (fun hc => ?_) (fun hc => ?_)
      · rw [if_pos hc] at hf
        refine R_iload_n 2 dX13_support_72 rfl rfl ?_
        refine R_istore_n (L' := [(2, .int x2), (0, va_rf x0), (1, .int x1), (3, .int x3)]) dX13_support_73 rfl (by decide) rfl ?_
        refine R_iinc (L' := [(3, .int (x3 + 1)), (2, .int x2), (0, va_rf x0), (1, .int x1)]) 3 dX13_support_74 rfl (k_inc_1 _) (by decide) rfl ?_
        refine R_goto (tgt := 39) dX13_support_77 (by decide) ?_
        refine R.sub [2, 3, 1, 0] (L' := [(0, va_rf x0), (1, .int x1), (2, .int x2), (3, .int (x3 + 1))]) rfl ?_
        exact ih x0 x1 x2 (x3 + 1) q10.2 hf
      · rw [if_neg hc] at hf
        refine R_iload_n 3 dX13_support_68 rfl rfl ?_
        refine R_goto (tgt := 73) dX13_support_69 (by decide) ?_
        refine R_istore_n (L' := [(2, .int x3), (0, va_rf x0), (1, .int x1), (3, .int x3)]) dX13_support_73 rfl (by decide) rfl ?_
        refine R_iinc (L' := [(3, .int (x3 + 1)), (2, .int x3), (0, va_rf x0), (1, .int x1)]) 3 dX13_support_74 rfl (k_inc_1 _) (by decide) rfl ?_
        refine R_goto (tgt := 39) dX13_support_77 (by decide) ?_
        refine R.sub [2, 3, 1, 0] (L' := [(0, va_rf x0), (1, .int x1), (2, .int x3), (3, .int (x3 + 1))]) rfl ?_
        exact ih x0 x1 x3 (x3 + 1) q10.2 hf
noncomputable def f_X13_support_L28  : Nat → Option Nat → Int32 → PH → Option (Int32 × PH)
  | 0, _, _, _ => none
  | k + 1, x0, x1, h => (rcv 11 x0 h).bind (fun u1 => (f_X13_isSolvable x0 h).bind (fun q2 => if q2.1 = 0 then (f_X13_support_L39 (f_X13_support_L28 k) FU x0 x1 0 1 q2.2) else ((rcv 11 x0 q2.2).bind (fun u3 => (f_X13_reset x0 q2.2).bind (fun h4 => some (x1, h4))))))
theorem f_X13_support_L28_ok {K : KT} {h0 : PH} {a0 : List Value} {q : (Int32 × PH)}  : ∀ (k : Nat) (x0 : Option Nat) (x1 : Int32) (h : PH), f_X13_support_L28  k x0 x1 h = some q → R K mi_X13_support h0 a0 (.inl (some (.int q.1))) q.2 28 [(0, va_rf x0), (1, .int x1)] [] h := by
  intro k
  induction k with
  | zero => intro _ _ _ hf; cases hf
  | succ k ih =>
    intro x0 x1 h hf
    unfold f_X13_support_L28 at hf
    refine R_aload_n 0 dX13_support_28 rfl rfl ?_
    obtain ⟨u1, eu1, hf⟩ := Option.bind_eq_some_iff.mp hf
    obtain ⟨q2, eq2, hf⟩ := Option.bind_eq_some_iff.mp hf
    refine R_callV (mj := mi_X13_isSolvable) (ci := 11) (q := (RX13, TX13, 24)) (As := []) (rest := []) (T_X13_isSolvable eq2) eu1 rfl lV_X13_228 ⟨rfl, oky_X13_isSolvable⟩ (by decide) (by decide) rfl C1_0 (Nat.le_of_ble_eq_true rfl) dX13_support_29 ?_
    refine R_ifne (tgt := 96) dX13_support_32 (by decide) (fun hc => ?_) (fun hc => ?_)
    · rw [if_pos hc] at hf
      refine R_iconst dX13_support_35 k_iconst_0 ?_
      refine R_istore_n (L' := [(2, .int 0), (0, va_rf x0), (1, .int x1)]) dX13_support_36 rfl (by decide) rfl ?_
      refine R_iconst dX13_support_37 k_iconst_1 ?_
      refine R_istore_n (L' := [(3, .int 1), (2, .int 0), (0, va_rf x0), (1, .int x1)]) dX13_support_38 rfl (by decide) rfl ?_
      refine R.sub [2, 3, 1, 0] (L' := [(0, va_rf x0), (1, .int x1), (2, .int 0), (3, .int 1)]) rfl ?_
      exact f_X13_support_L39_ok ih FU x0 x1 0 1 q2.2 hf
    · rw [if_neg hc] at hf
      refine R_aload_n 0 dX13_support_96 rfl rfl ?_
      obtain ⟨u3, eu3, hf⟩ := Option.bind_eq_some_iff.mp hf
      obtain ⟨h4, eh4, hf⟩ := Option.bind_eq_some_iff.mp hf
      refine R_callV (mj := mi_X13_reset) (ci := 11) (q := (RX13, TX13, 24)) (As := []) (rest := []) (T_X13_reset eh4) eu3 rfl lV_X13_51 ⟨rfl, oky_X13_reset⟩ (by decide) (by decide) rfl C1_0 (Nat.le_of_ble_eq_true rfl) dX13_support_97 ?_
      refine R_iload_n 1 dX13_support_100 rfl rfl ?_
      obtain rfl := Option.some.inj hf
      exact R_iretI rfl dX13_support_101
noncomputable def f_X13_support (x0 : Option Nat) (h : PH) : Option (Int32 × PH) := (pf 11 0 x0 (.int 0) h).bind (fun h1 => (rcv 11 x0 h1).bind (fun u2 => (f_X13_emptyMany x0 h1).bind (fun q3 => if 0 < q3.1 then (some ((-2), q3.2)) else ((rcv 11 x0 q3.2).bind (fun u4 => (f_X13_isSolvable x0 q3.2).bind (fun q5 => if q5.1 = 0 then ((rcv 11 x0 q5.2).bind (fun u6 => (f_X13_act x0 q5.2).bind (fun h7 => f_X13_support_L28  FU x0 0 h7))) else (some ((-2), q5.2))))))))
theorem T_X13_support {K : KT} {x0 : Option Nat} {h : PH} {q : (Int32 × PH)} (hf : f_X13_support x0 h = some q) : T K mi_X13_support [va_rf x0] h (.inl (some (.int q.1))) q.2 := by
  unfold f_X13_support at hf
  refine T_of (by decide +kernel) rfl (C1_r C1_0) (Nat.le_of_ble_eq_true rfl) ?_
  show R K mi_X13_support h [va_rf x0] _ _ 0 [(0, va_rf x0)] [] h
  refine R_aload_n 0 dX13_support_0 rfl rfl ?_
  refine R_iconst dX13_support_1 k_iconst_0 ?_
  obtain ⟨h1, eh1, hf⟩ := Option.bind_eq_some_iff.mp hf
  refine R_putI (fp_X13_43 rfl) eh1 dX13_support_2 ?_
  refine R_aload_n 0 dX13_support_5 rfl rfl ?_
  obtain ⟨u2, eu2, hf⟩ := Option.bind_eq_some_iff.mp hf
  obtain ⟨q3, eq3, hf⟩ := Option.bind_eq_some_iff.mp hf
  refine R_callV (mj := mi_X13_emptyMany) (ci := 11) (q := (RX13, TX13, 24)) (As := []) (rest := []) (T_X13_emptyMany eq3) eu2 rfl lV_X13_136 ⟨rfl, oky_X13_emptyMany⟩ (by decide) (by decide) rfl C1_0 (Nat.le_of_ble_eq_true rfl) dX13_support_6 ?_
  refine R_ifgt (tgt := 19) dX13_support_9 (by decide) (fun hc => ?_) (fun hc => ?_)
  · rw [if_pos hc] at hf
    refine R_bipush dX13_support_19 k_bipush_m2 ?_
    obtain rfl := Option.some.inj hf
    exact R_iretI rfl dX13_support_21
  · rw [if_neg hc] at hf
    refine R_aload_n 0 dX13_support_12 rfl rfl ?_
    obtain ⟨u4, eu4, hf⟩ := Option.bind_eq_some_iff.mp hf
    obtain ⟨q5, eq5, hf⟩ := Option.bind_eq_some_iff.mp hf
    refine R_callV (mj := mi_X13_isSolvable) (ci := 11) (q := (RX13, TX13, 24)) (As := []) (rest := []) (T_X13_isSolvable eq5) eu4 rfl lV_X13_228 ⟨rfl, oky_X13_isSolvable⟩ (by decide) (by decide) rfl C1_0 (Nat.le_of_ble_eq_true rfl) dX13_support_13 ?_
    refine R_ifeq (tgt := 22) dX13_support_16 (by decide) (fun hc => ?_) (fun hc => ?_)
    · rw [if_pos hc] at hf
      refine R_aload_n 0 dX13_support_22 rfl rfl ?_
      obtain ⟨u6, eu6, hf⟩ := Option.bind_eq_some_iff.mp hf
      obtain ⟨h7, eh7, hf⟩ := Option.bind_eq_some_iff.mp hf
      refine R_callV (mj := mi_X13_act) (ci := 11) (q := (RX13, TX13, 24)) (As := []) (rest := []) (T_X13_act eh7) eu6 rfl lV_X13_102 ⟨rfl, oky_X13_act⟩ (by decide) (by decide) rfl C1_0 (Nat.le_of_ble_eq_true rfl) dX13_support_23 ?_
      refine R_iconst dX13_support_26 k_iconst_0 ?_
      refine R_istore_n (L' := [(1, .int 0), (0, va_rf x0)]) dX13_support_27 rfl (by decide) rfl ?_
      refine R.sub [1, 0] (L' := [(0, va_rf x0), (1, .int 0)]) rfl ?_
      exact f_X13_support_L28_ok  FU x0 0 h7 hf
    · rw [if_neg hc] at hf
      refine R_bipush dX13_support_19 k_bipush_m2 ?_
      obtain rfl := Option.some.inj hf
      exact R_iretI rfl dX13_support_21
abbrev mi_X13_allow : MI := (RX13, yX13_allow, cX13_allow, 3, (some FieldType.int), 2)
noncomputable def f_X13_allow (x0 : Option Nat) (x1 : Int32) (x2 : Int32) (h : PH) : Option (Int32 × PH) := (pf 11 0 x0 (.int 0) h).bind (fun h1 => (f_X13_in x1 0 4 h1).bind (fun q2 => if q2.1 = 0 then (some ((-1), q2.2)) else ((f_X13_in x2 0 1 q2.2).bind (fun q3 => if q3.1 = 0 then (some ((-1), q3.2)) else ((rcv 11 x0 q3.2).bind (fun u4 => (f_X13_act x0 q3.2).bind (fun h5 => (gfr 11 1 x0 h5).bind (fun t6 => (gfr 11 1 x0 h5).bind (fun t7 => (ald 0 t7 2 h5).bind (fun t8 => (asi 0 t6 2 ((t8 &&& (((1 : Int32) <<< (x1 &&& 31)) ^^^ (-1))) ||| (x2 <<< (x1 &&& 31))) h5).bind (fun h9 => (gfr 11 1 x0 h9).bind (fun t10 => (ald 0 t10 2 h9).bind (fun t11 => (f_X13_ones t11 h9).bind (fun q12 => some (q12.1, q12.2)))))))))))))))
theorem T_X13_allow {K : KT} {x0 : Option Nat} {x1 : Int32} {x2 : Int32} {h : PH} {q : (Int32 × PH)} (hf : f_X13_allow x0 x1 x2 h = some q) : T K mi_X13_allow [va_rf x0, .int x1, .int x2] h (.inl (some (.int q.1))) q.2 := by
  unfold f_X13_allow at hf
  refine T_of (by decide +kernel) rfl (C1_r (C1_i (C1_i C1_0))) (Nat.le_of_ble_eq_true rfl) ?_
  show R K mi_X13_allow h [va_rf x0, .int x1, .int x2] _ _ 0 [(0, va_rf x0), (1, .int x1), (2, .int x2)] [] h
  refine R_aload_n 0 dX13_allow_0 rfl rfl ?_
  refine R_iconst dX13_allow_1 k_iconst_0 ?_
  obtain ⟨h1, eh1, hf⟩ := Option.bind_eq_some_iff.mp hf
  refine R_putI (fp_X13_43 rfl) eh1 dX13_allow_2 ?_
  refine R_iload_n 1 dX13_allow_5 rfl rfl ?_
  refine R_iconst dX13_allow_6 k_iconst_0 ?_
  refine R_iconst dX13_allow_7 k_iconst_4 ?_
  obtain ⟨q2, eq2, hf⟩ := Option.bind_eq_some_iff.mp hf
  refine R_callS (mj := mi_X13_in) (As := [.int x1, .int 0, .int 4]) (rest := []) (T_X13_in eq2) lS_X13_65 oky_X13_in (by decide) (by decide) rfl C1_0 (Nat.le_of_ble_eq_true rfl) dX13_allow_8 ?_
  refine R_ifeq (tgt := 23) dX13_allow_11 (by decide) (fun hc => ?_) (fun hc => ?_)
  · rw [if_pos hc] at hf
    refine R_iconst dX13_allow_23 k_iconst_m1 ?_
    obtain rfl := Option.some.inj hf
    exact R_iretI rfl dX13_allow_24
  · rw [if_neg hc] at hf
    refine R_iload_n 2 dX13_allow_14 rfl rfl ?_
    refine R_iconst dX13_allow_15 k_iconst_0 ?_
    refine R_iconst dX13_allow_16 k_iconst_1 ?_
    obtain ⟨q3, eq3, hf⟩ := Option.bind_eq_some_iff.mp hf
    refine R_callS (mj := mi_X13_in) (As := [.int x2, .int 0, .int 1]) (rest := []) (T_X13_in eq3) lS_X13_65 oky_X13_in (by decide) (by decide) rfl C1_0 (Nat.le_of_ble_eq_true rfl) dX13_allow_17 ?_
    refine R_ifne (tgt := 25) dX13_allow_20 (by decide) (fun hc => ?_) (fun hc => ?_)
    · rw [if_pos hc] at hf
      refine R_iconst dX13_allow_23 k_iconst_m1 ?_
      obtain rfl := Option.some.inj hf
      exact R_iretI rfl dX13_allow_24
    · rw [if_neg hc] at hf
      refine R_aload_n 0 dX13_allow_25 rfl rfl ?_
      obtain ⟨u4, eu4, hf⟩ := Option.bind_eq_some_iff.mp hf
      obtain ⟨h5, eh5, hf⟩ := Option.bind_eq_some_iff.mp hf
      refine R_callV (mj := mi_X13_act) (ci := 11) (q := (RX13, TX13, 24)) (As := []) (rest := []) (T_X13_act eh5) eu4 rfl lV_X13_102 ⟨rfl, oky_X13_act⟩ (by decide) (by decide) rfl C1_0 (Nat.le_of_ble_eq_true rfl) dX13_allow_26 ?_
      refine R_aload_n 0 dX13_allow_29 rfl rfl ?_
      obtain ⟨t6, et6, hf⟩ := Option.bind_eq_some_iff.mp hf
      refine R_getr lg_X13_7 et6 dX13_allow_30 ?_
      refine R_iconst dX13_allow_33 k_iconst_2 ?_
      refine R_aload_n 0 dX13_allow_34 rfl rfl ?_
      obtain ⟨t7, et7, hf⟩ := Option.bind_eq_some_iff.mp hf
      refine R_getr lg_X13_7 et7 dX13_allow_35 ?_
      refine R_iconst dX13_allow_38 k_iconst_2 ?_
      obtain ⟨t8, et8, hf⟩ := Option.bind_eq_some_iff.mp hf
      refine R_iaload et8 dX13_allow_39 ?_
      refine R_iconst dX13_allow_40 k_iconst_1 ?_
      refine R_iload_n 1 dX13_allow_41 rfl rfl ?_
      refine R_ishl dX13_allow_42 ?_
      refine R_iconst dX13_allow_43 k_iconst_m1 ?_
      refine R_ixor dX13_allow_44 ?_
      refine R_iand dX13_allow_45 ?_
      refine R_iload_n 2 dX13_allow_46 rfl rfl ?_
      refine R_iload_n 1 dX13_allow_47 rfl rfl ?_
      refine R_ishl dX13_allow_48 ?_
      refine R_ior dX13_allow_49 ?_
      obtain ⟨h9, eh9, hf⟩ := Option.bind_eq_some_iff.mp hf
      refine R_iastore eh9 dX13_allow_50 ?_
      refine R_aload_n 0 dX13_allow_51 rfl rfl ?_
      obtain ⟨t10, et10, hf⟩ := Option.bind_eq_some_iff.mp hf
      refine R_getr lg_X13_7 et10 dX13_allow_52 ?_
      refine R_iconst dX13_allow_55 k_iconst_2 ?_
      obtain ⟨t11, et11, hf⟩ := Option.bind_eq_some_iff.mp hf
      refine R_iaload et11 dX13_allow_56 ?_
      obtain ⟨q12, eq12, hf⟩ := Option.bind_eq_some_iff.mp hf
      refine R_callS (mj := mi_X13_ones) (As := [.int t11]) (rest := []) (T_X13_ones eq12) lS_X13_142 oky_X13_ones (by decide) (by decide) rfl C1_0 (Nat.le_of_ble_eq_true rfl) dX13_allow_57 ?_
      obtain rfl := Option.some.inj hf
      exact R_iretI rfl dX13_allow_60
abbrev mi_X13_setCost : MI := (RX13, yX13_setCost, cX13_setCost, 4, (some FieldType.int), 2)
noncomputable def f_X13_setCost (x0 : Option Nat) (x1 : Int32) (x2 : Int32) (h : PH) : Option (Int32 × PH) := (pf 11 0 x0 (.int 0) h).bind (fun h1 => (f_X13_in x1 0 4 h1).bind (fun q2 => if q2.1 = 0 then (some ((-1), q2.2)) else ((f_X13_in x2 1 9 q2.2).bind (fun q3 => if q3.1 = 0 then (some ((-1), q3.2)) else ((rcv 11 x0 q3.2).bind (fun u4 => (f_X13_act x0 q3.2).bind (fun h5 => (gfr 11 1 x0 h5).bind (fun t6 => (ald 0 t6 (3 + x1) h5).bind (fun t7 => (gfr 11 1 x0 h5).bind (fun t8 => (asi 0 t8 (3 + x1) x2 h5).bind (fun h9 => some (t7, h9))))))))))))
theorem T_X13_setCost {K : KT} {x0 : Option Nat} {x1 : Int32} {x2 : Int32} {h : PH} {q : (Int32 × PH)} (hf : f_X13_setCost x0 x1 x2 h = some q) : T K mi_X13_setCost [va_rf x0, .int x1, .int x2] h (.inl (some (.int q.1))) q.2 := by
  unfold f_X13_setCost at hf
  refine T_of (by decide +kernel) rfl (C1_r (C1_i (C1_i C1_0))) (Nat.le_of_ble_eq_true rfl) ?_
  show R K mi_X13_setCost h [va_rf x0, .int x1, .int x2] _ _ 0 [(0, va_rf x0), (1, .int x1), (2, .int x2)] [] h
  refine R_aload_n 0 dX13_setCost_0 rfl rfl ?_
  refine R_iconst dX13_setCost_1 k_iconst_0 ?_
  obtain ⟨h1, eh1, hf⟩ := Option.bind_eq_some_iff.mp hf
  refine R_putI (fp_X13_43 rfl) eh1 dX13_setCost_2 ?_
  refine R_iload_n 1 dX13_setCost_5 rfl rfl ?_
  refine R_iconst dX13_setCost_6 k_iconst_0 ?_
  refine R_iconst dX13_setCost_7 k_iconst_4 ?_
  obtain ⟨q2, eq2, hf⟩ := Option.bind_eq_some_iff.mp hf
  refine R_callS (mj := mi_X13_in) (As := [.int x1, .int 0, .int 4]) (rest := []) (T_X13_in eq2) lS_X13_65 oky_X13_in (by decide) (by decide) rfl C1_0 (Nat.le_of_ble_eq_true rfl) dX13_setCost_8 ?_
  refine R_ifeq (tgt := 24) dX13_setCost_11 (by decide) (fun hc => ?_) (fun hc => ?_)
  · rw [if_pos hc] at hf
    refine R_iconst dX13_setCost_24 k_iconst_m1 ?_
    obtain rfl := Option.some.inj hf
    exact R_iretI rfl dX13_setCost_25
  · rw [if_neg hc] at hf
    refine R_iload_n 2 dX13_setCost_14 rfl rfl ?_
    refine R_iconst dX13_setCost_15 k_iconst_1 ?_
    refine R_bipush dX13_setCost_16 k_bipush_9 ?_
    obtain ⟨q3, eq3, hf⟩ := Option.bind_eq_some_iff.mp hf
    refine R_callS (mj := mi_X13_in) (As := [.int x2, .int 1, .int 9]) (rest := []) (T_X13_in eq3) lS_X13_65 oky_X13_in (by decide) (by decide) rfl C1_0 (Nat.le_of_ble_eq_true rfl) dX13_setCost_18 ?_
    refine R_ifne (tgt := 26) dX13_setCost_21 (by decide) (fun hc => ?_) (fun hc => ?_)
    · rw [if_pos hc] at hf
      refine R_iconst dX13_setCost_24 k_iconst_m1 ?_
      obtain rfl := Option.some.inj hf
      exact R_iretI rfl dX13_setCost_25
    · rw [if_neg hc] at hf
      refine R_aload_n 0 dX13_setCost_26 rfl rfl ?_
      obtain ⟨u4, eu4, hf⟩ := Option.bind_eq_some_iff.mp hf
      obtain ⟨h5, eh5, hf⟩ := Option.bind_eq_some_iff.mp hf
      refine R_callV (mj := mi_X13_act) (ci := 11) (q := (RX13, TX13, 24)) (As := []) (rest := []) (T_X13_act eh5) eu4 rfl lV_X13_102 ⟨rfl, oky_X13_act⟩ (by decide) (by decide) rfl C1_0 (Nat.le_of_ble_eq_true rfl) dX13_setCost_27 ?_
      refine R_aload_n 0 dX13_setCost_30 rfl rfl ?_
      obtain ⟨t6, et6, hf⟩ := Option.bind_eq_some_iff.mp hf
      refine R_getr lg_X13_7 et6 dX13_setCost_31 ?_
      refine R_iconst dX13_setCost_34 k_iconst_3 ?_
      refine R_iload_n 1 dX13_setCost_35 rfl rfl ?_
      refine R_iadd dX13_setCost_36 ?_
      obtain ⟨t7, et7, hf⟩ := Option.bind_eq_some_iff.mp hf
      refine R_iaload et7 dX13_setCost_37 ?_
      refine R_istore_n (L' := [(3, .int t7), (0, va_rf x0), (1, .int x1), (2, .int x2)]) dX13_setCost_38 rfl (by decide) rfl ?_
      refine R_aload_n 1 dX13_setCost_39 rfl rfl ?_
      obtain ⟨t8, et8, hf⟩ := Option.bind_eq_some_iff.mp hf
      refine R_getr lg_X13_7 et8 dX13_setCost_40 ?_
      refine R_iconst dX13_setCost_43 k_iconst_3 ?_
      refine R_iload_n 2 dX13_setCost_44 rfl rfl ?_
      refine R_iadd dX13_setCost_45 ?_
      refine R_iload_n 3 dX13_setCost_46 rfl rfl ?_
      obtain ⟨h9, eh9, hf⟩ := Option.bind_eq_some_iff.mp hf
      refine R_iastore eh9 dX13_setCost_47 ?_
      refine R_iload_n 0 dX13_setCost_48 rfl rfl ?_
      obtain rfl := Option.some.inj hf
      exact R_iretI rfl dX13_setCost_49
abbrev mi_X13_isNumber : MI := (RX13, yX13_isNumber, cX13_isNumber, 3, (some FieldType.boolean), 4)
noncomputable def f_X13_isNumber (x0 : Option Nat) (x1 : Int32) (x2 : Int32) (h : PH) : Option (Int32 × PH) := (rcv 11 x0 h).bind (fun u1 => (f_X13_isCell x0 x1 h).bind (fun q2 => if q2.1 = 0 then (some (0, q2.2)) else ((rcv 11 x0 q2.2).bind (fun u3 => (f_X13_mostIn x0 x1 q2.2).bind (fun q4 => (f_X13_in x2 1 q4.1 q4.2).bind (fun q5 => if q5.1 = 0 then (some (0, q5.2)) else (some (1, q5.2))))))))
theorem T_X13_isNumber {K : KT} {x0 : Option Nat} {x1 : Int32} {x2 : Int32} {h : PH} {q : (Int32 × PH)} (hf : f_X13_isNumber x0 x1 x2 h = some q) : T K mi_X13_isNumber [va_rf x0, .int x1, .int x2] h (.inl (some (.int q.1))) q.2 := by
  unfold f_X13_isNumber at hf
  refine T_of (by decide +kernel) rfl (C1_r (C1_i (C1_i C1_0))) (Nat.le_of_ble_eq_true rfl) ?_
  show R K mi_X13_isNumber h [va_rf x0, .int x1, .int x2] _ _ 0 [(0, va_rf x0), (1, .int x1), (2, .int x2)] [] h
  refine R_aload_n 0 dX13_isNumber_0 rfl rfl ?_
  refine R_iload_n 1 dX13_isNumber_1 rfl rfl ?_
  obtain ⟨u1, eu1, hf⟩ := Option.bind_eq_some_iff.mp hf
  obtain ⟨q2, eq2, hf⟩ := Option.bind_eq_some_iff.mp hf
  refine R_callV (mj := mi_X13_isCell) (ci := 11) (q := (RX13, TX13, 24)) (As := [.int x1]) (rest := []) (T_X13_isCell eq2) eu1 rfl lV_X13_108 ⟨rfl, oky_X13_isCell⟩ (by decide) (by decide) rfl C1_0 (Nat.le_of_ble_eq_true rfl) dX13_isNumber_2 ?_
  refine R_ifeq (tgt := 25) dX13_isNumber_5 (by decide) (fun hc => ?_) (fun hc => ?_)
  · rw [if_pos hc] at hf
    refine R_iconst dX13_isNumber_25 k_iconst_0 ?_
    obtain rfl := Option.some.inj hf
    exact R_iretZ0 rfl dX13_isNumber_26
  · rw [if_neg hc] at hf
    refine R_iload_n 2 dX13_isNumber_8 rfl rfl ?_
    refine R_iconst dX13_isNumber_9 k_iconst_1 ?_
    refine R_aload_n 0 dX13_isNumber_10 rfl rfl ?_
    refine R_iload_n 1 dX13_isNumber_11 rfl rfl ?_
    obtain ⟨u3, eu3, hf⟩ := Option.bind_eq_some_iff.mp hf
    obtain ⟨q4, eq4, hf⟩ := Option.bind_eq_some_iff.mp hf
    refine R_callV (mj := mi_X13_mostIn) (ci := 11) (q := (RX13, TX13, 24)) (As := [.int x1]) (rest := [.int 1, .int x2]) (T_X13_mostIn eq4) eu3 rfl lV_X13_121 ⟨rfl, oky_X13_mostIn⟩ (by decide) (by decide) rfl (C1_i (C1_i C1_0)) (Nat.le_of_ble_eq_true rfl) dX13_isNumber_12 ?_
    obtain ⟨q5, eq5, hf⟩ := Option.bind_eq_some_iff.mp hf
    refine R_callS (mj := mi_X13_in) (As := [.int x2, .int 1, .int q4.1]) (rest := []) (T_X13_in eq5) lS_X13_65 oky_X13_in (by decide) (by decide) rfl C1_0 (Nat.le_of_ble_eq_true rfl) dX13_isNumber_15 ?_
    refine R_ifeq (tgt := 25) dX13_isNumber_18 (by decide) (fun hc => ?_) (fun hc => ?_)
    · rw [if_pos hc] at hf
      refine R_iconst dX13_isNumber_25 k_iconst_0 ?_
      obtain rfl := Option.some.inj hf
      exact R_iretZ0 rfl dX13_isNumber_26
    · rw [if_neg hc] at hf
      refine R_iconst dX13_isNumber_21 k_iconst_1 ?_
      refine R_goto (tgt := 26) dX13_isNumber_22 (by decide) ?_
      obtain rfl := Option.some.inj hf
      exact R_iretZ1 rfl dX13_isNumber_26
abbrev mi_X13_layPlayers : MI := (RX13, yX13_layPlayers, cX13_layPlayers, 2, none, 2)
noncomputable def f_X13_layPlayers_L2  : Nat → Option Nat → Int32 → PH → Option PH
  | 0, _, _, _ => none
  | k + 1, x0, x1, h => (rcv 11 x0 h).bind (fun u1 => (f_X13_cells x0 h).bind (fun q2 => if q2.1 ≤ x1 then (some q2.2) else ((gfr 11 7 x0 q2.2).bind (fun t3 => (gfr 11 1 x0 q2.2).bind (fun t4 => (ald 0 t4 (93 + x1) q2.2).bind (fun t5 => (asi 0 t3 x1 t5 q2.2).bind (fun h6 => (f_X13_layPlayers_L2 k) x0 (x1 + 1) h6)))))))
theorem f_X13_layPlayers_L2_ok {K : KT} {h0 : PH} {a0 : List Value} {q : PH}  : ∀ (k : Nat) (x0 : Option Nat) (x1 : Int32) (h : PH), f_X13_layPlayers_L2  k x0 x1 h = some q → R K mi_X13_layPlayers h0 a0 (.inl none) q 2 [(0, va_rf x0), (1, .int x1)] [] h := by
  intro k
  induction k with
  | zero => intro _ _ _ hf; cases hf
  | succ k ih =>
    intro x0 x1 h hf
    unfold f_X13_layPlayers_L2 at hf
    refine R_iload_n 1 dX13_layPlayers_2 rfl rfl ?_
    refine R_aload_n 0 dX13_layPlayers_3 rfl rfl ?_
    obtain ⟨u1, eu1, hf⟩ := Option.bind_eq_some_iff.mp hf
    obtain ⟨q2, eq2, hf⟩ := Option.bind_eq_some_iff.mp hf
    refine R_callV (mj := mi_X13_cells) (ci := 11) (q := (RX13, TX13, 24)) (As := []) (rest := [.int x1]) (T_X13_cells eq2) eu1 rfl lV_X13_61 ⟨rfl, oky_X13_cells⟩ (by decide) (by decide) rfl (C1_i C1_0) (Nat.le_of_ble_eq_true rfl) dX13_layPlayers_4 ?_
    refine R_icge (tgt := 31) dX13_layPlayers_7 (by decide) (fun hc => ?_) (fun hc => ?_)
    · rw [if_pos hc] at hf
      obtain rfl := Option.some.inj hf
      exact R_return rfl dX13_layPlayers_31
    · rw [if_neg hc] at hf
      refine R_aload_n 0 dX13_layPlayers_10 rfl rfl ?_
      obtain ⟨t3, et3, hf⟩ := Option.bind_eq_some_iff.mp hf
      refine R_getr lg_X13_22 et3 dX13_layPlayers_11 ?_
      refine R_iload_n 1 dX13_layPlayers_14 rfl rfl ?_
      refine R_aload_n 0 dX13_layPlayers_15 rfl rfl ?_
      obtain ⟨t4, et4, hf⟩ := Option.bind_eq_some_iff.mp hf
      refine R_getr lg_X13_7 et4 dX13_layPlayers_16 ?_
      refine R_bipush dX13_layPlayers_19 k_bipush_93 ?_
      refine R_iload_n 1 dX13_layPlayers_21 rfl rfl ?_
      refine R_iadd dX13_layPlayers_22 ?_
      obtain ⟨t5, et5, hf⟩ := Option.bind_eq_some_iff.mp hf
      refine R_iaload et5 dX13_layPlayers_23 ?_
      obtain ⟨h6, eh6, hf⟩ := Option.bind_eq_some_iff.mp hf
      refine R_iastore eh6 dX13_layPlayers_24 ?_
      refine R_iinc (L' := [(1, .int (x1 + 1)), (0, va_rf x0)]) 1 dX13_layPlayers_25 rfl (k_inc_1 _) (by decide) rfl ?_
      refine R_goto (tgt := 2) dX13_layPlayers_28 (by decide) ?_
      refine R.sub [1, 0] (L' := [(0, va_rf x0), (1, .int (x1 + 1))]) rfl ?_
      exact ih x0 (x1 + 1) h6 hf
noncomputable def f_X13_layPlayers (x0 : Option Nat) (h : PH) : Option PH := f_X13_layPlayers_L2  FU x0 0 h
theorem T_X13_layPlayers {K : KT} {x0 : Option Nat} {h : PH} {q : PH} (hf : f_X13_layPlayers x0 h = some q) : T K mi_X13_layPlayers [va_rf x0] h (.inl none) q := by
  unfold f_X13_layPlayers at hf
  refine T_of (by decide +kernel) rfl (C1_r C1_0) (Nat.le_of_ble_eq_true rfl) ?_
  show R K mi_X13_layPlayers h [va_rf x0] _ _ 0 [(0, va_rf x0)] [] h
  refine R_iconst dX13_layPlayers_0 k_iconst_0 ?_
  refine R_istore_n (L' := [(1, .int 0), (0, va_rf x0)]) dX13_layPlayers_1 rfl (by decide) rfl ?_
  refine R.sub [1, 0] (L' := [(0, va_rf x0), (1, .int 0)]) rfl ?_
  exact f_X13_layPlayers_L2_ok  FU x0 0 h hf
abbrev mi_X13_strikerOf : MI := (RX13, yX13_strikerOf, cX13_strikerOf, 5, (some FieldType.int), 6)
noncomputable def f_X13_strikerOf_B52 (r2 : Option Nat → Int32 → Int32 → Int32 → PH → Option (Int32 × PH)) (x0 : Option Nat) (x1 : Int32) (x2 : Int32) (x3 : Int32) (s0 : Int32) (h : PH) : Option (Int32 × PH) := if s0 = (-99) then (r2 x0 x1 x2 (x3 + 1) h) else ((pf 11 11 x0 (.int s0) h).bind (fun h1 => some (x3, h1)))
theorem f_X13_strikerOf_B52_ok {K : KT} {h0 : PH} {a0 : List Value} {q : (Int32 × PH)} {r2 : Option Nat → Int32 → Int32 → Int32 → PH → Option (Int32 × PH)} (hr2 : ∀ (y0 : Option Nat) (y1 : Int32) (y2 : Int32) (y3 : Int32) (h : PH), r2 y0 y1 y2 y3 h = some q → R K mi_X13_strikerOf h0 a0 (.inl (some (.int q.1))) q.2 2 [(0, va_rf y0), (1, .int y1), (2, .int y2), (3, .int y3)] [] h) (x0 : Option Nat) (x1 : Int32) (x2 : Int32) (x3 : Int32) (s0 : Int32) (h : PH) (hf : f_X13_strikerOf_B52 r2 x0 x1 x2 x3 s0 h = some q) : R K mi_X13_strikerOf h0 a0 (.inl (some (.int q.1))) q.2 52 [(0, va_rf x0), (1, .int x1), (2, .int x2), (3, .int x3)] [.int s0] h := by
  unfold f_X13_strikerOf_B52 at hf
  refine R_istore (L' := [(4, .int s0), (0, va_rf x0), (1, .int x1), (2, .int x2), (3, .int x3)]) dX13_strikerOf_52 (by decide) rfl ?_
  refine R_iload 0 dX13_strikerOf_54 rfl ?_
  refine R_bipush dX13_strikerOf_56 k_bipush_m99 ?_
  refine R_iceq (tgt := 69) dX13_strikerOf_58 (by decide) (fun hc => ?_) (fun hc => ?_)
  · rw [if_pos hc] at hf
    refine R_iinc (L' := [(3, .int (x3 + 1)), (4, .int s0), (0, va_rf x0), (1, .int x1), (2, .int x2)]) 4 dX13_strikerOf_69 rfl (k_inc_1 _) (by decide) rfl ?_
    refine R_goto (tgt := 2) dX13_strikerOf_72 (by decide) ?_
    refine R.sub [2, 3, 4, 0] (L' := [(0, va_rf x0), (1, .int x1), (2, .int x2), (3, .int (x3 + 1))]) rfl ?_
    exact hr2 x0 x1 x2 (x3 + 1) h hf
  · rw [if_neg hc] at hf
    refine R_aload_n 1 dX13_strikerOf_61 rfl rfl ?_
    refine R_iload 0 dX13_strikerOf_62 rfl ?_
    obtain ⟨h1, eh1, hf⟩ := Option.bind_eq_some_iff.mp hf
    refine R_putI (fp_X13_195 rfl) eh1 dX13_strikerOf_64 ?_
    refine R_iload_n 4 dX13_strikerOf_67 rfl rfl ?_
    obtain rfl := Option.some.inj hf
    exact R_iretI rfl dX13_strikerOf_68
noncomputable def f_X13_strikerOf_L2  : Nat → Option Nat → Int32 → Int32 → Int32 → PH → Option (Int32 × PH)
  | 0, _, _, _, _, _ => none
  | k + 1, x0, x1, x2, x3, h => if 5 ≤ x3 then (some ((-99), h)) else ((gfr 11 7 x0 h).bind (fun t1 => (ald 0 t1 x1 h).bind (fun t2 => (f_X13_has t2 x2 h).bind (fun q3 => if q3.1 = 0 then (some ((-99), q3.2)) else ((rcv 11 x0 q3.2).bind (fun u4 => (f_X13_isBroken x0 q3.2).bind (fun q5 => if q5.1 = 0 then ((gfr 11 1 x0 q5.2).bind (fun t6 => (ald 0 t6 2 q5.2).bind (fun t7 => (f_X13_has t7 x3 q5.2).bind (fun q8 => if q8.1 = 0 then (f_X13_strikerOf_B52 (f_X13_strikerOf_L2 k) x0 x1 x2 x3 (-99) q8.2) else ((rcv 11 x0 q8.2).bind (fun u9 => (f_X13_causeOf x0 x3 x1 x2 q8.2).bind (fun q10 => f_X13_strikerOf_B52 (f_X13_strikerOf_L2 k) x0 x1 x2 x3 q10.1 q10.2))))))) else (some ((-99), q5.2)))))))))
theorem f_X13_strikerOf_L2_ok {K : KT} {h0 : PH} {a0 : List Value} {q : (Int32 × PH)}  : ∀ (k : Nat) (x0 : Option Nat) (x1 : Int32) (x2 : Int32) (x3 : Int32) (h : PH), f_X13_strikerOf_L2  k x0 x1 x2 x3 h = some q → R K mi_X13_strikerOf h0 a0 (.inl (some (.int q.1))) q.2 2 [(0, va_rf x0), (1, .int x1), (2, .int x2), (3, .int x3)] [] h := by
  intro k
  induction k with
  | zero => intro _ _ _ _ _ hf; cases hf
  | succ k ih =>
    intro x0 x1 x2 x3 h hf
    unfold f_X13_strikerOf_L2 at hf
    refine R_iload_n 3 dX13_strikerOf_2 rfl rfl ?_
    refine R_iconst dX13_strikerOf_3 k_iconst_5 ?_
    refine R_icge (tgt := 75) dX13_strikerOf_4 (by decide) (fun hc => ?_) (fun hc => ?_)
    · rw [if_pos hc] at hf
      refine R_bipush dX13_strikerOf_75 k_bipush_m99 ?_
      obtain rfl := Option.some.inj hf
      exact R_iretI rfl dX13_strikerOf_77
    · rw [if_neg hc] at hf
      refine R_aload_n 0 dX13_strikerOf_7 rfl rfl ?_
      obtain ⟨t1, et1, hf⟩ := Option.bind_eq_some_iff.mp hf
      refine R_getr lg_X13_22 et1 dX13_strikerOf_8 ?_
      refine R_iload_n 1 dX13_strikerOf_11 rfl rfl ?_
      obtain ⟨t2, et2, hf⟩ := Option.bind_eq_some_iff.mp hf
      refine R_iaload et2 dX13_strikerOf_12 ?_
      refine R_iload_n 2 dX13_strikerOf_13 rfl rfl ?_
      obtain ⟨q3, eq3, hf⟩ := Option.bind_eq_some_iff.mp hf
      refine R_callS (mj := mi_X13_has) (As := [.int t2, .int x2]) (rest := []) (T_X13_has eq3) lS_X13_54 oky_X13_has (by decide) (by decide) rfl C1_0 (Nat.le_of_ble_eq_true rfl) dX13_strikerOf_14 ?_
      refine R_ifeq (tgt := 75) dX13_strikerOf_17 (by decide) (fun hc => ?_) (fun hc => ?_)
      · rw [if_pos hc] at hf
        refine R_bipush dX13_strikerOf_75 k_bipush_m99 ?_
        obtain rfl := Option.some.inj hf
        exact R_iretI rfl dX13_strikerOf_77
      · rw [if_neg hc] at hf
        refine R_aload_n 0 dX13_strikerOf_20 rfl rfl ?_
        obtain ⟨u4, eu4, hf⟩ := Option.bind_eq_some_iff.mp hf
        obtain ⟨q5, eq5, hf⟩ := Option.bind_eq_some_iff.mp hf
        refine R_callV (mj := mi_X13_isBroken) (ci := 11) (q := (RX13, TX13, 24)) (As := []) (rest := []) (T_X13_isBroken eq5) eu4 rfl lV_X13_145 ⟨rfl, oky_X13_isBroken⟩ (by decide) (by decide) rfl C1_0 (Nat.le_of_ble_eq_true rfl) dX13_strikerOf_21 ?_
        refine R_ifne (tgt := 75) dX13_strikerOf_24 (by decide) (fun hc => ?_) (fun hc => ?_)
        · rw [if_pos hc] at hf
          refine R_aload_n 0 dX13_strikerOf_27 rfl rfl ?_
          obtain ⟨t6, et6, hf⟩ := Option.bind_eq_some_iff.mp hf
          refine R_getr lg_X13_7 et6 dX13_strikerOf_28 ?_
          refine R_iconst dX13_strikerOf_31 k_iconst_2 ?_
          obtain ⟨t7, et7, hf⟩ := Option.bind_eq_some_iff.mp hf
          refine R_iaload et7 dX13_strikerOf_32 ?_
          refine R_iload_n 3 dX13_strikerOf_33 rfl rfl ?_
          obtain ⟨q8, eq8, hf⟩ := Option.bind_eq_some_iff.mp hf
          refine R_callS (mj := mi_X13_has) (As := [.int t7, .int x3]) (rest := []) (T_X13_has eq8) lS_X13_54 oky_X13_has (by decide) (by decide) rfl C1_0 (Nat.le_of_ble_eq_true rfl) dX13_strikerOf_34 ?_
          refine R_ifeq (tgt := 50) dX13_strikerOf_37 (by decide) (fun hc => ?_) (fun hc => ?_)
          · rw [if_pos hc] at hf
            refine R_bipush dX13_strikerOf_50 k_bipush_m99 ?_
            exact f_X13_strikerOf_B52_ok ih x0 x1 x2 x3 (-99) q8.2 hf
          · rw [if_neg hc] at hf
            refine R_aload_n 0 dX13_strikerOf_40 rfl rfl ?_
            refine R_iload_n 3 dX13_strikerOf_41 rfl rfl ?_
            refine R_iload_n 1 dX13_strikerOf_42 rfl rfl ?_
            refine R_iload_n 2 dX13_strikerOf_43 rfl rfl ?_
            obtain ⟨u9, eu9, hf⟩ := Option.bind_eq_some_iff.mp hf
            obtain ⟨q10, eq10, hf⟩ := Option.bind_eq_some_iff.mp hf
            refine R_callV (mj := mi_X13_causeOf) (ci := 11) (q := (RX13, TX13, 24)) (As := [.int x3, .int x1, .int x2]) (rest := []) (T_X13_causeOf eq10) eu9 rfl lV_X13_183 ⟨rfl, oky_X13_causeOf⟩ (by decide) (by decide) rfl C1_0 (Nat.le_of_ble_eq_true rfl) dX13_strikerOf_44 ?_
            refine R_goto (tgt := 52) dX13_strikerOf_47 (by decide) ?_
            exact f_X13_strikerOf_B52_ok ih x0 x1 x2 x3 q10.1 q10.2 hf
        · rw [if_neg hc] at hf
          refine R_bipush dX13_strikerOf_75 k_bipush_m99 ?_
          obtain rfl := Option.some.inj hf
          exact R_iretI rfl dX13_strikerOf_77
noncomputable def f_X13_strikerOf (x0 : Option Nat) (x1 : Int32) (x2 : Int32) (h : PH) : Option (Int32 × PH) := f_X13_strikerOf_L2  FU x0 x1 x2 0 h
theorem T_X13_strikerOf {K : KT} {x0 : Option Nat} {x1 : Int32} {x2 : Int32} {h : PH} {q : (Int32 × PH)} (hf : f_X13_strikerOf x0 x1 x2 h = some q) : T K mi_X13_strikerOf [va_rf x0, .int x1, .int x2] h (.inl (some (.int q.1))) q.2 := by
  unfold f_X13_strikerOf at hf
  refine T_of (by decide +kernel) rfl (C1_r (C1_i (C1_i C1_0))) (Nat.le_of_ble_eq_true rfl) ?_
  show R K mi_X13_strikerOf h [va_rf x0, .int x1, .int x2] _ _ 0 [(0, va_rf x0), (1, .int x1), (2, .int x2)] [] h
  refine R_iconst dX13_strikerOf_0 k_iconst_0 ?_
  refine R_istore_n (L' := [(3, .int 0), (0, va_rf x0), (1, .int x1), (2, .int x2)]) dX13_strikerOf_1 rfl (by decide) rfl ?_
  refine R.sub [1, 2, 3, 0] (L' := [(0, va_rf x0), (1, .int x1), (2, .int x2), (3, .int 0)]) rfl ?_
  exact f_X13_strikerOf_L2_ok  FU x0 x1 x2 0 h hf
theorem lV_X13_234 : GoodIn lw_all (wsV "EdgeSumsModel" 234 "EdgeSumsModel" yX13_isNumber (ws_ yX13_isNumber cX13_isNumber 3 (some FieldType.boolean))) := lw_V q2954 q2956 qs95 q158 q2957
theorem oky_X13_isNumber : okY yX13_isNumber 2 := ⟨by decide +kernel, by decide +kernel, by decide +kernel⟩
theorem lV_X13_237 : GoodIn lw_all (wsV "EdgeSumsModel" 237 "EdgeSumsModel" yX13_layPlayers (ws_ yX13_layPlayers cX13_layPlayers 2 none)) := lw_V q2958 q2960 qs96 q158 q2961
theorem oky_X13_layPlayers : okY yX13_layPlayers 0 := ⟨by decide +kernel, by decide +kernel, by decide +kernel⟩
theorem lV_X13_240 : GoodIn lw_all (wsV "EdgeSumsModel" 240 "EdgeSumsModel" yX13_strikerOf (ws_ yX13_strikerOf cX13_strikerOf 5 (some FieldType.int))) := lw_V q2962 q2964 qs97 q158 q2965
theorem oky_X13_strikerOf : okY yX13_strikerOf 2 := ⟨by decide +kernel, by decide +kernel, by decide +kernel⟩
abbrev mi_X13_strike : MI := (RX13, yX13_strike, cX13_strike, 4, (some FieldType.int), 7)
noncomputable def f_X13_strike (x0 : Option Nat) (x1 : Int32) (x2 : Int32) (h : PH) : Option (Int32 × PH) := (pf 11 0 x0 (.int 0) h).bind (fun h1 => (rcv 11 x0 h1).bind (fun u2 => (f_X13_isNumber x0 x1 x2 h1).bind (fun q3 => if q3.1 = 0 then (some ((-1), q3.2)) else ((rcv 11 x0 q3.2).bind (fun u4 => (f_X13_layPlayers x0 q3.2).bind (fun h5 => (rcv 11 x0 h5).bind (fun u6 => (f_X13_strikerOf x0 x1 x2 h5).bind (fun q7 => if q7.1 = (-99) then (some ((-2), q7.2)) else ((rcv 11 x0 q7.2).bind (fun u8 => (f_X13_act x0 q7.2).bind (fun h9 => (gfr 11 1 x0 h9).bind (fun t10 => (ald 0 t10 (93 + x1) h9).bind (fun t11 => (asi 0 t10 (93 + x1) (t11 &&& (((1 : Int32) <<< (x2 &&& 31)) ^^^ (-1))) h9).bind (fun h12 => some (q7.1, h12)))))))))))))))
theorem T_X13_strike {K : KT} {x0 : Option Nat} {x1 : Int32} {x2 : Int32} {h : PH} {q : (Int32 × PH)} (hf : f_X13_strike x0 x1 x2 h = some q) : T K mi_X13_strike [va_rf x0, .int x1, .int x2] h (.inl (some (.int q.1))) q.2 := by
  unfold f_X13_strike at hf
  refine T_of (by decide +kernel) rfl (C1_r (C1_i (C1_i C1_0))) (Nat.le_of_ble_eq_true rfl) ?_
  show R K mi_X13_strike h [va_rf x0, .int x1, .int x2] _ _ 0 [(0, va_rf x0), (1, .int x1), (2, .int x2)] [] h
  refine R_aload_n 0 dX13_strike_0 rfl rfl ?_
  refine R_iconst dX13_strike_1 k_iconst_0 ?_
  obtain ⟨h1, eh1, hf⟩ := Option.bind_eq_some_iff.mp hf
  refine R_putI (fp_X13_43 rfl) eh1 dX13_strike_2 ?_
  refine R_aload_n 0 dX13_strike_5 rfl rfl ?_
  refine R_iload_n 1 dX13_strike_6 rfl rfl ?_
  refine R_iload_n 2 dX13_strike_7 rfl rfl ?_
  obtain ⟨u2, eu2, hf⟩ := Option.bind_eq_some_iff.mp hf
  obtain ⟨q3, eq3, hf⟩ := Option.bind_eq_some_iff.mp hf
  refine R_callV (mj := mi_X13_isNumber) (ci := 11) (q := (RX13, TX13, 24)) (As := [.int x1, .int x2]) (rest := []) (T_X13_isNumber eq3) eu2 rfl lV_X13_234 ⟨rfl, oky_X13_isNumber⟩ (by decide) (by decide) rfl C1_0 (Nat.le_of_ble_eq_true rfl) dX13_strike_8 ?_
  refine R_ifne (tgt := 16) dX13_strike_11 (by decide) (fun hc => ?_) (fun hc => ?_)
  · rw [if_pos hc] at hf
    refine R_iconst dX13_strike_14 k_iconst_m1 ?_
    obtain rfl := Option.some.inj hf
    exact R_iretI rfl dX13_strike_15
  · rw [if_neg hc] at hf
    refine R_aload_n 0 dX13_strike_16 rfl rfl ?_
    obtain ⟨u4, eu4, hf⟩ := Option.bind_eq_some_iff.mp hf
    obtain ⟨h5, eh5, hf⟩ := Option.bind_eq_some_iff.mp hf
    refine R_callV (mj := mi_X13_layPlayers) (ci := 11) (q := (RX13, TX13, 24)) (As := []) (rest := []) (T_X13_layPlayers eh5) eu4 rfl lV_X13_237 ⟨rfl, oky_X13_layPlayers⟩ (by decide) (by decide) rfl C1_0 (Nat.le_of_ble_eq_true rfl) dX13_strike_17 ?_
    refine R_aload_n 0 dX13_strike_20 rfl rfl ?_
    refine R_iload_n 1 dX13_strike_21 rfl rfl ?_
    refine R_iload_n 2 dX13_strike_22 rfl rfl ?_
    obtain ⟨u6, eu6, hf⟩ := Option.bind_eq_some_iff.mp hf
    obtain ⟨q7, eq7, hf⟩ := Option.bind_eq_some_iff.mp hf
    refine R_callV (mj := mi_X13_strikerOf) (ci := 11) (q := (RX13, TX13, 24)) (As := [.int x1, .int x2]) (rest := []) (T_X13_strikerOf eq7) eu6 rfl lV_X13_240 ⟨rfl, oky_X13_strikerOf⟩ (by decide) (by decide) rfl C1_0 (Nat.le_of_ble_eq_true rfl) dX13_strike_23 ?_
    refine R_istore_n (L' := [(3, .int q7.1), (0, va_rf x0), (1, .int x1), (2, .int x2)]) dX13_strike_26 rfl (by decide) rfl ?_
    refine R_iload_n 0 dX13_strike_27 rfl rfl ?_
    refine R_bipush dX13_strike_28 k_bipush_m99 ?_
    refine R_icne (tgt := 36) dX13_strike_30 (by decide) (fun hc => ?_) (fun hc => ?_)
    · rw [if_pos hc] at hf
      refine R_bipush dX13_strike_33 k_bipush_m2 ?_
      obtain rfl := Option.some.inj hf
      exact R_iretI rfl dX13_strike_35
    · rw [if_neg hc] at hf
      refine R_aload_n 1 dX13_strike_36 rfl rfl ?_
      obtain ⟨u8, eu8, hf⟩ := Option.bind_eq_some_iff.mp hf
      obtain ⟨h9, eh9, hf⟩ := Option.bind_eq_some_iff.mp hf
      refine R_callV (mj := mi_X13_act) (ci := 11) (q := (RX13, TX13, 24)) (As := []) (rest := []) (T_X13_act eh9) eu8 rfl lV_X13_102 ⟨rfl, oky_X13_act⟩ (by decide) (by decide) rfl C1_0 (Nat.le_of_ble_eq_true rfl) dX13_strike_37 ?_
      refine R_aload_n 1 dX13_strike_40 rfl rfl ?_
      obtain ⟨t10, et10, hf⟩ := Option.bind_eq_some_iff.mp hf
      refine R_getr lg_X13_7 et10 dX13_strike_41 ?_
      refine R_bipush dX13_strike_44 k_bipush_93 ?_
      refine R_iload_n 2 dX13_strike_46 rfl rfl ?_
      refine R_iadd dX13_strike_47 ?_
      refine R_dup2 dX13_strike_48 rfl (rf_cat _) ?_
      obtain ⟨t11, et11, hf⟩ := Option.bind_eq_some_iff.mp hf
      refine R_iaload et11 dX13_strike_49 ?_
      refine R_iconst dX13_strike_50 k_iconst_1 ?_
      refine R_iload_n 3 dX13_strike_51 rfl rfl ?_
      refine R_ishl dX13_strike_52 ?_
      refine R_iconst dX13_strike_53 k_iconst_m1 ?_
      refine R_ixor dX13_strike_54 ?_
      refine R_iand dX13_strike_55 ?_
      obtain ⟨h12, eh12, hf⟩ := Option.bind_eq_some_iff.mp hf
      refine R_iastore eh12 dX13_strike_56 ?_
      refine R_iload_n 0 dX13_strike_57 rfl rfl ?_
      obtain rfl := Option.some.inj hf
      exact R_iretI rfl dX13_strike_58
abbrev mi_X13_advance : MI := (RX13, yX13_advance, cX13_advance, 3, (some FieldType.int), 7)
noncomputable def f_X13_advance_L43  : Nat → Option Nat → Int32 → Int32 → PH → Option (Int32 × PH)
  | 0, _, _, _, _ => none
  | k + 1, x0, x1, x2, h => if x1 ≤ x2 then (some (x2, h)) else ((gfr 11 1 x0 h).bind (fun t1 => (ald 0 t1 2 h).bind (fun t2 => (rcv 11 x0 h).bind (fun u3 => (f_X13_findStep x0 t2 h).bind (fun q4 => if q4.1 = 0 then (some (x2, q4.2)) else ((gfr 11 7 x0 q4.2).bind (fun t5 => (gfi 11 9 x0 q4.2).bind (fun t6 => (ald 0 t5 t6 q4.2).bind (fun t7 => (gfi 11 10 x0 q4.2).bind (fun t8 => (asi 0 t5 t6 (t7 &&& (((1 : Int32) <<< (t8 &&& 31)) ^^^ (-1))) q4.2).bind (fun h9 => (gfr 11 1 x0 h9).bind (fun t10 => (gfi 11 9 x0 h9).bind (fun t11 => (gfr 11 7 x0 h9).bind (fun t12 => (gfi 11 9 x0 h9).bind (fun t13 => (ald 0 t12 t13 h9).bind (fun t14 => (asi 0 t10 (93 + t11) t14 h9).bind (fun h15 => (f_X13_advance_L43 k) x0 x1 (x2 + 1) h15)))))))))))))))))
theorem f_X13_advance_L43_ok {K : KT} {h0 : PH} {a0 : List Value} {q : (Int32 × PH)}  : ∀ (k : Nat) (x0 : Option Nat) (x1 : Int32) (x2 : Int32) (h : PH), f_X13_advance_L43  k x0 x1 x2 h = some q → R K mi_X13_advance h0 a0 (.inl (some (.int q.1))) q.2 43 [(0, va_rf x0), (1, .int x1), (2, .int x2)] [] h := by
  intro k
  induction k with
  | zero => intro _ _ _ _ hf; cases hf
  | succ k ih =>
    intro x0 x1 x2 h hf
    unfold f_X13_advance_L43 at hf
    refine R_iload_n 2 dX13_advance_43 rfl rfl ?_
    refine R_iload_n 1 dX13_advance_44 rfl rfl ?_
    refine R_icge (tgt := 108) dX13_advance_45 (by decide) (fun hc => ?_) (fun hc => ?_)
    · rw [if_pos hc] at hf
      refine R_iload_n 2 dX13_advance_108 rfl rfl ?_
      obtain rfl := Option.some.inj hf
      exact R_iretI rfl dX13_advance_109
    · rw [if_neg hc] at hf
      refine R_aload_n 0 dX13_advance_48 rfl rfl ?_
      refine R_aload_n 0 dX13_advance_49 rfl rfl ?_
      obtain ⟨t1, et1, hf⟩ := Option.bind_eq_some_iff.mp hf
      refine R_getr lg_X13_7 et1 dX13_advance_50 ?_
      refine R_iconst dX13_advance_53 k_iconst_2 ?_
      obtain ⟨t2, et2, hf⟩ := Option.bind_eq_some_iff.mp hf
      refine R_iaload et2 dX13_advance_54 ?_
      obtain ⟨u3, eu3, hf⟩ := Option.bind_eq_some_iff.mp hf
      obtain ⟨q4, eq4, hf⟩ := Option.bind_eq_some_iff.mp hf
      refine R_callV (mj := mi_X13_findStep) (ci := 11) (q := (RX13, TX13, 24)) (As := [.int t2]) (rest := []) (T_X13_findStep eq4) eu3 rfl lV_X13_201 ⟨rfl, oky_X13_findStep⟩ (by decide) (by decide) rfl C1_0 (Nat.le_of_ble_eq_true rfl) dX13_advance_55 ?_
      refine R_ifeq (tgt := 108) dX13_advance_58 (by decide) (fun hc => ?_) (fun hc => ?_)
      · rw [if_pos hc] at hf
        refine R_iload_n 2 dX13_advance_108 rfl rfl ?_
        obtain rfl := Option.some.inj hf
        exact R_iretI rfl dX13_advance_109
      · rw [if_neg hc] at hf
        refine R_aload_n 0 dX13_advance_61 rfl rfl ?_
        obtain ⟨t5, et5, hf⟩ := Option.bind_eq_some_iff.mp hf
        refine R_getr lg_X13_22 et5 dX13_advance_62 ?_
        refine R_aload_n 0 dX13_advance_65 rfl rfl ?_
        obtain ⟨t6, et6, hf⟩ := Option.bind_eq_some_iff.mp hf
        refine R_geti lg_X13_189 et6 dX13_advance_66 ?_
        refine R_dup2 dX13_advance_69 rfl (rf_cat _) ?_
        obtain ⟨t7, et7, hf⟩ := Option.bind_eq_some_iff.mp hf
        refine R_iaload et7 dX13_advance_70 ?_
        refine R_iconst dX13_advance_71 k_iconst_1 ?_
        refine R_aload_n 0 dX13_advance_72 rfl rfl ?_
        obtain ⟨t8, et8, hf⟩ := Option.bind_eq_some_iff.mp hf
        refine R_geti lg_X13_192 et8 dX13_advance_73 ?_
        refine R_ishl dX13_advance_76 ?_
        refine R_iconst dX13_advance_77 k_iconst_m1 ?_
        refine R_ixor dX13_advance_78 ?_
        refine R_iand dX13_advance_79 ?_
        obtain ⟨h9, eh9, hf⟩ := Option.bind_eq_some_iff.mp hf
        refine R_iastore eh9 dX13_advance_80 ?_
        refine R_aload_n 0 dX13_advance_81 rfl rfl ?_
        obtain ⟨t10, et10, hf⟩ := Option.bind_eq_some_iff.mp hf
        refine R_getr lg_X13_7 et10 dX13_advance_82 ?_
        refine R_bipush dX13_advance_85 k_bipush_93 ?_
        refine R_aload_n 0 dX13_advance_87 rfl rfl ?_
        obtain ⟨t11, et11, hf⟩ := Option.bind_eq_some_iff.mp hf
        refine R_geti lg_X13_189 et11 dX13_advance_88 ?_
        refine R_iadd dX13_advance_91 ?_
        refine R_aload_n 0 dX13_advance_92 rfl rfl ?_
        obtain ⟨t12, et12, hf⟩ := Option.bind_eq_some_iff.mp hf
        refine R_getr lg_X13_22 et12 dX13_advance_93 ?_
        refine R_aload_n 0 dX13_advance_96 rfl rfl ?_
        obtain ⟨t13, et13, hf⟩ := Option.bind_eq_some_iff.mp hf
        refine R_geti lg_X13_189 et13 dX13_advance_97 ?_
        obtain ⟨t14, et14, hf⟩ := Option.bind_eq_some_iff.mp hf
        refine R_iaload et14 dX13_advance_100 ?_
        obtain ⟨h15, eh15, hf⟩ := Option.bind_eq_some_iff.mp hf
        refine R_iastore eh15 dX13_advance_101 ?_
        refine R_iinc (L' := [(2, .int (x2 + 1)), (0, va_rf x0), (1, .int x1)]) 2 dX13_advance_102 rfl (k_inc_1 _) (by decide) rfl ?_
        refine R_goto (tgt := 43) dX13_advance_105 (by decide) ?_
        refine R.sub [1, 2, 0] (L' := [(0, va_rf x0), (1, .int x1), (2, .int (x2 + 1))]) rfl ?_
        exact ih x0 x1 (x2 + 1) h15 hf
noncomputable def f_X13_advance (x0 : Option Nat) (x1 : Int32) (h : PH) : Option (Int32 × PH) := (pf 11 0 x0 (.int 0) h).bind (fun h1 => (f_X13_in x1 1 99 h1).bind (fun q2 => if q2.1 = 0 then (some ((-1), q2.2)) else ((rcv 11 x0 q2.2).bind (fun u3 => (f_X13_layPlayers x0 q2.2).bind (fun h4 => (gfr 11 1 x0 h4).bind (fun t5 => (ald 0 t5 2 h4).bind (fun t6 => (rcv 11 x0 h4).bind (fun u7 => (f_X13_findStep x0 t6 h4).bind (fun q8 => if q8.1 = 0 then (some ((-2), q8.2)) else ((rcv 11 x0 q8.2).bind (fun u9 => (f_X13_act x0 q8.2).bind (fun h10 => f_X13_advance_L43  FU x0 x1 0 h10))))))))))))
theorem T_X13_advance {K : KT} {x0 : Option Nat} {x1 : Int32} {h : PH} {q : (Int32 × PH)} (hf : f_X13_advance x0 x1 h = some q) : T K mi_X13_advance [va_rf x0, .int x1] h (.inl (some (.int q.1))) q.2 := by
  unfold f_X13_advance at hf
  refine T_of (by decide +kernel) rfl (C1_r (C1_i C1_0)) (Nat.le_of_ble_eq_true rfl) ?_
  show R K mi_X13_advance h [va_rf x0, .int x1] _ _ 0 [(0, va_rf x0), (1, .int x1)] [] h
  refine R_aload_n 0 dX13_advance_0 rfl rfl ?_
  refine R_iconst dX13_advance_1 k_iconst_0 ?_
  obtain ⟨h1, eh1, hf⟩ := Option.bind_eq_some_iff.mp hf
  refine R_putI (fp_X13_43 rfl) eh1 dX13_advance_2 ?_
  refine R_iload_n 1 dX13_advance_5 rfl rfl ?_
  refine R_iconst dX13_advance_6 k_iconst_1 ?_
  refine R_bipush dX13_advance_7 k_bipush_99 ?_
  obtain ⟨q2, eq2, hf⟩ := Option.bind_eq_some_iff.mp hf
  refine R_callS (mj := mi_X13_in) (As := [.int x1, .int 1, .int 99]) (rest := []) (T_X13_in eq2) lS_X13_65 oky_X13_in (by decide) (by decide) rfl C1_0 (Nat.le_of_ble_eq_true rfl) dX13_advance_9 ?_
  refine R_ifne (tgt := 17) dX13_advance_12 (by decide) (fun hc => ?_) (fun hc => ?_)
  · rw [if_pos hc] at hf
    refine R_iconst dX13_advance_15 k_iconst_m1 ?_
    obtain rfl := Option.some.inj hf
    exact R_iretI rfl dX13_advance_16
  · rw [if_neg hc] at hf
    refine R_aload_n 0 dX13_advance_17 rfl rfl ?_
    obtain ⟨u3, eu3, hf⟩ := Option.bind_eq_some_iff.mp hf
    obtain ⟨h4, eh4, hf⟩ := Option.bind_eq_some_iff.mp hf
    refine R_callV (mj := mi_X13_layPlayers) (ci := 11) (q := (RX13, TX13, 24)) (As := []) (rest := []) (T_X13_layPlayers eh4) eu3 rfl lV_X13_237 ⟨rfl, oky_X13_layPlayers⟩ (by decide) (by decide) rfl C1_0 (Nat.le_of_ble_eq_true rfl) dX13_advance_18 ?_
    refine R_aload_n 0 dX13_advance_21 rfl rfl ?_
    refine R_aload_n 0 dX13_advance_22 rfl rfl ?_
    obtain ⟨t5, et5, hf⟩ := Option.bind_eq_some_iff.mp hf
    refine R_getr lg_X13_7 et5 dX13_advance_23 ?_
    refine R_iconst dX13_advance_26 k_iconst_2 ?_
    obtain ⟨t6, et6, hf⟩ := Option.bind_eq_some_iff.mp hf
    refine R_iaload et6 dX13_advance_27 ?_
    obtain ⟨u7, eu7, hf⟩ := Option.bind_eq_some_iff.mp hf
    obtain ⟨q8, eq8, hf⟩ := Option.bind_eq_some_iff.mp hf
    refine R_callV (mj := mi_X13_findStep) (ci := 11) (q := (RX13, TX13, 24)) (As := [.int t6]) (rest := []) (T_X13_findStep eq8) eu7 rfl lV_X13_201 ⟨rfl, oky_X13_findStep⟩ (by decide) (by decide) rfl C1_0 (Nat.le_of_ble_eq_true rfl) dX13_advance_28 ?_
    refine R_ifne (tgt := 37) dX13_advance_31 (by decide) (fun hc => ?_) (fun hc => ?_)
    · rw [if_pos hc] at hf
      refine R_bipush dX13_advance_34 k_bipush_m2 ?_
      obtain rfl := Option.some.inj hf
      exact R_iretI rfl dX13_advance_36
    · rw [if_neg hc] at hf
      refine R_aload_n 0 dX13_advance_37 rfl rfl ?_
      obtain ⟨u9, eu9, hf⟩ := Option.bind_eq_some_iff.mp hf
      obtain ⟨h10, eh10, hf⟩ := Option.bind_eq_some_iff.mp hf
      refine R_callV (mj := mi_X13_act) (ci := 11) (q := (RX13, TX13, 24)) (As := []) (rest := []) (T_X13_act eh10) eu9 rfl lV_X13_102 ⟨rfl, oky_X13_act⟩ (by decide) (by decide) rfl C1_0 (Nat.le_of_ble_eq_true rfl) dX13_advance_38 ?_
      refine R_iconst dX13_advance_41 k_iconst_0 ?_
      refine R_istore_n (L' := [(2, .int 0), (0, va_rf x0), (1, .int x1)]) dX13_advance_42 rfl (by decide) rfl ?_
      refine R.sub [1, 2, 0] (L' := [(0, va_rf x0), (1, .int x1), (2, .int 0)]) rfl ?_
      exact f_X13_advance_L43_ok  FU x0 x1 0 h10 hf
abbrev mi_X13_possibleMany : MI := (RX13, yX13_possibleMany, cX13_possibleMany, 3, (some FieldType.int), 2)
noncomputable def f_X13_possibleMany_L4  : Nat → Option Nat → Int32 → Int32 → PH → Option (Int32 × PH)
  | 0, _, _, _, _ => none
  | k + 1, x0, x1, x2, h => (rcv 11 x0 h).bind (fun u1 => (f_X13_cells x0 h).bind (fun q2 => if q2.1 ≤ x2 then (some (x1, q2.2)) else ((gfr 11 7 x0 q2.2).bind (fun t3 => (ald 0 t3 x2 q2.2).bind (fun t4 => (f_X13_ones t4 q2.2).bind (fun q5 => (f_X13_possibleMany_L4 k) x0 (x1 + q5.1) (x2 + 1) q5.2))))))
theorem f_X13_possibleMany_L4_ok {K : KT} {h0 : PH} {a0 : List Value} {q : (Int32 × PH)}  : ∀ (k : Nat) (x0 : Option Nat) (x1 : Int32) (x2 : Int32) (h : PH), f_X13_possibleMany_L4  k x0 x1 x2 h = some q → R K mi_X13_possibleMany h0 a0 (.inl (some (.int q.1))) q.2 4 [(0, va_rf x0), (1, .int x1), (2, .int x2)] [] h := by
  intro k
  induction k with
  | zero => intro _ _ _ _ hf; cases hf
  | succ k ih =>
    intro x0 x1 x2 h hf
    unfold f_X13_possibleMany_L4 at hf
    refine R_iload_n 2 dX13_possibleMany_4 rfl rfl ?_
    refine R_aload_n 0 dX13_possibleMany_5 rfl rfl ?_
    obtain ⟨u1, eu1, hf⟩ := Option.bind_eq_some_iff.mp hf
    obtain ⟨q2, eq2, hf⟩ := Option.bind_eq_some_iff.mp hf
    refine R_callV (mj := mi_X13_cells) (ci := 11) (q := (RX13, TX13, 24)) (As := []) (rest := [.int x2]) (T_X13_cells eq2) eu1 rfl lV_X13_61 ⟨rfl, oky_X13_cells⟩ (by decide) (by decide) rfl (C1_i C1_0) (Nat.le_of_ble_eq_true rfl) dX13_possibleMany_6 ?_
    refine R_icge (tgt := 30) dX13_possibleMany_9 (by decide) (fun hc => ?_) (fun hc => ?_)
    · rw [if_pos hc] at hf
      refine R_iload_n 1 dX13_possibleMany_30 rfl rfl ?_
      obtain rfl := Option.some.inj hf
      exact R_iretI rfl dX13_possibleMany_31
    · rw [if_neg hc] at hf
      refine R_iload_n 1 dX13_possibleMany_12 rfl rfl ?_
      refine R_aload_n 0 dX13_possibleMany_13 rfl rfl ?_
      obtain ⟨t3, et3, hf⟩ := Option.bind_eq_some_iff.mp hf
      refine R_getr lg_X13_22 et3 dX13_possibleMany_14 ?_
      refine R_iload_n 2 dX13_possibleMany_17 rfl rfl ?_
      obtain ⟨t4, et4, hf⟩ := Option.bind_eq_some_iff.mp hf
      refine R_iaload et4 dX13_possibleMany_18 ?_
      obtain ⟨q5, eq5, hf⟩ := Option.bind_eq_some_iff.mp hf
      refine R_callS (mj := mi_X13_ones) (As := [.int t4]) (rest := [.int x1]) (T_X13_ones eq5) lS_X13_142 oky_X13_ones (by decide) (by decide) rfl (C1_i C1_0) (Nat.le_of_ble_eq_true rfl) dX13_possibleMany_19 ?_
      refine R_iadd dX13_possibleMany_22 ?_
      refine R_istore_n (L' := [(1, .int (x1 + q5.1)), (0, va_rf x0), (2, .int x2)]) dX13_possibleMany_23 rfl (by decide) rfl ?_
      refine R_iinc (L' := [(2, .int (x2 + 1)), (1, .int (x1 + q5.1)), (0, va_rf x0)]) 2 dX13_possibleMany_24 rfl (k_inc_1 _) (by decide) rfl ?_
      refine R_goto (tgt := 4) dX13_possibleMany_27 (by decide) ?_
      refine R.sub [2, 1, 0] (L' := [(0, va_rf x0), (1, .int (x1 + q5.1)), (2, .int (x2 + 1))]) rfl ?_
      exact ih x0 (x1 + q5.1) (x2 + 1) q5.2 hf
noncomputable def f_X13_possibleMany (x0 : Option Nat) (h : PH) : Option (Int32 × PH) := f_X13_possibleMany_L4  FU x0 0 0 h
theorem T_X13_possibleMany {K : KT} {x0 : Option Nat} {h : PH} {q : (Int32 × PH)} (hf : f_X13_possibleMany x0 h = some q) : T K mi_X13_possibleMany [va_rf x0] h (.inl (some (.int q.1))) q.2 := by
  unfold f_X13_possibleMany at hf
  refine T_of (by decide +kernel) rfl (C1_r C1_0) (Nat.le_of_ble_eq_true rfl) ?_
  show R K mi_X13_possibleMany h [va_rf x0] _ _ 0 [(0, va_rf x0)] [] h
  refine R_iconst dX13_possibleMany_0 k_iconst_0 ?_
  refine R_istore_n (L' := [(1, .int 0), (0, va_rf x0)]) dX13_possibleMany_1 rfl (by decide) rfl ?_
  refine R_iconst dX13_possibleMany_2 k_iconst_0 ?_
  refine R_istore_n (L' := [(2, .int 0), (1, .int 0), (0, va_rf x0)]) dX13_possibleMany_3 rfl (by decide) rfl ?_
  refine R.sub [2, 1, 0] (L' := [(0, va_rf x0), (1, .int 0), (2, .int 0)]) rfl ?_
  exact f_X13_possibleMany_L4_ok  FU x0 0 0 h hf
theorem lV_X13_243 : GoodIn lw_all (wsV "EdgeSumsModel" 243 "EdgeSumsModel" yX13_possibleMany (ws_ yX13_possibleMany cX13_possibleMany 3 (some FieldType.int))) := lw_V q2974 q2976 qs98 q158 q2977
theorem oky_X13_possibleMany : okY yX13_possibleMany 0 := ⟨by decide +kernel, by decide +kernel, by decide +kernel⟩
abbrev mi_X13_restart : MI := (RX13, yX13_restart, cX13_restart, 1, (some FieldType.int), 6)
noncomputable def f_X13_restart (x0 : Option Nat) (h : PH) : Option (Int32 × PH) := (pf 11 0 x0 (.int 0) h).bind (fun h1 => (rcv 11 x0 h1).bind (fun u2 => (f_X13_act x0 h1).bind (fun h3 => (rcv 11 x0 h3).bind (fun u4 => (f_X13_reset x0 h3).bind (fun h5 => (rcv 11 x0 h5).bind (fun u6 => (f_X13_possibleMany x0 h5).bind (fun q7 => some (q7.1, q7.2))))))))
theorem T_X13_restart {K : KT} {x0 : Option Nat} {h : PH} {q : (Int32 × PH)} (hf : f_X13_restart x0 h = some q) : T K mi_X13_restart [va_rf x0] h (.inl (some (.int q.1))) q.2 := by
  unfold f_X13_restart at hf
  refine T_of (by decide +kernel) rfl (C1_r C1_0) (Nat.le_of_ble_eq_true rfl) ?_
  show R K mi_X13_restart h [va_rf x0] _ _ 0 [(0, va_rf x0)] [] h
  refine R_aload_n 0 dX13_restart_0 rfl rfl ?_
  refine R_iconst dX13_restart_1 k_iconst_0 ?_
  obtain ⟨h1, eh1, hf⟩ := Option.bind_eq_some_iff.mp hf
  refine R_putI (fp_X13_43 rfl) eh1 dX13_restart_2 ?_
  refine R_aload_n 0 dX13_restart_5 rfl rfl ?_
  obtain ⟨u2, eu2, hf⟩ := Option.bind_eq_some_iff.mp hf
  obtain ⟨h3, eh3, hf⟩ := Option.bind_eq_some_iff.mp hf
  refine R_callV (mj := mi_X13_act) (ci := 11) (q := (RX13, TX13, 24)) (As := []) (rest := []) (T_X13_act eh3) eu2 rfl lV_X13_102 ⟨rfl, oky_X13_act⟩ (by decide) (by decide) rfl C1_0 (Nat.le_of_ble_eq_true rfl) dX13_restart_6 ?_
  refine R_aload_n 0 dX13_restart_9 rfl rfl ?_
  obtain ⟨u4, eu4, hf⟩ := Option.bind_eq_some_iff.mp hf
  obtain ⟨h5, eh5, hf⟩ := Option.bind_eq_some_iff.mp hf
  refine R_callV (mj := mi_X13_reset) (ci := 11) (q := (RX13, TX13, 24)) (As := []) (rest := []) (T_X13_reset eh5) eu4 rfl lV_X13_51 ⟨rfl, oky_X13_reset⟩ (by decide) (by decide) rfl C1_0 (Nat.le_of_ble_eq_true rfl) dX13_restart_10 ?_
  refine R_aload_n 0 dX13_restart_13 rfl rfl ?_
  obtain ⟨u6, eu6, hf⟩ := Option.bind_eq_some_iff.mp hf
  obtain ⟨q7, eq7, hf⟩ := Option.bind_eq_some_iff.mp hf
  refine R_callV (mj := mi_X13_possibleMany) (ci := 11) (q := (RX13, TX13, 24)) (As := []) (rest := []) (T_X13_possibleMany eq7) eu6 rfl lV_X13_243 ⟨rfl, oky_X13_possibleMany⟩ (by decide) (by decide) rfl C1_0 (Nat.le_of_ble_eq_true rfl) dX13_restart_14 ?_
  obtain rfl := Option.some.inj hf
  exact R_iretI rfl dX13_restart_17
abbrev mi_X13_clues : MI := (RX13, yX13_clues, cX13_clues, 1, (some FieldType.int), 3)
noncomputable def f_X13_clues (x0 : Option Nat) (h : PH) : Option (Int32 × PH) := (rcv 11 x0 h).bind (fun u1 => (f_X13_givenMany x0 h).bind (fun q2 => (rcv 11 x0 q2.2).bind (fun u3 => (f_X13_shownMany x0 q2.2).bind (fun q4 => some (q2.1 + q4.1, q4.2)))))
theorem T_X13_clues {K : KT} {x0 : Option Nat} {h : PH} {q : (Int32 × PH)} (hf : f_X13_clues x0 h = some q) : T K mi_X13_clues [va_rf x0] h (.inl (some (.int q.1))) q.2 := by
  unfold f_X13_clues at hf
  refine T_of (by decide +kernel) rfl (C1_r C1_0) (Nat.le_of_ble_eq_true rfl) ?_
  show R K mi_X13_clues h [va_rf x0] _ _ 0 [(0, va_rf x0)] [] h
  refine R_aload_n 0 dX13_clues_0 rfl rfl ?_
  obtain ⟨u1, eu1, hf⟩ := Option.bind_eq_some_iff.mp hf
  obtain ⟨q2, eq2, hf⟩ := Option.bind_eq_some_iff.mp hf
  refine R_callV (mj := mi_X13_givenMany) (ci := 11) (q := (RX13, TX13, 24)) (As := []) (rest := []) (T_X13_givenMany eq2) eu1 rfl lV_X13_213 ⟨rfl, oky_X13_givenMany⟩ (by decide) (by decide) rfl C1_0 (Nat.le_of_ble_eq_true rfl) dX13_clues_1 ?_
  refine R_aload_n 0 dX13_clues_4 rfl rfl ?_
  obtain ⟨u3, eu3, hf⟩ := Option.bind_eq_some_iff.mp hf
  obtain ⟨q4, eq4, hf⟩ := Option.bind_eq_some_iff.mp hf
  refine R_callV (mj := mi_X13_shownMany) (ci := 11) (q := (RX13, TX13, 24)) (As := []) (rest := [.int q2.1]) (T_X13_shownMany eq4) eu3 rfl lV_X13_222 ⟨rfl, oky_X13_shownMany⟩ (by decide) (by decide) rfl (C1_i C1_0) (Nat.le_of_ble_eq_true rfl) dX13_clues_5 ?_
  refine R_iadd dX13_clues_8 ?_
  obtain rfl := Option.some.inj hf
  exact R_iretI rfl dX13_clues_9
theorem lV_X13_246 : GoodIn lw_all (wsV "EdgeSumsModel" 246 "EdgeSumsModel" yX13_clues (ws_ yX13_clues cX13_clues 1 (some FieldType.int))) := lw_V q2982 q2984 qs99 q158 q2985
theorem oky_X13_clues : okY yX13_clues 0 := ⟨by decide +kernel, by decide +kernel, by decide +kernel⟩
abbrev mi_X13_take : MI := (RX13, yX13_take, cX13_take, 4, (some FieldType.int), 4)
noncomputable def f_X13_take_L37  : Nat → Option Nat → Int32 → Int32 → PH → Option (Int32 × PH)
  | 0, _, _, _, _ => none
  | k + 1, x0, x2, x3, h => if 118 ≤ x3 then ((rcv 11 x0 h).bind (fun u1 => (f_X13_clues x0 h).bind (fun q2 => some (q2.1, q2.2)))) else ((gfr 11 1 x0 h).bind (fun t3 => (gfr 11 1 x0 h).bind (fun t4 => (ald 0 t4 x3 h).bind (fun t5 => (asi 0 t3 ((x2 + 1) + x3) t5 h).bind (fun h6 => (f_X13_take_L37 k) x0 x2 (x3 + 1) h6)))))
theorem f_X13_take_L37_ok {K : KT} {h0 : PH} {a0 : List Value} {q : (Int32 × PH)}  : ∀ (k : Nat) (x0 : Option Nat) (x2 : Int32) (x3 : Int32) (h : PH), f_X13_take_L37  k x0 x2 x3 h = some q → R K mi_X13_take h0 a0 (.inl (some (.int q.1))) q.2 37 [(0, va_rf x0), (2, .int x2), (3, .int x3)] [] h := by
  intro k
  induction k with
  | zero => intro _ _ _ _ hf; cases hf
  | succ k ih =>
    intro x0 x2 x3 h hf
    unfold f_X13_take_L37 at hf
    refine R_iload_n 2 dX13_take_37 rfl rfl ?_
    refine R_bipush dX13_take_38 k_bipush_118 ?_
    refine R_icge (tgt := 65) dX13_take_40 (by decide) (fun hc => ?_) (fun hc => ?_)
    · rw [if_pos hc] at hf
      refine R_aload_n 0 dX13_take_65 rfl rfl ?_
      obtain ⟨u1, eu1, hf⟩ := Option.bind_eq_some_iff.mp hf
      obtain ⟨q2, eq2, hf⟩ := Option.bind_eq_some_iff.mp hf
      refine R_callV (mj := mi_X13_clues) (ci := 11) (q := (RX13, TX13, 24)) (As := []) (rest := []) (T_X13_clues eq2) eu1 rfl lV_X13_246 ⟨rfl, oky_X13_clues⟩ (by decide) (by decide) rfl C1_0 (Nat.le_of_ble_eq_true rfl) dX13_take_66 ?_
      obtain rfl := Option.some.inj hf
      exact R_iretI rfl dX13_take_69
    · rw [if_neg hc] at hf
      refine R_aload_n 0 dX13_take_43 rfl rfl ?_
      obtain ⟨t3, et3, hf⟩ := Option.bind_eq_some_iff.mp hf
      refine R_getr lg_X13_7 et3 dX13_take_44 ?_
      refine R_iload_n 1 dX13_take_47 rfl rfl ?_
      refine R_iconst dX13_take_48 k_iconst_1 ?_
      refine R_iadd dX13_take_49 ?_
      refine R_iload_n 2 dX13_take_50 rfl rfl ?_
      refine R_iadd dX13_take_51 ?_
      refine R_aload_n 0 dX13_take_52 rfl rfl ?_
      obtain ⟨t4, et4, hf⟩ := Option.bind_eq_some_iff.mp hf
      refine R_getr lg_X13_7 et4 dX13_take_53 ?_
      refine R_iload_n 2 dX13_take_56 rfl rfl ?_
      obtain ⟨t5, et5, hf⟩ := Option.bind_eq_some_iff.mp hf
      refine R_iaload et5 dX13_take_57 ?_
      obtain ⟨h6, eh6, hf⟩ := Option.bind_eq_some_iff.mp hf
      refine R_iastore eh6 dX13_take_58 ?_
      refine R_iinc (L' := [(3, .int (x3 + 1)), (0, va_rf x0), (2, .int x2)]) 2 dX13_take_59 rfl (k_inc_1 _) (by decide) rfl ?_
      refine R_goto (tgt := 37) dX13_take_62 (by decide) ?_
      refine R.sub [1, 2, 0] (L' := [(0, va_rf x0), (2, .int x2), (3, .int (x3 + 1))]) rfl ?_
      exact ih x0 x2 (x3 + 1) h6 hf
noncomputable def f_X13_take (x0 : Option Nat) (x1 : Int32) (h : PH) : Option (Int32 × PH) := (pf 11 0 x0 (.int 0) h).bind (fun h1 => (f_X13_in x1 0 1 h1).bind (fun q2 => if q2.1 = 0 then (some ((-1), q2.2)) else ((rcv 11 x0 q2.2).bind (fun u3 => (f_X13_act x0 q2.2).bind (fun h4 => (gfr 11 1 x0 h4).bind (fun t5 => (asi 0 t5 (118 + (119 * x1)) 1 h4).bind (fun h6 => f_X13_take_L37  FU x0 (118 + (119 * x1)) 0 h6)))))))
theorem T_X13_take {K : KT} {x0 : Option Nat} {x1 : Int32} {h : PH} {q : (Int32 × PH)} (hf : f_X13_take x0 x1 h = some q) : T K mi_X13_take [va_rf x0, .int x1] h (.inl (some (.int q.1))) q.2 := by
  unfold f_X13_take at hf
  refine T_of (by decide +kernel) rfl (C1_r (C1_i C1_0)) (Nat.le_of_ble_eq_true rfl) ?_
  show R K mi_X13_take h [va_rf x0, .int x1] _ _ 0 [(0, va_rf x0), (1, .int x1)] [] h
  refine R_aload_n 0 dX13_take_0 rfl rfl ?_
  refine R_iconst dX13_take_1 k_iconst_0 ?_
  obtain ⟨h1, eh1, hf⟩ := Option.bind_eq_some_iff.mp hf
  refine R_putI (fp_X13_43 rfl) eh1 dX13_take_2 ?_
  refine R_iload_n 1 dX13_take_5 rfl rfl ?_
  refine R_iconst dX13_take_6 k_iconst_0 ?_
  refine R_iconst dX13_take_7 k_iconst_1 ?_
  obtain ⟨q2, eq2, hf⟩ := Option.bind_eq_some_iff.mp hf
  refine R_callS (mj := mi_X13_in) (As := [.int x1, .int 0, .int 1]) (rest := []) (T_X13_in eq2) lS_X13_65 oky_X13_in (by decide) (by decide) rfl C1_0 (Nat.le_of_ble_eq_true rfl) dX13_take_8 ?_
  refine R_ifne (tgt := 16) dX13_take_11 (by decide) (fun hc => ?_) (fun hc => ?_)
  · rw [if_pos hc] at hf
    refine R_iconst dX13_take_14 k_iconst_m1 ?_
    obtain rfl := Option.some.inj hf
    exact R_iretI rfl dX13_take_15
  · rw [if_neg hc] at hf
    refine R_aload_n 0 dX13_take_16 rfl rfl ?_
    obtain ⟨u3, eu3, hf⟩ := Option.bind_eq_some_iff.mp hf
    obtain ⟨h4, eh4, hf⟩ := Option.bind_eq_some_iff.mp hf
    refine R_callV (mj := mi_X13_act) (ci := 11) (q := (RX13, TX13, 24)) (As := []) (rest := []) (T_X13_act eh4) eu3 rfl lV_X13_102 ⟨rfl, oky_X13_act⟩ (by decide) (by decide) rfl C1_0 (Nat.le_of_ble_eq_true rfl) dX13_take_17 ?_
    refine R_bipush dX13_take_20 k_bipush_118 ?_
    refine R_bipush dX13_take_22 k_bipush_119 ?_
    refine R_iload_n 1 dX13_take_24 rfl rfl ?_
    refine R_imul dX13_take_25 ?_
    refine R_iadd dX13_take_26 ?_
    refine R_istore_n (L' := [(2, .int (118 + (119 * x1))), (0, va_rf x0), (1, .int x1)]) dX13_take_27 rfl (by decide) rfl ?_
    refine R_aload_n 1 dX13_take_28 rfl rfl ?_
    obtain ⟨t5, et5, hf⟩ := Option.bind_eq_some_iff.mp hf
    refine R_getr lg_X13_7 et5 dX13_take_29 ?_
    refine R_iload_n 0 dX13_take_32 rfl rfl ?_
    refine R_iconst dX13_take_33 k_iconst_1 ?_
    obtain ⟨h6, eh6, hf⟩ := Option.bind_eq_some_iff.mp hf
    refine R_iastore eh6 dX13_take_34 ?_
    refine R_iconst dX13_take_35 k_iconst_0 ?_
    refine R_istore_n (L' := [(3, .int 0), (2, .int (118 + (119 * x1))), (0, va_rf x0), (1, .int x1)]) dX13_take_36 rfl (by decide) rfl ?_
    refine R.sub [2, 1, 0] (L' := [(0, va_rf x0), (2, .int (118 + (119 * x1))), (3, .int 0)]) rfl ?_
    exact f_X13_take_L37_ok  FU x0 (118 + (119 * x1)) 0 h6 hf
abbrev mi_X13_restore : MI := (RX13, yX13_restore, cX13_restore, 4, (some FieldType.int), 4)
noncomputable def f_X13_restore_L42  : Nat → Option Nat → Int32 → Int32 → PH → Option (Int32 × PH)
  | 0, _, _, _, _ => none
  | k + 1, x0, x2, x3, h => if 118 ≤ x3 then ((rcv 11 x0 h).bind (fun u1 => (f_X13_clues x0 h).bind (fun q2 => some (q2.1, q2.2)))) else ((gfr 11 1 x0 h).bind (fun t3 => (gfr 11 1 x0 h).bind (fun t4 => (ald 0 t4 ((x2 + 1) + x3) h).bind (fun t5 => (asi 0 t3 x3 t5 h).bind (fun h6 => (f_X13_restore_L42 k) x0 x2 (x3 + 1) h6)))))
theorem f_X13_restore_L42_ok {K : KT} {h0 : PH} {a0 : List Value} {q : (Int32 × PH)}  : ∀ (k : Nat) (x0 : Option Nat) (x2 : Int32) (x3 : Int32) (h : PH), f_X13_restore_L42  k x0 x2 x3 h = some q → R K mi_X13_restore h0 a0 (.inl (some (.int q.1))) q.2 42 [(0, va_rf x0), (2, .int x2), (3, .int x3)] [] h := by
  intro k
  induction k with
  | zero => intro _ _ _ _ hf; cases hf
  | succ k ih =>
    intro x0 x2 x3 h hf
    unfold f_X13_restore_L42 at hf
    refine R_iload_n 2 dX13_restore_42 rfl rfl ?_
    refine R_bipush dX13_restore_43 k_bipush_118 ?_
    refine R_icge (tgt := 70) dX13_restore_45 (by decide) (fun hc => ?_) (fun hc => ?_)
    · rw [if_pos hc] at hf
      refine R_aload_n 0 dX13_restore_70 rfl rfl ?_
      obtain ⟨u1, eu1, hf⟩ := Option.bind_eq_some_iff.mp hf
      obtain ⟨q2, eq2, hf⟩ := Option.bind_eq_some_iff.mp hf
      refine R_callV (mj := mi_X13_clues) (ci := 11) (q := (RX13, TX13, 24)) (As := []) (rest := []) (T_X13_clues eq2) eu1 rfl lV_X13_246 ⟨rfl, oky_X13_clues⟩ (by decide) (by decide) rfl C1_0 (Nat.le_of_ble_eq_true rfl) dX13_restore_71 ?_
      obtain rfl := Option.some.inj hf
      exact R_iretI rfl dX13_restore_74
    · rw [if_neg hc] at hf
      refine R_aload_n 0 dX13_restore_48 rfl rfl ?_
      obtain ⟨t3, et3, hf⟩ := Option.bind_eq_some_iff.mp hf
      refine R_getr lg_X13_7 et3 dX13_restore_49 ?_
      refine R_iload_n 2 dX13_restore_52 rfl rfl ?_
      refine R_aload_n 0 dX13_restore_53 rfl rfl ?_
      obtain ⟨t4, et4, hf⟩ := Option.bind_eq_some_iff.mp hf
      refine R_getr lg_X13_7 et4 dX13_restore_54 ?_
      refine R_iload_n 1 dX13_restore_57 rfl rfl ?_
      refine R_iconst dX13_restore_58 k_iconst_1 ?_
      refine R_iadd dX13_restore_59 ?_
      refine R_iload_n 2 dX13_restore_60 rfl rfl ?_
      refine R_iadd dX13_restore_61 ?_
      obtain ⟨t5, et5, hf⟩ := Option.bind_eq_some_iff.mp hf
      refine R_iaload et5 dX13_restore_62 ?_
      obtain ⟨h6, eh6, hf⟩ := Option.bind_eq_some_iff.mp hf
      refine R_iastore eh6 dX13_restore_63 ?_
      refine R_iinc (L' := [(3, .int (x3 + 1)), (0, va_rf x0), (2, .int x2)]) 2 dX13_restore_64 rfl (k_inc_1 _) (by decide) rfl ?_
      refine R_goto (tgt := 42) dX13_restore_67 (by decide) ?_
      refine R.sub [1, 2, 0] (L' := [(0, va_rf x0), (2, .int x2), (3, .int (x3 + 1))]) rfl ?_
      exact ih x0 x2 (x3 + 1) h6 hf
noncomputable def f_X13_restore (x0 : Option Nat) (x1 : Int32) (h : PH) : Option (Int32 × PH) := (pf 11 0 x0 (.int 0) h).bind (fun h1 => (f_X13_in x1 0 1 h1).bind (fun q2 => if q2.1 = 0 then (some ((-1), q2.2)) else ((gfr 11 1 x0 q2.2).bind (fun t3 => (ald 0 t3 (118 + (119 * x1)) q2.2).bind (fun t4 => if t4 = 0 then (some ((-2), q2.2)) else ((rcv 11 x0 q2.2).bind (fun u5 => (f_X13_act x0 q2.2).bind (fun h6 => f_X13_restore_L42  FU x0 (118 + (119 * x1)) 0 h6))))))))
theorem T_X13_restore {K : KT} {x0 : Option Nat} {x1 : Int32} {h : PH} {q : (Int32 × PH)} (hf : f_X13_restore x0 x1 h = some q) : T K mi_X13_restore [va_rf x0, .int x1] h (.inl (some (.int q.1))) q.2 := by
  unfold f_X13_restore at hf
  refine T_of (by decide +kernel) rfl (C1_r (C1_i C1_0)) (Nat.le_of_ble_eq_true rfl) ?_
  show R K mi_X13_restore h [va_rf x0, .int x1] _ _ 0 [(0, va_rf x0), (1, .int x1)] [] h
  refine R_aload_n 0 dX13_restore_0 rfl rfl ?_
  refine R_iconst dX13_restore_1 k_iconst_0 ?_
  obtain ⟨h1, eh1, hf⟩ := Option.bind_eq_some_iff.mp hf
  refine R_putI (fp_X13_43 rfl) eh1 dX13_restore_2 ?_
  refine R_iload_n 1 dX13_restore_5 rfl rfl ?_
  refine R_iconst dX13_restore_6 k_iconst_0 ?_
  refine R_iconst dX13_restore_7 k_iconst_1 ?_
  obtain ⟨q2, eq2, hf⟩ := Option.bind_eq_some_iff.mp hf
  refine R_callS (mj := mi_X13_in) (As := [.int x1, .int 0, .int 1]) (rest := []) (T_X13_in eq2) lS_X13_65 oky_X13_in (by decide) (by decide) rfl C1_0 (Nat.le_of_ble_eq_true rfl) dX13_restore_8 ?_
  refine R_ifne (tgt := 16) dX13_restore_11 (by decide) (fun hc => ?_) (fun hc => ?_)
  · rw [if_pos hc] at hf
    refine R_iconst dX13_restore_14 k_iconst_m1 ?_
    obtain rfl := Option.some.inj hf
    exact R_iretI rfl dX13_restore_15
  · rw [if_neg hc] at hf
    refine R_bipush dX13_restore_16 k_bipush_118 ?_
    refine R_bipush dX13_restore_18 k_bipush_119 ?_
    refine R_iload_n 1 dX13_restore_20 rfl rfl ?_
    refine R_imul dX13_restore_21 ?_
    refine R_iadd dX13_restore_22 ?_
    refine R_istore_n (L' := [(2, .int (118 + (119 * x1))), (0, va_rf x0), (1, .int x1)]) dX13_restore_23 rfl (by decide) rfl ?_
    refine R_aload_n 1 dX13_restore_24 rfl rfl ?_
    obtain ⟨t3, et3, hf⟩ := Option.bind_eq_some_iff.mp hf
    refine R_getr lg_X13_7 et3 dX13_restore_25 ?_
    refine R_iload_n 0 dX13_restore_28 rfl rfl ?_
    obtain ⟨t4, et4, hf⟩ := Option.bind_eq_some_iff.mp hf
    refine R_iaload et4 dX13_restore_29 ?_
    refine R_ifne (tgt := 36) dX13_restore_30 (by decide) (fun hc => ?_) (fun hc => ?_)
    · rw [if_pos hc] at hf
      refine R_bipush dX13_restore_33 k_bipush_m2 ?_
      obtain rfl := Option.some.inj hf
      exact R_iretI rfl dX13_restore_35
    · rw [if_neg hc] at hf
      refine R_aload_n 1 dX13_restore_36 rfl rfl ?_
      obtain ⟨u5, eu5, hf⟩ := Option.bind_eq_some_iff.mp hf
      obtain ⟨h6, eh6, hf⟩ := Option.bind_eq_some_iff.mp hf
      refine R_callV (mj := mi_X13_act) (ci := 11) (q := (RX13, TX13, 24)) (As := []) (rest := []) (T_X13_act eh6) eu5 rfl lV_X13_102 ⟨rfl, oky_X13_act⟩ (by decide) (by decide) rfl C1_0 (Nat.le_of_ble_eq_true rfl) dX13_restore_37 ?_
      refine R_iconst dX13_restore_40 k_iconst_0 ?_
      refine R_istore_n (L' := [(3, .int 0), (2, .int (118 + (119 * x1))), (0, va_rf x0), (1, .int x1)]) dX13_restore_41 rfl (by decide) rfl ?_
      refine R.sub [2, 1, 0] (L' := [(0, va_rf x0), (2, .int (118 + (119 * x1))), (3, .int 0)]) rfl ?_
      exact f_X13_restore_L42_ok  FU x0 (118 + (119 * x1)) 0 h6 hf
abbrev mi_X13_undo : MI := (RX13, yX13_undo, cX13_undo, 2, (some FieldType.int), 1)
noncomputable def f_X13_undo_L27  : Nat → Option Nat → Int32 → PH → Option (Int32 × PH)
  | 0, _, _, _ => none
  | k + 1, x0, x1, h => if 356 ≤ x1 then ((gfi 11 4 x0 h).bind (fun t1 => some (t1, h))) else ((gfr 11 1 x0 h).bind (fun t2 => (gfr 11 3 x0 h).bind (fun t3 => (gfi 11 4 x0 h).bind (fun t4 => (ald 0 t3 ((356 * t4) + x1) h).bind (fun t5 => (asi 0 t2 x1 t5 h).bind (fun h6 => (f_X13_undo_L27 k) x0 (x1 + 1) h6))))))
theorem f_X13_undo_L27_ok {K : KT} {h0 : PH} {a0 : List Value} {q : (Int32 × PH)}  : ∀ (k : Nat) (x0 : Option Nat) (x1 : Int32) (h : PH), f_X13_undo_L27  k x0 x1 h = some q → R K mi_X13_undo h0 a0 (.inl (some (.int q.1))) q.2 27 [(0, va_rf x0), (1, .int x1)] [] h := by
  intro k
  induction k with
  | zero => intro _ _ _ hf; cases hf
  | succ k ih =>
    intro x0 x1 h hf
    unfold f_X13_undo_L27 at hf
    refine R_iload_n 1 dX13_undo_27 rfl rfl ?_
    refine R_sipush dX13_undo_28 k_sipush_356 ?_
    refine R_icge (tgt := 61) dX13_undo_31 (by decide) (fun hc => ?_) (fun hc => ?_)
    · rw [if_pos hc] at hf
      refine R_aload_n 0 dX13_undo_61 rfl rfl ?_
      obtain ⟨t1, et1, hf⟩ := Option.bind_eq_some_iff.mp hf
      refine R_geti lg_X13_58 et1 dX13_undo_62 ?_
      obtain rfl := Option.some.inj hf
      exact R_iretI rfl dX13_undo_65
    · rw [if_neg hc] at hf
      refine R_aload_n 0 dX13_undo_34 rfl rfl ?_
      obtain ⟨t2, et2, hf⟩ := Option.bind_eq_some_iff.mp hf
      refine R_getr lg_X13_7 et2 dX13_undo_35 ?_
      refine R_iload_n 1 dX13_undo_38 rfl rfl ?_
      refine R_aload_n 0 dX13_undo_39 rfl rfl ?_
      obtain ⟨t3, et3, hf⟩ := Option.bind_eq_some_iff.mp hf
      refine R_getr lg_X13_16 et3 dX13_undo_40 ?_
      refine R_sipush dX13_undo_43 k_sipush_356 ?_
      refine R_aload_n 0 dX13_undo_46 rfl rfl ?_
      obtain ⟨t4, et4, hf⟩ := Option.bind_eq_some_iff.mp hf
      refine R_geti lg_X13_58 et4 dX13_undo_47 ?_
      refine R_imul dX13_undo_50 ?_
      refine R_iload_n 1 dX13_undo_51 rfl rfl ?_
      refine R_iadd dX13_undo_52 ?_
      obtain ⟨t5, et5, hf⟩ := Option.bind_eq_some_iff.mp hf
      refine R_iaload et5 dX13_undo_53 ?_
      obtain ⟨h6, eh6, hf⟩ := Option.bind_eq_some_iff.mp hf
      refine R_iastore eh6 dX13_undo_54 ?_
      refine R_iinc (L' := [(1, .int (x1 + 1)), (0, va_rf x0)]) 1 dX13_undo_55 rfl (k_inc_1 _) (by decide) rfl ?_
      refine R_goto (tgt := 27) dX13_undo_58 (by decide) ?_
      refine R.sub [1, 0] (L' := [(0, va_rf x0), (1, .int (x1 + 1))]) rfl ?_
      exact ih x0 (x1 + 1) h6 hf
noncomputable def f_X13_undo (x0 : Option Nat) (h : PH) : Option (Int32 × PH) := (pf 11 0 x0 (.int 0) h).bind (fun h1 => (gfi 11 4 x0 h1).bind (fun t2 => if t2 = 0 then (some ((-2), h1)) else ((gfi 11 4 x0 h1).bind (fun t3 => (pf 11 4 x0 (.int (t3 - 1)) h1).bind (fun h4 => f_X13_undo_L27  FU x0 0 h4)))))
theorem T_X13_undo {K : KT} {x0 : Option Nat} {h : PH} {q : (Int32 × PH)} (hf : f_X13_undo x0 h = some q) : T K mi_X13_undo [va_rf x0] h (.inl (some (.int q.1))) q.2 := by
  unfold f_X13_undo at hf
  refine T_of (by decide +kernel) rfl (C1_r C1_0) (Nat.le_of_ble_eq_true rfl) ?_
  show R K mi_X13_undo h [va_rf x0] _ _ 0 [(0, va_rf x0)] [] h
  refine R_aload_n 0 dX13_undo_0 rfl rfl ?_
  refine R_iconst dX13_undo_1 k_iconst_0 ?_
  obtain ⟨h1, eh1, hf⟩ := Option.bind_eq_some_iff.mp hf
  refine R_putI (fp_X13_43 rfl) eh1 dX13_undo_2 ?_
  refine R_aload_n 0 dX13_undo_5 rfl rfl ?_
  obtain ⟨t2, et2, hf⟩ := Option.bind_eq_some_iff.mp hf
  refine R_geti lg_X13_58 et2 dX13_undo_6 ?_
  refine R_ifne (tgt := 15) dX13_undo_9 (by decide) (fun hc => ?_) (fun hc => ?_)
  · rw [if_pos hc] at hf
    refine R_bipush dX13_undo_12 k_bipush_m2 ?_
    obtain rfl := Option.some.inj hf
    exact R_iretI rfl dX13_undo_14
  · rw [if_neg hc] at hf
    refine R_aload_n 0 dX13_undo_15 rfl rfl ?_
    refine R_dup dX13_undo_16 (rf_cat _) ?_
    obtain ⟨t3, et3, hf⟩ := Option.bind_eq_some_iff.mp hf
    refine R_geti lg_X13_58 et3 dX13_undo_17 ?_
    refine R_iconst dX13_undo_20 k_iconst_1 ?_
    refine R_isub dX13_undo_21 ?_
    obtain ⟨h4, eh4, hf⟩ := Option.bind_eq_some_iff.mp hf
    refine R_putI (fp_X13_58 rfl) eh4 dX13_undo_22 ?_
    refine R_iconst dX13_undo_25 k_iconst_0 ?_
    refine R_istore_n (L' := [(1, .int 0), (0, va_rf x0)]) dX13_undo_26 rfl (by decide) rfl ?_
    refine R.sub [1, 0] (L' := [(0, va_rf x0), (1, .int 0)]) rfl ?_
    exact f_X13_undo_L27_ok  FU x0 0 h4 hf
theorem lg_X13_249 : LG "EdgeSumsModel" 249 11 6 := ⟨_, _, _, ck_11, by decide, Or.inl q2657⟩
theorem lg_X13_19 : LG "EdgeSumsModel" 19 11 5 := ⟨_, _, _, ck_11, by decide, Or.inl q2656⟩
theorem fp_X13_249 {mi : MI} (ho : mi.own = "EdgeSumsModel") : FP mi 249 11 6 .int := ⟨_, _, _, ck_11, by decide, by decide +kernel, Or.inl ⟨rfl, by rw [ho]; exact Or.inl q2657⟩⟩
abbrev mi_X13_append : MI := (RX13, yX13_append, cX13_append, 2, (some FieldType.int), 2)
noncomputable def f_X13_append (x0 : Option Nat) (x1 : Int32) (h : PH) : Option (Int32 × PH) := (pf 11 0 x0 (.int 0) h).bind (fun h1 => (f_X13_in x1 1 255 h1).bind (fun q2 => if q2.1 = 0 then (some ((-1), q2.2)) else ((gfi 11 6 x0 q2.2).bind (fun t3 => if t3 = 140 then (some ((-3), q2.2)) else ((gfr 11 5 x0 q2.2).bind (fun t4 => (gfi 11 6 x0 q2.2).bind (fun t5 => (asi 0 t4 t5 x1 q2.2).bind (fun h6 => (gfi 11 6 x0 h6).bind (fun t7 => (pf 11 6 x0 (.int (t7 + 1)) h6).bind (fun h8 => (gfi 11 6 x0 h8).bind (fun t9 => some (t9, h8))))))))))))
theorem T_X13_append {K : KT} {x0 : Option Nat} {x1 : Int32} {h : PH} {q : (Int32 × PH)} (hf : f_X13_append x0 x1 h = some q) : T K mi_X13_append [va_rf x0, .int x1] h (.inl (some (.int q.1))) q.2 := by
  unfold f_X13_append at hf
  refine T_of (by decide +kernel) rfl (C1_r (C1_i C1_0)) (Nat.le_of_ble_eq_true rfl) ?_
  show R K mi_X13_append h [va_rf x0, .int x1] _ _ 0 [(0, va_rf x0), (1, .int x1)] [] h
  refine R_aload_n 0 dX13_append_0 rfl rfl ?_
  refine R_iconst dX13_append_1 k_iconst_0 ?_
  obtain ⟨h1, eh1, hf⟩ := Option.bind_eq_some_iff.mp hf
  refine R_putI (fp_X13_43 rfl) eh1 dX13_append_2 ?_
  refine R_iload_n 1 dX13_append_5 rfl rfl ?_
  refine R_iconst dX13_append_6 k_iconst_1 ?_
  refine R_sipush dX13_append_7 k_sipush_255 ?_
  obtain ⟨q2, eq2, hf⟩ := Option.bind_eq_some_iff.mp hf
  refine R_callS (mj := mi_X13_in) (As := [.int x1, .int 1, .int 255]) (rest := []) (T_X13_in eq2) lS_X13_65 oky_X13_in (by decide) (by decide) rfl C1_0 (Nat.le_of_ble_eq_true rfl) dX13_append_10 ?_
  refine R_ifne (tgt := 18) dX13_append_13 (by decide) (fun hc => ?_) (fun hc => ?_)
  · rw [if_pos hc] at hf
    refine R_iconst dX13_append_16 k_iconst_m1 ?_
    obtain rfl := Option.some.inj hf
    exact R_iretI rfl dX13_append_17
  · rw [if_neg hc] at hf
    refine R_aload_n 0 dX13_append_18 rfl rfl ?_
    obtain ⟨t3, et3, hf⟩ := Option.bind_eq_some_iff.mp hf
    refine R_geti lg_X13_249 et3 dX13_append_19 ?_
    refine R_sipush dX13_append_22 k_sipush_140 ?_
    refine R_icne (tgt := 31) dX13_append_25 (by decide) (fun hc => ?_) (fun hc => ?_)
    · rw [if_pos hc] at hf
      refine R_bipush dX13_append_28 k_bipush_m3 ?_
      obtain rfl := Option.some.inj hf
      exact R_iretI rfl dX13_append_30
    · rw [if_neg hc] at hf
      refine R_aload_n 0 dX13_append_31 rfl rfl ?_
      obtain ⟨t4, et4, hf⟩ := Option.bind_eq_some_iff.mp hf
      refine R_getr lg_X13_19 et4 dX13_append_32 ?_
      refine R_aload_n 0 dX13_append_35 rfl rfl ?_
      obtain ⟨t5, et5, hf⟩ := Option.bind_eq_some_iff.mp hf
      refine R_geti lg_X13_249 et5 dX13_append_36 ?_
      refine R_iload_n 1 dX13_append_39 rfl rfl ?_
      obtain ⟨h6, eh6, hf⟩ := Option.bind_eq_some_iff.mp hf
      refine R_iastore eh6 dX13_append_40 ?_
      refine R_aload_n 0 dX13_append_41 rfl rfl ?_
      refine R_dup dX13_append_42 (rf_cat _) ?_
      obtain ⟨t7, et7, hf⟩ := Option.bind_eq_some_iff.mp hf
      refine R_geti lg_X13_249 et7 dX13_append_43 ?_
      refine R_iconst dX13_append_46 k_iconst_1 ?_
      refine R_iadd dX13_append_47 ?_
      obtain ⟨h8, eh8, hf⟩ := Option.bind_eq_some_iff.mp hf
      refine R_putI (fp_X13_249 rfl) eh8 dX13_append_48 ?_
      refine R_aload_n 0 dX13_append_51 rfl rfl ?_
      obtain ⟨t9, et9, hf⟩ := Option.bind_eq_some_iff.mp hf
      refine R_geti lg_X13_249 et9 dX13_append_52 ?_
      obtain rfl := Option.some.inj hf
      exact R_iretI rfl dX13_append_55
abbrev mi_X13_clearText : MI := (RX13, yX13_clearText, cX13_clearText, 2, (some FieldType.int), 1)
noncomputable def f_X13_clearText (x0 : Option Nat) (h : PH) : Option (Int32 × PH) := (pf 11 0 x0 (.int 0) h).bind (fun h1 => (gfi 11 6 x0 h1).bind (fun t2 => (pf 11 6 x0 (.int 0) h1).bind (fun h3 => some (t2, h3))))
theorem T_X13_clearText {K : KT} {x0 : Option Nat} {h : PH} {q : (Int32 × PH)} (hf : f_X13_clearText x0 h = some q) : T K mi_X13_clearText [va_rf x0] h (.inl (some (.int q.1))) q.2 := by
  unfold f_X13_clearText at hf
  refine T_of (by decide +kernel) rfl (C1_r C1_0) (Nat.le_of_ble_eq_true rfl) ?_
  show R K mi_X13_clearText h [va_rf x0] _ _ 0 [(0, va_rf x0)] [] h
  refine R_aload_n 0 dX13_clearText_0 rfl rfl ?_
  refine R_iconst dX13_clearText_1 k_iconst_0 ?_
  obtain ⟨h1, eh1, hf⟩ := Option.bind_eq_some_iff.mp hf
  refine R_putI (fp_X13_43 rfl) eh1 dX13_clearText_2 ?_
  refine R_aload_n 0 dX13_clearText_5 rfl rfl ?_
  obtain ⟨t2, et2, hf⟩ := Option.bind_eq_some_iff.mp hf
  refine R_geti lg_X13_249 et2 dX13_clearText_6 ?_
  refine R_istore_n (L' := [(1, .int t2), (0, va_rf x0)]) dX13_clearText_9 rfl (by decide) rfl ?_
  refine R_aload_n 1 dX13_clearText_10 rfl rfl ?_
  refine R_iconst dX13_clearText_11 k_iconst_0 ?_
  obtain ⟨h3, eh3, hf⟩ := Option.bind_eq_some_iff.mp hf
  refine R_putI (fp_X13_249 rfl) eh3 dX13_clearText_12 ?_
  refine R_iload_n 0 dX13_clearText_15 rfl rfl ?_
  obtain rfl := Option.some.inj hf
  exact R_iretI rfl dX13_clearText_16
abbrev mi_X13_at : MI := (RX13, yX13_at, cX13_at, 2, (some FieldType.int), 1)
noncomputable def f_X13_at (x0 : Option Nat) (x1 : Int32) (h : PH) : Option (Int32 × PH) := (gfi 11 6 x0 h).bind (fun t1 => if t1 ≤ x1 then (some (0, h)) else ((gfr 11 5 x0 h).bind (fun t2 => (ald 0 t2 x1 h).bind (fun t3 => some (t3, h)))))
theorem T_X13_at {K : KT} {x0 : Option Nat} {x1 : Int32} {h : PH} {q : (Int32 × PH)} (hf : f_X13_at x0 x1 h = some q) : T K mi_X13_at [va_rf x0, .int x1] h (.inl (some (.int q.1))) q.2 := by
  unfold f_X13_at at hf
  refine T_of (by decide +kernel) rfl (C1_r (C1_i C1_0)) (Nat.le_of_ble_eq_true rfl) ?_
  show R K mi_X13_at h [va_rf x0, .int x1] _ _ 0 [(0, va_rf x0), (1, .int x1)] [] h
  refine R_iload_n 1 dX13_at_0 rfl rfl ?_
  refine R_aload_n 0 dX13_at_1 rfl rfl ?_
  obtain ⟨t1, et1, hf⟩ := Option.bind_eq_some_iff.mp hf
  refine R_geti lg_X13_249 et1 dX13_at_2 ?_
  refine R_icge (tgt := 17) dX13_at_5 (by decide) (fun hc => ?_) (fun hc => ?_)
  · rw [if_pos hc] at hf
    refine R_iconst dX13_at_17 k_iconst_0 ?_
    obtain rfl := Option.some.inj hf
    exact R_iretI rfl dX13_at_18
  · rw [if_neg hc] at hf
    refine R_aload_n 0 dX13_at_8 rfl rfl ?_
    obtain ⟨t2, et2, hf⟩ := Option.bind_eq_some_iff.mp hf
    refine R_getr lg_X13_19 et2 dX13_at_9 ?_
    refine R_iload_n 1 dX13_at_12 rfl rfl ?_
    obtain ⟨t3, et3, hf⟩ := Option.bind_eq_some_iff.mp hf
    refine R_iaload et3 dX13_at_13 ?_
    refine R_goto (tgt := 18) dX13_at_14 (by decide) ?_
    obtain rfl := Option.some.inj hf
    exact R_iretI rfl dX13_at_18
theorem lg_X13_252 : LG "EdgeSumsModel" 252 11 22 := ⟨_, _, _, ck_11, by decide, Or.inl q2673⟩
theorem fp_X13_255 {mi : MI} (ho : mi.own = "EdgeSumsModel") : FP mi 255 11 21 .int := ⟨_, _, _, ck_11, by decide, by decide +kernel, Or.inl ⟨rfl, by rw [ho]; exact Or.inl q2672⟩⟩
theorem lg_X13_255 : LG "EdgeSumsModel" 255 11 21 := ⟨_, _, _, ck_11, by decide, Or.inl q2672⟩
theorem lV_X13_258 : GoodIn lw_all (wsV "EdgeSumsModel" 258 "EdgeSumsModel" yX13_at (ws_ yX13_at cX13_at 2 (some FieldType.int))) := lw_V q3010 q3012 qs101 q158 q3013
theorem oky_X13_at : okY yX13_at 1 := ⟨by decide +kernel, by decide +kernel, by decide +kernel⟩
theorem fp_X13_252 {mi : MI} (ho : mi.own = "EdgeSumsModel") : FP mi 252 11 22 .int := ⟨_, _, _, ck_11, by decide, by decide +kernel, Or.inl ⟨rfl, by rw [ho]; exact Or.inl q2673⟩⟩
theorem fp_X13_261 {mi : MI} (ho : mi.own = "EdgeSumsModel") : FP mi 261 11 20 .int := ⟨_, _, _, ck_11, by decide, by decide +kernel, Or.inl ⟨rfl, by rw [ho]; exact Or.inl q2671⟩⟩
abbrev mi_X13_goOn : MI := (RX13, yX13_goOn, cX13_goOn, 1, none, 2)
noncomputable def f_X13_goOn_B191  (s0 : Option Nat) (s1 : Int32) (s2 : Int32) (h : PH) : Option PH := (pf 11 22 s0 (.int (s1 + s2)) h).bind (fun h1 => some h1)
theorem f_X13_goOn_B191_ok {K : KT} {h0 : PH} {a0 : List Value} {q : PH}  (s0 : Option Nat) (s1 : Int32) (s2 : Int32) (h : PH) (hf : f_X13_goOn_B191  s0 s1 s2 h = some q) : R K mi_X13_goOn h0 a0 (.inl none) q 191 [] [.int s2, .int s1, va_rf s0] h := by
  unfold f_X13_goOn_B191 at hf
  refine R_iadd dX13_goOn_191 ?_
  obtain ⟨h1, eh1, hf⟩ := Option.bind_eq_some_iff.mp hf
  refine R_putI (fp_X13_252 rfl) eh1 dX13_goOn_192 ?_
  obtain rfl := Option.some.inj hf
  exact R_return rfl dX13_goOn_195
noncomputable def f_X13_goOn_B167  (x0 : Option Nat) (s0 : Option Nat) (s1 : Int32) (h : PH) : Option PH := (pf 11 20 s0 (.int s1) h).bind (fun h1 => (gfi 11 22 x0 h1).bind (fun t2 => (gfi 11 21 x0 h1).bind (fun t3 => (gfi 11 6 x0 h1).bind (fun t4 => if t4 ≤ t3 then (f_X13_goOn_B191  x0 t2 0 h1) else (f_X13_goOn_B191  x0 t2 1 h1)))))
theorem f_X13_goOn_B167_ok {K : KT} {h0 : PH} {a0 : List Value} {q : PH}  (x0 : Option Nat) (s0 : Option Nat) (s1 : Int32) (h : PH) (hf : f_X13_goOn_B167  x0 s0 s1 h = some q) : R K mi_X13_goOn h0 a0 (.inl none) q 167 [(0, va_rf x0)] [.int s1, va_rf s0] h := by
  unfold f_X13_goOn_B167 at hf
  obtain ⟨h1, eh1, hf⟩ := Option.bind_eq_some_iff.mp hf
  refine R_putI (fp_X13_261 rfl) eh1 dX13_goOn_167 ?_
  refine R_aload_n 0 dX13_goOn_170 rfl rfl ?_
  refine R_dup dX13_goOn_171 (rf_cat _) ?_
  obtain ⟨t2, et2, hf⟩ := Option.bind_eq_some_iff.mp hf
  refine R_geti lg_X13_252 et2 dX13_goOn_172 ?_
  refine R_aload_n 0 dX13_goOn_175 rfl rfl ?_
  obtain ⟨t3, et3, hf⟩ := Option.bind_eq_some_iff.mp hf
  refine R_geti lg_X13_255 et3 dX13_goOn_176 ?_
  refine R_aload_n 0 dX13_goOn_179 rfl rfl ?_
  obtain ⟨t4, et4, hf⟩ := Option.bind_eq_some_iff.mp hf
  refine R_geti lg_X13_249 et4 dX13_goOn_180 ?_
  refine R_icge (tgt := 190) dX13_goOn_183 (by decide) (fun hc => ?_) (fun hc => ?_)
  · rw [if_pos hc] at hf
    refine R_iconst dX13_goOn_190 k_iconst_0 ?_
    refine R.sub [] (L' := []) rfl ?_
    exact f_X13_goOn_B191_ok  x0 t2 0 h1 hf
  · rw [if_neg hc] at hf
    refine R_iconst dX13_goOn_186 k_iconst_1 ?_
    refine R_goto (tgt := 191) dX13_goOn_187 (by decide) ?_
    refine R.sub [] (L' := []) rfl ?_
    exact f_X13_goOn_B191_ok  x0 t2 1 h1 hf
noncomputable def f_X13_goOn_L119  : Nat → Option Nat → PH → Option PH
  | 0, _, _ => none
  | k + 1, x0, h => (gfi 11 22 x0 h).bind (fun t1 => (rcv 11 x0 h).bind (fun u2 => (f_X13_at x0 t1 h).bind (fun q3 => (f_X13_in q3.1 48 57 q3.2).bind (fun q4 => if q4.1 = 0 then (some q4.2) else ((gfi 11 22 x0 q4.2).bind (fun t5 => (pf 11 22 x0 (.int (t5 + 1)) q4.2).bind (fun h6 => (f_X13_goOn_L119 k) x0 h6)))))))
theorem f_X13_goOn_L119_ok {K : KT} {h0 : PH} {a0 : List Value} {q : PH}  : ∀ (k : Nat) (x0 : Option Nat) (h : PH), f_X13_goOn_L119  k x0 h = some q → R K mi_X13_goOn h0 a0 (.inl none) q 119 [(0, va_rf x0)] [] h := by
  intro k
  induction k with
  | zero => intro _ _ hf; cases hf
  | succ k ih =>
    intro x0 h hf
    unfold f_X13_goOn_L119 at hf
    refine R_aload_n 0 dX13_goOn_119 rfl rfl ?_
    refine R_aload_n 0 dX13_goOn_120 rfl rfl ?_
    obtain ⟨t1, et1, hf⟩ := Option.bind_eq_some_iff.mp hf
    refine R_geti lg_X13_252 et1 dX13_goOn_121 ?_
    obtain ⟨u2, eu2, hf⟩ := Option.bind_eq_some_iff.mp hf
    obtain ⟨q3, eq3, hf⟩ := Option.bind_eq_some_iff.mp hf
    refine R_callV (mj := mi_X13_at) (ci := 11) (q := (RX13, TX13, 24)) (As := [.int t1]) (rest := []) (T_X13_at eq3) eu2 rfl lV_X13_258 ⟨rfl, oky_X13_at⟩ (by decide) (by decide) rfl C1_0 (Nat.le_of_ble_eq_true rfl) dX13_goOn_124 ?_
    refine R_bipush dX13_goOn_127 k_bipush_48 ?_
    refine R_bipush dX13_goOn_129 k_bipush_57 ?_
    obtain ⟨q4, eq4, hf⟩ := Option.bind_eq_some_iff.mp hf
    refine R_callS (mj := mi_X13_in) (As := [.int q3.1, .int 48, .int 57]) (rest := []) (T_X13_in eq4) lS_X13_65 oky_X13_in (by decide) (by decide) rfl C1_0 (Nat.le_of_ble_eq_true rfl) dX13_goOn_131 ?_
    refine R_ifeq (tgt := 195) dX13_goOn_134 (by decide) (fun hc => ?_) (fun hc => ?_)
    · rw [if_pos hc] at hf
      obtain rfl := Option.some.inj hf
      exact R_return rfl dX13_goOn_195
    · rw [if_neg hc] at hf
      refine R_aload_n 0 dX13_goOn_137 rfl rfl ?_
      refine R_dup dX13_goOn_138 (rf_cat _) ?_
      obtain ⟨t5, et5, hf⟩ := Option.bind_eq_some_iff.mp hf
      refine R_geti lg_X13_252 et5 dX13_goOn_139 ?_
      refine R_iconst dX13_goOn_142 k_iconst_1 ?_
      refine R_iadd dX13_goOn_143 ?_
      obtain ⟨h6, eh6, hf⟩ := Option.bind_eq_some_iff.mp hf
      refine R_putI (fp_X13_252 rfl) eh6 dX13_goOn_144 ?_
      refine R_goto (tgt := 119) dX13_goOn_147 (by decide) ?_
      exact ih x0 h6 hf
noncomputable def f_X13_goOn_L65  : Nat → Option Nat → PH → Option PH
  | 0, _, _ => none
  | k + 1, x0, h => (gfi 11 22 x0 h).bind (fun t1 => (rcv 11 x0 h).bind (fun u2 => (f_X13_at x0 t1 h).bind (fun q3 => (f_X13_in q3.1 97 122 q3.2).bind (fun q4 => if q4.1 = 0 then (some q4.2) else ((gfi 11 22 x0 q4.2).bind (fun t5 => (pf 11 22 x0 (.int (t5 + 1)) q4.2).bind (fun h6 => (f_X13_goOn_L65 k) x0 h6)))))))
theorem f_X13_goOn_L65_ok {K : KT} {h0 : PH} {a0 : List Value} {q : PH}  : ∀ (k : Nat) (x0 : Option Nat) (h : PH), f_X13_goOn_L65  k x0 h = some q → R K mi_X13_goOn h0 a0 (.inl none) q 65 [(0, va_rf x0)] [] h := by
  intro k
  induction k with
  | zero => intro _ _ hf; cases hf
  | succ k ih =>
    intro x0 h hf
    unfold f_X13_goOn_L65 at hf
    refine R_aload_n 0 dX13_goOn_65 rfl rfl ?_
    refine R_aload_n 0 dX13_goOn_66 rfl rfl ?_
    obtain ⟨t1, et1, hf⟩ := Option.bind_eq_some_iff.mp hf
    refine R_geti lg_X13_252 et1 dX13_goOn_67 ?_
    obtain ⟨u2, eu2, hf⟩ := Option.bind_eq_some_iff.mp hf
    obtain ⟨q3, eq3, hf⟩ := Option.bind_eq_some_iff.mp hf
    refine R_callV (mj := mi_X13_at) (ci := 11) (q := (RX13, TX13, 24)) (As := [.int t1]) (rest := []) (T_X13_at eq3) eu2 rfl lV_X13_258 ⟨rfl, oky_X13_at⟩ (by decide) (by decide) rfl C1_0 (Nat.le_of_ble_eq_true rfl) dX13_goOn_70 ?_
    refine R_bipush dX13_goOn_73 k_bipush_97 ?_
    refine R_bipush dX13_goOn_75 k_bipush_122 ?_
    obtain ⟨q4, eq4, hf⟩ := Option.bind_eq_some_iff.mp hf
    refine R_callS (mj := mi_X13_in) (As := [.int q3.1, .int 97, .int 122]) (rest := []) (T_X13_in eq4) lS_X13_65 oky_X13_in (by decide) (by decide) rfl C1_0 (Nat.le_of_ble_eq_true rfl) dX13_goOn_77 ?_
    refine R_ifeq (tgt := 195) dX13_goOn_80 (by decide) (fun hc => ?_) (fun hc => ?_)
    · rw [if_pos hc] at hf
      obtain rfl := Option.some.inj hf
      exact R_return rfl dX13_goOn_195
    · rw [if_neg hc] at hf
      refine R_aload_n 0 dX13_goOn_83 rfl rfl ?_
      refine R_dup dX13_goOn_84 (rf_cat _) ?_
      obtain ⟨t5, et5, hf⟩ := Option.bind_eq_some_iff.mp hf
      refine R_geti lg_X13_252 et5 dX13_goOn_85 ?_
      refine R_iconst dX13_goOn_88 k_iconst_1 ?_
      refine R_iadd dX13_goOn_89 ?_
      obtain ⟨h6, eh6, hf⟩ := Option.bind_eq_some_iff.mp hf
      refine R_putI (fp_X13_252 rfl) eh6 dX13_goOn_90 ?_
      refine R_goto (tgt := 65) dX13_goOn_93 (by decide) ?_
      exact ih x0 h6 hf
noncomputable def f_X13_goOn_L8  : Nat → Option Nat → PH → Option PH
  | 0, _, _ => none
  | k + 1, x0, h => (gfi 11 21 x0 h).bind (fun t1 => (rcv 11 x0 h).bind (fun u2 => (f_X13_at x0 t1 h).bind (fun q3 => if q3.1 = 32 then ((gfi 11 21 x0 q3.2).bind (fun t4 => (pf 11 21 x0 (.int (t4 + 1)) q3.2).bind (fun h5 => (f_X13_goOn_L8 k) x0 h5))) else ((gfi 11 21 x0 q3.2).bind (fun t6 => (pf 11 22 x0 (.int t6) q3.2).bind (fun h7 => (gfi 11 21 x0 h7).bind (fun t8 => (rcv 11 x0 h7).bind (fun u9 => (f_X13_at x0 t8 h7).bind (fun q10 => (f_X13_in q10.1 97 122 q10.2).bind (fun q11 => if q11.1 = 0 then ((gfi 11 21 x0 q11.2).bind (fun t12 => (rcv 11 x0 q11.2).bind (fun u13 => (f_X13_at x0 t12 q11.2).bind (fun q14 => (f_X13_in q14.1 48 57 q14.2).bind (fun q15 => if q15.1 = 0 then ((gfi 11 21 x0 q15.2).bind (fun t16 => (gfi 11 6 x0 q15.2).bind (fun t17 => if t17 ≤ t16 then (f_X13_goOn_B167  x0 x0 0 q15.2) else (f_X13_goOn_B167  x0 x0 3 q15.2)))) else ((pf 11 20 x0 (.int 2) q15.2).bind (fun h18 => f_X13_goOn_L119  FU x0 h18))))))) else ((pf 11 20 x0 (.int 1) q11.2).bind (fun h19 => f_X13_goOn_L65  FU x0 h19))))))))))))
theorem f_X13_goOn_L8_ok {K : KT} {h0 : PH} {a0 : List Value} {q : PH}  : ∀ (k : Nat) (x0 : Option Nat) (h : PH), f_X13_goOn_L8  k x0 h = some q → R K mi_X13_goOn h0 a0 (.inl none) q 8 [(0, va_rf x0)] [] h := by
  intro k
  induction k with
  | zero => intro _ _ hf; cases hf
  | succ k ih =>
    intro x0 h hf
    unfold f_X13_goOn_L8 at hf
    refine R_aload_n 0 dX13_goOn_8 rfl rfl ?_
    refine R_aload_n 0 dX13_goOn_9 rfl rfl ?_
    obtain ⟨t1, et1, hf⟩ := Option.bind_eq_some_iff.mp hf
    refine R_geti lg_X13_255 et1 dX13_goOn_10 ?_
    obtain ⟨u2, eu2, hf⟩ := Option.bind_eq_some_iff.mp hf
    obtain ⟨q3, eq3, hf⟩ := Option.bind_eq_some_iff.mp hf
    refine R_callV (mj := mi_X13_at) (ci := 11) (q := (RX13, TX13, 24)) (As := [.int t1]) (rest := []) (T_X13_at eq3) eu2 rfl lV_X13_258 ⟨rfl, oky_X13_at⟩ (by decide) (by decide) rfl C1_0 (Nat.le_of_ble_eq_true rfl) dX13_goOn_13 ?_
    refine R_bipush dX13_goOn_16 k_bipush_32 ?_
    refine R_icne (tgt := 34) dX13_goOn_18 (by decide) (fun hc => ?_) (fun hc => ?_)
    · rw [if_pos hc] at hf
      refine R_aload_n 0 dX13_goOn_21 rfl rfl ?_
      refine R_dup dX13_goOn_22 (rf_cat _) ?_
      obtain ⟨t4, et4, hf⟩ := Option.bind_eq_some_iff.mp hf
      refine R_geti lg_X13_255 et4 dX13_goOn_23 ?_
      refine R_iconst dX13_goOn_26 k_iconst_1 ?_
      refine R_iadd dX13_goOn_27 ?_
      obtain ⟨h5, eh5, hf⟩ := Option.bind_eq_some_iff.mp hf
      refine R_putI (fp_X13_255 rfl) eh5 dX13_goOn_28 ?_
      refine R_goto (tgt := 8) dX13_goOn_31 (by decide) ?_
      exact ih x0 h5 hf
    · rw [if_neg hc] at hf
      refine R_aload_n 0 dX13_goOn_34 rfl rfl ?_
      refine R_aload_n 0 dX13_goOn_35 rfl rfl ?_
      obtain ⟨t6, et6, hf⟩ := Option.bind_eq_some_iff.mp hf
      refine R_geti lg_X13_255 et6 dX13_goOn_36 ?_
      obtain ⟨h7, eh7, hf⟩ := Option.bind_eq_some_iff.mp hf
      refine R_putI (fp_X13_252 rfl) eh7 dX13_goOn_39 ?_
      refine R_aload_n 0 dX13_goOn_42 rfl rfl ?_
      refine R_aload_n 0 dX13_goOn_43 rfl rfl ?_
      obtain ⟨t8, et8, hf⟩ := Option.bind_eq_some_iff.mp hf
      refine R_geti lg_X13_255 et8 dX13_goOn_44 ?_
      obtain ⟨u9, eu9, hf⟩ := Option.bind_eq_some_iff.mp hf
      obtain ⟨q10, eq10, hf⟩ := Option.bind_eq_some_iff.mp hf
      refine R_callV (mj := mi_X13_at) (ci := 11) (q := (RX13, TX13, 24)) (As := [.int t8]) (rest := []) (T_X13_at eq10) eu9 rfl lV_X13_258 ⟨rfl, oky_X13_at⟩ (by decide) (by decide) rfl C1_0 (Nat.le_of_ble_eq_true rfl) dX13_goOn_47 ?_
      refine R_bipush dX13_goOn_50 k_bipush_97 ?_
      refine R_bipush dX13_goOn_52 k_bipush_122 ?_
      obtain ⟨q11, eq11, hf⟩ := Option.bind_eq_some_iff.mp hf
      refine R_callS (mj := mi_X13_in) (As := [.int q10.1, .int 97, .int 122]) (rest := []) (T_X13_in eq11) lS_X13_65 oky_X13_in (by decide) (by decide) rfl C1_0 (Nat.le_of_ble_eq_true rfl) dX13_goOn_54 ?_
      refine R_ifeq (tgt := 96) dX13_goOn_57 (by decide) (fun hc => ?_) (fun hc => ?_)
      · rw [if_pos hc] at hf
        refine R_aload_n 0 dX13_goOn_96 rfl rfl ?_
        refine R_aload_n 0 dX13_goOn_97 rfl rfl ?_
        obtain ⟨t12, et12, hf⟩ := Option.bind_eq_some_iff.mp hf
        refine R_geti lg_X13_255 et12 dX13_goOn_98 ?_
        obtain ⟨u13, eu13, hf⟩ := Option.bind_eq_some_iff.mp hf
        obtain ⟨q14, eq14, hf⟩ := Option.bind_eq_some_iff.mp hf
        refine R_callV (mj := mi_X13_at) (ci := 11) (q := (RX13, TX13, 24)) (As := [.int t12]) (rest := []) (T_X13_at eq14) eu13 rfl lV_X13_258 ⟨rfl, oky_X13_at⟩ (by decide) (by decide) rfl C1_0 (Nat.le_of_ble_eq_true rfl) dX13_goOn_101 ?_
        refine R_bipush dX13_goOn_104 k_bipush_48 ?_
        refine R_bipush dX13_goOn_106 k_bipush_57 ?_
        obtain ⟨q15, eq15, hf⟩ := Option.bind_eq_some_iff.mp hf
        refine R_callS (mj := mi_X13_in) (As := [.int q14.1, .int 48, .int 57]) (rest := []) (T_X13_in eq15) lS_X13_65 oky_X13_in (by decide) (by decide) rfl C1_0 (Nat.le_of_ble_eq_true rfl) dX13_goOn_108 ?_
        refine R_ifeq (tgt := 150) dX13_goOn_111 (by decide) (fun hc => ?_) (fun hc => ?_)
        · rw [if_pos hc] at hf
          refine R_aload_n 0 dX13_goOn_150 rfl rfl ?_
          refine R_aload_n 0 dX13_goOn_151 rfl rfl ?_
          obtain ⟨t16, et16, hf⟩ := Option.bind_eq_some_iff.mp hf
          refine R_geti lg_X13_255 et16 dX13_goOn_152 ?_
          refine R_aload_n 0 dX13_goOn_155 rfl rfl ?_
          obtain ⟨t17, et17, hf⟩ := Option.bind_eq_some_iff.mp hf
          refine R_geti lg_X13_249 et17 dX13_goOn_156 ?_
          refine R_icge (tgt := 166) dX13_goOn_159 (by decide) (fun hc => ?_) (fun hc => ?_)
          · rw [if_pos hc] at hf
            refine R_iconst dX13_goOn_166 k_iconst_0 ?_
            exact f_X13_goOn_B167_ok  x0 x0 0 q15.2 hf
          · rw [if_neg hc] at hf
            refine R_iconst dX13_goOn_162 k_iconst_3 ?_
            refine R_goto (tgt := 167) dX13_goOn_163 (by decide) ?_
            exact f_X13_goOn_B167_ok  x0 x0 3 q15.2 hf
        · rw [if_neg hc] at hf
          refine R_aload_n 0 dX13_goOn_114 rfl rfl ?_
          refine R_iconst dX13_goOn_115 k_iconst_2 ?_
          obtain ⟨h18, eh18, hf⟩ := Option.bind_eq_some_iff.mp hf
          refine R_putI (fp_X13_261 rfl) eh18 dX13_goOn_116 ?_
          exact f_X13_goOn_L119_ok  FU x0 h18 hf
      · rw [if_neg hc] at hf
        refine R_aload_n 0 dX13_goOn_60 rfl rfl ?_
        refine R_iconst dX13_goOn_61 k_iconst_1 ?_
        obtain ⟨h19, eh19, hf⟩ := Option.bind_eq_some_iff.mp hf
        refine R_putI (fp_X13_261 rfl) eh19 dX13_goOn_62 ?_
        exact f_X13_goOn_L65_ok  FU x0 h19 hf
noncomputable def f_X13_goOn (x0 : Option Nat) (h : PH) : Option PH := (gfi 11 22 x0 h).bind (fun t1 => (pf 11 21 x0 (.int t1) h).bind (fun h2 => f_X13_goOn_L8  FU x0 h2))
theorem T_X13_goOn {K : KT} {x0 : Option Nat} {h : PH} {q : PH} (hf : f_X13_goOn x0 h = some q) : T K mi_X13_goOn [va_rf x0] h (.inl none) q := by
  unfold f_X13_goOn at hf
  refine T_of (by decide +kernel) rfl (C1_r C1_0) (Nat.le_of_ble_eq_true rfl) ?_
  show R K mi_X13_goOn h [va_rf x0] _ _ 0 [(0, va_rf x0)] [] h
  refine R_aload_n 0 dX13_goOn_0 rfl rfl ?_
  refine R_aload_n 0 dX13_goOn_1 rfl rfl ?_
  obtain ⟨t1, et1, hf⟩ := Option.bind_eq_some_iff.mp hf
  refine R_geti lg_X13_252 et1 dX13_goOn_2 ?_
  obtain ⟨h2, eh2, hf⟩ := Option.bind_eq_some_iff.mp hf
  refine R_putI (fp_X13_255 rfl) eh2 dX13_goOn_5 ?_
  exact f_X13_goOn_L8_ok  FU x0 h2 hf
theorem lg_X13_264 : LG "EdgeSumsModel" 264 11 23 := ⟨_, _, _, ck_11, by decide, Or.inl q2674⟩
abbrev mi_X13_isWell : MI := (RX13, yX13_isWell, cX13_isWell, 1, (some FieldType.boolean), 1)
noncomputable def f_X13_isWell (x0 : Option Nat) (h : PH) : Option (Int32 × PH) := (gfi 11 23 x0 h).bind (fun t1 => if 0 ≤ t1 then (some (0, h)) else (some (1, h)))
theorem T_X13_isWell {K : KT} {x0 : Option Nat} {h : PH} {q : (Int32 × PH)} (hf : f_X13_isWell x0 h = some q) : T K mi_X13_isWell [va_rf x0] h (.inl (some (.int q.1))) q.2 := by
  unfold f_X13_isWell at hf
  refine T_of (by decide +kernel) rfl (C1_r C1_0) (Nat.le_of_ble_eq_true rfl) ?_
  show R K mi_X13_isWell h [va_rf x0] _ _ 0 [(0, va_rf x0)] [] h
  refine R_aload_n 0 dX13_isWell_0 rfl rfl ?_
  obtain ⟨t1, et1, hf⟩ := Option.bind_eq_some_iff.mp hf
  refine R_geti lg_X13_264 et1 dX13_isWell_1 ?_
  refine R_ifge (tgt := 11) dX13_isWell_4 (by decide) (fun hc => ?_) (fun hc => ?_)
  · rw [if_pos hc] at hf
    refine R_iconst dX13_isWell_11 k_iconst_0 ?_
    obtain rfl := Option.some.inj hf
    exact R_iretZ0 rfl dX13_isWell_12
  · rw [if_neg hc] at hf
    refine R_iconst dX13_isWell_7 k_iconst_1 ?_
    refine R_goto (tgt := 12) dX13_isWell_8 (by decide) ?_
    obtain rfl := Option.some.inj hf
    exact R_iretZ1 rfl dX13_isWell_12
abbrev mi_X13_spelled : MI := (RX13, yX13_spelled, cX13_spelled, 7, (some FieldType.int), 1)
noncomputable def f_X13_spelled (x0 : Int32) (x1 : Int32) (x2 : Int32) (x3 : Int32) (x4 : Int32) (x5 : Int32) (x6 : Int32) (h : PH) : Option (Int32 × PH) := if x0 = 0 then (some (x1, h)) else (if x0 = 1 then (some (x2, h)) else (if x0 = 2 then (some (x3, h)) else (if x0 = 3 then (some (x4, h)) else (if x0 = 4 then (some (x5, h)) else (if x0 = 5 then (some (x6, h)) else (some (0, h)))))))
theorem T_X13_spelled {K : KT} {x0 : Int32} {x1 : Int32} {x2 : Int32} {x3 : Int32} {x4 : Int32} {x5 : Int32} {x6 : Int32} {h : PH} {q : (Int32 × PH)} (hf : f_X13_spelled x0 x1 x2 x3 x4 x5 x6 h = some q) : T K mi_X13_spelled [.int x0, .int x1, .int x2, .int x3, .int x4, .int x5, .int x6] h (.inl (some (.int q.1))) q.2 := by
  unfold f_X13_spelled at hf
  refine T_of (by decide +kernel) rfl (C1_i (C1_i (C1_i (C1_i (C1_i (C1_i (C1_i C1_0))))))) (Nat.le_of_ble_eq_true rfl) ?_
  show R K mi_X13_spelled h [.int x0, .int x1, .int x2, .int x3, .int x4, .int x5, .int x6] _ _ 0 [(0, .int x0), (1, .int x1), (2, .int x2), (3, .int x3), (4, .int x4), (5, .int x5), (6, .int x6)] [] h
  refine R_iload_n 0 dX13_spelled_0 rfl rfl ?_
  refine R_ifne (tgt := 8) dX13_spelled_1 (by decide) (fun hc => ?_) (fun hc => ?_)
  · rw [if_pos hc] at hf
    refine R_iload_n 1 dX13_spelled_4 rfl rfl ?_
    refine R_goto (tgt := 57) dX13_spelled_5 (by decide) ?_
    obtain rfl := Option.some.inj hf
    exact R_iretI rfl dX13_spelled_57
  · rw [if_neg hc] at hf
    refine R_iload_n 0 dX13_spelled_8 rfl rfl ?_
    refine R_iconst dX13_spelled_9 k_iconst_1 ?_
    refine R_icne (tgt := 17) dX13_spelled_10 (by decide) (fun hc => ?_) (fun hc => ?_)
    · rw [if_pos hc] at hf
      refine R_iload_n 2 dX13_spelled_13 rfl rfl ?_
      refine R_goto (tgt := 57) dX13_spelled_14 (by decide) ?_
      obtain rfl := Option.some.inj hf
      exact R_iretI rfl dX13_spelled_57
    · rw [if_neg hc] at hf
      refine R_iload_n 0 dX13_spelled_17 rfl rfl ?_
      refine R_iconst dX13_spelled_18 k_iconst_2 ?_
      refine R_icne (tgt := 26) dX13_spelled_19 (by decide) (fun hc => ?_) (fun hc => ?_)
      · rw [if_pos hc] at hf
        refine R_iload_n 3 dX13_spelled_22 rfl rfl ?_
        refine R_goto (tgt := 57) dX13_spelled_23 (by decide) ?_
        obtain rfl := Option.some.inj hf
        exact R_iretI rfl dX13_spelled_57
      · rw [if_neg hc] at hf
        refine R_iload_n 0 dX13_spelled_26 rfl rfl ?_
        refine R_iconst dX13_spelled_27 k_iconst_3 ?_
        refine R_icne (tgt := 36) dX13_spelled_28 (by decide) (fun hc => ?_) (fun hc => ?_)
        · rw [if_pos hc] at hf
          refine R_iload 4 dX13_spelled_31 rfl ?_
          refine R_goto (tgt := 57) dX13_spelled_33 (by decide) ?_
          obtain rfl := Option.some.inj hf
          exact R_iretI rfl dX13_spelled_57
        · rw [if_neg hc] at hf
          refine R_iload_n 0 dX13_spelled_36 rfl rfl ?_
          refine R_iconst dX13_spelled_37 k_iconst_4 ?_
          refine R_icne (tgt := 46) dX13_spelled_38 (by decide) (fun hc => ?_) (fun hc => ?_)
          · rw [if_pos hc] at hf
            refine R_iload 5 dX13_spelled_41 rfl ?_
            refine R_goto (tgt := 57) dX13_spelled_43 (by decide) ?_
            obtain rfl := Option.some.inj hf
            exact R_iretI rfl dX13_spelled_57
          · rw [if_neg hc] at hf
            refine R_iload_n 0 dX13_spelled_46 rfl rfl ?_
            refine R_iconst dX13_spelled_47 k_iconst_5 ?_
            refine R_icne (tgt := 56) dX13_spelled_48 (by decide) (fun hc => ?_) (fun hc => ?_)
            · rw [if_pos hc] at hf
              refine R_iload 6 dX13_spelled_51 rfl ?_
              refine R_goto (tgt := 57) dX13_spelled_53 (by decide) ?_
              obtain rfl := Option.some.inj hf
              exact R_iretI rfl dX13_spelled_57
            · rw [if_neg hc] at hf
              refine R_iconst dX13_spelled_56 k_iconst_0 ?_
              obtain rfl := Option.some.inj hf
              exact R_iretI rfl dX13_spelled_57
theorem lS_X13_267 : GoodIn lw_all (va_wsS "EdgeSumsModel" 267 yX13_spelled (ws_ yX13_spelled cX13_spelled 7 (some FieldType.int))) := lw_S q3029 q3030 q158 q3031
theorem oky_X13_spelled : okY yX13_spelled 7 := ⟨by decide +kernel, by decide +kernel, by decide +kernel⟩
abbrev mi_X13_letterOf : MI := (RX13, yX13_letterOf, cX13_letterOf, 2, (some FieldType.int), 2)
noncomputable def f_X13_letterOf (x0 : Int32) (x1 : Int32) (h : PH) : Option (Int32 × PH) := if x0 = 0 then ((f_X13_spelled x1 112 97 103 101 0 0 h).bind (fun q1 => some (q1.1, q1.2))) else (if x0 = 1 then ((f_X13_spelled x1 97 110 115 119 101 114 h).bind (fun q2 => some (q2.1, q2.2))) else (if x0 = 2 then ((f_X13_spelled x1 103 105 118 101 0 0 h).bind (fun q3 => some (q3.1, q3.2))) else (if x0 = 3 then ((f_X13_spelled x1 115 117 109 115 0 0 h).bind (fun q4 => some (q4.1, q4.2))) else (if x0 = 4 then ((f_X13_spelled x1 114 117 108 101 115 0 h).bind (fun q5 => some (q5.1, q5.2))) else (if x0 = 5 then ((f_X13_spelled x1 99 111 115 116 115 0 h).bind (fun q6 => some (q6.1, q6.2))) else (if x0 = 6 then ((f_X13_spelled x1 110 111 110 101 0 0 h).bind (fun q7 => some (q7.1, q7.2))) else ((f_X13_spelled x1 97 108 108 0 0 0 h).bind (fun q8 => some (q8.1, q8.2)))))))))
theorem T_X13_letterOf {K : KT} {x0 : Int32} {x1 : Int32} {h : PH} {q : (Int32 × PH)} (hf : f_X13_letterOf x0 x1 h = some q) : T K mi_X13_letterOf [.int x0, .int x1] h (.inl (some (.int q.1))) q.2 := by
  unfold f_X13_letterOf at hf
  refine T_of (by decide +kernel) rfl (C1_i (C1_i C1_0)) (Nat.le_of_ble_eq_true rfl) ?_
  show R K mi_X13_letterOf h [.int x0, .int x1] _ _ 0 [(0, .int x0), (1, .int x1)] [] h
  refine R_iload_n 0 dX13_letterOf_0 rfl rfl ?_
  by_cases hc0 : x0 = 0
  · rw [if_pos hc0] at hf
    refine R_tswIn (tgt := 44) dX13_letterOf_1 (by rw [hc0]; decide) (by rw [hc0]; decide) (by rw [hc0]; rfl) (by decide) ?_
    refine R_iload_n 1 dX13_letterOf_44 rfl rfl ?_
    refine R_bipush dX13_letterOf_45 k_bipush_112 ?_
    refine R_bipush dX13_letterOf_47 k_bipush_97 ?_
    refine R_bipush dX13_letterOf_49 k_bipush_103 ?_
    refine R_bipush dX13_letterOf_51 k_bipush_101 ?_
    refine R_iconst dX13_letterOf_53 k_iconst_0 ?_
    refine R_iconst dX13_letterOf_54 k_iconst_0 ?_
    obtain ⟨q1, eq1, hf⟩ := Option.bind_eq_some_iff.mp hf
    refine R_callS (mj := mi_X13_spelled) (As := [.int x1, .int 112, .int 97, .int 103, .int 101, .int 0, .int 0]) (rest := []) (T_X13_spelled eq1) lS_X13_267 oky_X13_spelled (by decide) (by decide) rfl C1_0 (Nat.le_of_ble_eq_true rfl) dX13_letterOf_55 ?_
    obtain rfl := Option.some.inj hf
    exact R_iretI rfl dX13_letterOf_58
  · rw [if_neg hc0] at hf
    by_cases hc1 : x0 = 1
    · rw [if_pos hc1] at hf
      refine R_tswIn (tgt := 59) dX13_letterOf_1 (by rw [hc1]; decide) (by rw [hc1]; decide) (by rw [hc1]; rfl) (by decide) ?_
      refine R_iload_n 1 dX13_letterOf_59 rfl rfl ?_
      refine R_bipush dX13_letterOf_60 k_bipush_97 ?_
      refine R_bipush dX13_letterOf_62 k_bipush_110 ?_
      refine R_bipush dX13_letterOf_64 k_bipush_115 ?_
      refine R_bipush dX13_letterOf_66 k_bipush_119 ?_
      refine R_bipush dX13_letterOf_68 k_bipush_101 ?_
      refine R_bipush dX13_letterOf_70 k_bipush_114 ?_
      obtain ⟨q2, eq2, hf⟩ := Option.bind_eq_some_iff.mp hf
      refine R_callS (mj := mi_X13_spelled) (As := [.int x1, .int 97, .int 110, .int 115, .int 119, .int 101, .int 114]) (rest := []) (T_X13_spelled eq2) lS_X13_267 oky_X13_spelled (by decide) (by decide) rfl C1_0 (Nat.le_of_ble_eq_true rfl) dX13_letterOf_72 ?_
      obtain rfl := Option.some.inj hf
      exact R_iretI rfl dX13_letterOf_75
    · rw [if_neg hc1] at hf
      by_cases hc2 : x0 = 2
      · rw [if_pos hc2] at hf
        refine R_tswIn (tgt := 76) dX13_letterOf_1 (by rw [hc2]; decide) (by rw [hc2]; decide) (by rw [hc2]; rfl) (by decide) ?_
        refine R_iload_n 1 dX13_letterOf_76 rfl rfl ?_
        refine R_bipush dX13_letterOf_77 k_bipush_103 ?_
        refine R_bipush dX13_letterOf_79 k_bipush_105 ?_
        refine R_bipush dX13_letterOf_81 k_bipush_118 ?_
        refine R_bipush dX13_letterOf_83 k_bipush_101 ?_
        refine R_iconst dX13_letterOf_85 k_iconst_0 ?_
        refine R_iconst dX13_letterOf_86 k_iconst_0 ?_
        obtain ⟨q3, eq3, hf⟩ := Option.bind_eq_some_iff.mp hf
        refine R_callS (mj := mi_X13_spelled) (As := [.int x1, .int 103, .int 105, .int 118, .int 101, .int 0, .int 0]) (rest := []) (T_X13_spelled eq3) lS_X13_267 oky_X13_spelled (by decide) (by decide) rfl C1_0 (Nat.le_of_ble_eq_true rfl) dX13_letterOf_87 ?_
        obtain rfl := Option.some.inj hf
        exact R_iretI rfl dX13_letterOf_90
      · rw [if_neg hc2] at hf
        by_cases hc3 : x0 = 3
        · rw [if_pos hc3] at hf
          refine R_tswIn (tgt := 91) dX13_letterOf_1 (by rw [hc3]; decide) (by rw [hc3]; decide) (by rw [hc3]; rfl) (by decide) ?_
          refine R_iload_n 1 dX13_letterOf_91 rfl rfl ?_
          refine R_bipush dX13_letterOf_92 k_bipush_115 ?_
          refine R_bipush dX13_letterOf_94 k_bipush_117 ?_
          refine R_bipush dX13_letterOf_96 k_bipush_109 ?_
          refine R_bipush dX13_letterOf_98 k_bipush_115 ?_
          refine R_iconst dX13_letterOf_100 k_iconst_0 ?_
          refine R_iconst dX13_letterOf_101 k_iconst_0 ?_
          obtain ⟨q4, eq4, hf⟩ := Option.bind_eq_some_iff.mp hf
          refine R_callS (mj := mi_X13_spelled) (As := [.int x1, .int 115, .int 117, .int 109, .int 115, .int 0, .int 0]) (rest := []) (T_X13_spelled eq4) lS_X13_267 oky_X13_spelled (by decide) (by decide) rfl C1_0 (Nat.le_of_ble_eq_true rfl) dX13_letterOf_102 ?_
          obtain rfl := Option.some.inj hf
          exact R_iretI rfl dX13_letterOf_105
        · rw [if_neg hc3] at hf
          by_cases hc4 : x0 = 4
          · rw [if_pos hc4] at hf
            refine R_tswIn (tgt := 106) dX13_letterOf_1 (by rw [hc4]; decide) (by rw [hc4]; decide) (by rw [hc4]; rfl) (by decide) ?_
            refine R_iload_n 1 dX13_letterOf_106 rfl rfl ?_
            refine R_bipush dX13_letterOf_107 k_bipush_114 ?_
            refine R_bipush dX13_letterOf_109 k_bipush_117 ?_
            refine R_bipush dX13_letterOf_111 k_bipush_108 ?_
            refine R_bipush dX13_letterOf_113 k_bipush_101 ?_
            refine R_bipush dX13_letterOf_115 k_bipush_115 ?_
            refine R_iconst dX13_letterOf_117 k_iconst_0 ?_
            obtain ⟨q5, eq5, hf⟩ := Option.bind_eq_some_iff.mp hf
            refine R_callS (mj := mi_X13_spelled) (As := [.int x1, .int 114, .int 117, .int 108, .int 101, .int 115, .int 0]) (rest := []) (T_X13_spelled eq5) lS_X13_267 oky_X13_spelled (by decide) (by decide) rfl C1_0 (Nat.le_of_ble_eq_true rfl) dX13_letterOf_118 ?_
            obtain rfl := Option.some.inj hf
            exact R_iretI rfl dX13_letterOf_121
          · rw [if_neg hc4] at hf
            by_cases hc5 : x0 = 5
            · rw [if_pos hc5] at hf
              refine R_tswIn (tgt := 122) dX13_letterOf_1 (by rw [hc5]; decide) (by rw [hc5]; decide) (by rw [hc5]; rfl) (by decide) ?_
              refine R_iload_n 1 dX13_letterOf_122 rfl rfl ?_
              refine R_bipush dX13_letterOf_123 k_bipush_99 ?_
              refine R_bipush dX13_letterOf_125 k_bipush_111 ?_
              refine R_bipush dX13_letterOf_127 k_bipush_115 ?_
              refine R_bipush dX13_letterOf_129 k_bipush_116 ?_
              refine R_bipush dX13_letterOf_131 k_bipush_115 ?_
              refine R_iconst dX13_letterOf_133 k_iconst_0 ?_
              obtain ⟨q6, eq6, hf⟩ := Option.bind_eq_some_iff.mp hf
              refine R_callS (mj := mi_X13_spelled) (As := [.int x1, .int 99, .int 111, .int 115, .int 116, .int 115, .int 0]) (rest := []) (T_X13_spelled eq6) lS_X13_267 oky_X13_spelled (by decide) (by decide) rfl C1_0 (Nat.le_of_ble_eq_true rfl) dX13_letterOf_134 ?_
              obtain rfl := Option.some.inj hf
              exact R_iretI rfl dX13_letterOf_137
            · rw [if_neg hc5] at hf
              by_cases hc6 : x0 = 6
              · rw [if_pos hc6] at hf
                refine R_tswIn (tgt := 138) dX13_letterOf_1 (by rw [hc6]; decide) (by rw [hc6]; decide) (by rw [hc6]; rfl) (by decide) ?_
                refine R_iload_n 1 dX13_letterOf_138 rfl rfl ?_
                refine R_bipush dX13_letterOf_139 k_bipush_110 ?_
                refine R_bipush dX13_letterOf_141 k_bipush_111 ?_
                refine R_bipush dX13_letterOf_143 k_bipush_110 ?_
                refine R_bipush dX13_letterOf_145 k_bipush_101 ?_
                refine R_iconst dX13_letterOf_147 k_iconst_0 ?_
                refine R_iconst dX13_letterOf_148 k_iconst_0 ?_
                obtain ⟨q7, eq7, hf⟩ := Option.bind_eq_some_iff.mp hf
                refine R_callS (mj := mi_X13_spelled) (As := [.int x1, .int 110, .int 111, .int 110, .int 101, .int 0, .int 0]) (rest := []) (T_X13_spelled eq7) lS_X13_267 oky_X13_spelled (by decide) (by decide) rfl C1_0 (Nat.le_of_ble_eq_true rfl) dX13_letterOf_149 ?_
                obtain rfl := Option.some.inj hf
                exact R_iretI rfl dX13_letterOf_152
              · rw [if_neg hc6] at hf
                refine R_tswOut (tgt := 153) dX13_letterOf_1 (by have := (⟨i32_ne hc0, i32_ne hc1, i32_ne hc2, i32_ne hc3, i32_ne hc4, i32_ne hc5, i32_ne hc6, trivial⟩ : x0.toInt ≠ 0 ∧ x0.toInt ≠ 1 ∧ x0.toInt ≠ 2 ∧ x0.toInt ≠ 3 ∧ x0.toInt ≠ 4 ∧ x0.toInt ≠ 5 ∧ x0.toInt ≠ 6 ∧ True); omega) (by decide) ?_
                refine R_iload_n 1 dX13_letterOf_153 rfl rfl ?_
                refine R_bipush dX13_letterOf_154 k_bipush_97 ?_
                refine R_bipush dX13_letterOf_156 k_bipush_108 ?_
                refine R_bipush dX13_letterOf_158 k_bipush_108 ?_
                refine R_iconst dX13_letterOf_160 k_iconst_0 ?_
                refine R_iconst dX13_letterOf_161 k_iconst_0 ?_
                refine R_iconst dX13_letterOf_162 k_iconst_0 ?_
                obtain ⟨q8, eq8, hf⟩ := Option.bind_eq_some_iff.mp hf
                refine R_callS (mj := mi_X13_spelled) (As := [.int x1, .int 97, .int 108, .int 108, .int 0, .int 0, .int 0]) (rest := []) (T_X13_spelled eq8) lS_X13_267 oky_X13_spelled (by decide) (by decide) rfl C1_0 (Nat.le_of_ble_eq_true rfl) dX13_letterOf_163 ?_
                obtain rfl := Option.some.inj hf
                exact R_iretI rfl dX13_letterOf_166
theorem lg_X13_261 : LG "EdgeSumsModel" 261 11 20 := ⟨_, _, _, ck_11, by decide, Or.inl q2671⟩
theorem lS_X13_271 : GoodIn lw_all (va_wsS "EdgeSumsModel" 271 yX13_letterOf (ws_ yX13_letterOf cX13_letterOf 2 (some FieldType.int))) := lw_S q3026 q3027 q158 q3028
theorem oky_X13_letterOf : okY yX13_letterOf 2 := ⟨by decide +kernel, by decide +kernel, by decide +kernel⟩
abbrev mi_X13_isWord : MI := (RX13, yX13_isWord, cX13_isWord, 4, (some FieldType.boolean), 3)
noncomputable def f_X13_isWord_B65 (r16 : Option Nat → Int32 → Int32 → Int32 → PH → Option (Int32 × PH)) (x0 : Option Nat) (x1 : Int32) (x3 : Int32) (s0 : Int32) (s1 : Int32) (h : PH) : Option (Int32 × PH) := if s0 = s1 then (r16 x0 x1 1 (x3 + 1) h) else (r16 x0 x1 0 (x3 + 1) h)
theorem f_X13_isWord_B65_ok {K : KT} {h0 : PH} {a0 : List Value} {q : (Int32 × PH)} {r16 : Option Nat → Int32 → Int32 → Int32 → PH → Option (Int32 × PH)} (hr16 : ∀ (y0 : Option Nat) (y1 : Int32) (y2 : Int32) (y3 : Int32) (h : PH), r16 y0 y1 y2 y3 h = some q → R K mi_X13_isWord h0 a0 (.inl (some (.int q.1))) q.2 16 [(0, va_rf y0), (1, .int y1), (2, .int y2), (3, .int y3)] [] h) (x0 : Option Nat) (x1 : Int32) (x3 : Int32) (s0 : Int32) (s1 : Int32) (h : PH) (hf : f_X13_isWord_B65 r16 x0 x1 x3 s0 s1 h = some q) : R K mi_X13_isWord h0 a0 (.inl (some (.int q.1))) q.2 65 [(0, va_rf x0), (1, .int x1), (3, .int x3)] [.int s1, .int s0] h := by
  unfold f_X13_isWord_B65 at hf
  refine R_icne (tgt := 72) dX13_isWord_65 (by decide) (fun hc => ?_) (fun hc => ?_)
  · rw [if_pos hc] at hf
    refine R_iconst dX13_isWord_68 k_iconst_1 ?_
    refine R_goto (tgt := 73) dX13_isWord_69 (by decide) ?_
    refine R_istore_n (L' := [(2, .int 1), (0, va_rf x0), (1, .int x1), (3, .int x3)]) dX13_isWord_73 rfl (by decide) rfl ?_
    refine R_iinc (L' := [(3, .int (x3 + 1)), (2, .int 1), (0, va_rf x0), (1, .int x1)]) 3 dX13_isWord_74 rfl (k_inc_1 _) (by decide) rfl ?_
    refine R_goto (tgt := 16) dX13_isWord_77 (by decide) ?_
    refine R.sub [2, 3, 1, 0] (L' := [(0, va_rf x0), (1, .int x1), (2, .int 1), (3, .int (x3 + 1))]) rfl ?_
    exact hr16 x0 x1 1 (x3 + 1) h hf
  · rw [if_neg hc] at hf
    refine R_iconst dX13_isWord_72 k_iconst_0 ?_
    refine R_istore_n (L' := [(2, .int 0), (0, va_rf x0), (1, .int x1), (3, .int x3)]) dX13_isWord_73 rfl (by decide) rfl ?_
    refine R_iinc (L' := [(3, .int (x3 + 1)), (2, .int 0), (0, va_rf x0), (1, .int x1)]) 3 dX13_isWord_74 rfl (k_inc_1 _) (by decide) rfl ?_
    refine R_goto (tgt := 16) dX13_isWord_77 (by decide) ?_
    refine R.sub [2, 3, 1, 0] (L' := [(0, va_rf x0), (1, .int x1), (2, .int 0), (3, .int (x3 + 1))]) rfl ?_
    exact hr16 x0 x1 0 (x3 + 1) h hf
noncomputable def f_X13_isWord_L16  : Nat → Option Nat → Int32 → Int32 → Int32 → PH → Option (Int32 × PH)
  | 0, _, _, _, _, _ => none
  | k + 1, x0, x1, x2, x3, h => (gfi 11 22 x0 h).bind (fun t1 => (gfi 11 21 x0 h).bind (fun t2 => if (t1 - t2) < x3 then ((gb x2).bind (fun u3 => some (x2, h))) else (if x2 = 0 then ((gb x2).bind (fun u4 => some (x2, h))) else ((f_X13_letterOf x1 x3 h).bind (fun q5 => (gfi 11 22 x0 q5.2).bind (fun t6 => (gfi 11 21 x0 q5.2).bind (fun t7 => if (t6 - t7) ≤ x3 then (f_X13_isWord_B65 (f_X13_isWord_L16 k) x0 x1 x3 q5.1 0 q5.2) else ((gfi 11 21 x0 q5.2).bind (fun t8 => (rcv 11 x0 q5.2).bind (fun u9 => (f_X13_at x0 (t8 + x3) q5.2).bind (fun q10 => f_X13_isWord_B65 (f_X13_isWord_L16 k) x0 x1 x3 q5.1 q10.1 q10.2)))))))))))
theorem f_X13_isWord_L16_ok {K : KT} {h0 : PH} {a0 : List Value} {q : (Int32 × PH)}  : ∀ (k : Nat) (x0 : Option Nat) (x1 : Int32) (x2 : Int32) (x3 : Int32) (h : PH), f_X13_isWord_L16  k x0 x1 x2 x3 h = some q → R K mi_X13_isWord h0 a0 (.inl (some (.int q.1))) q.2 16 [(0, va_rf x0), (1, .int x1), (2, .int x2), (3, .int x3)] [] h := by
  intro k
  induction k with
  | zero => intro _ _ _ _ _ hf; cases hf
  | succ k ih =>
    intro x0 x1 x2 x3 h hf
    unfold f_X13_isWord_L16 at hf
    refine R_iload_n 3 dX13_isWord_16 rfl rfl ?_
    refine R_aload_n 0 dX13_isWord_17 rfl rfl ?_
    obtain ⟨t1, et1, hf⟩ := Option.bind_eq_some_iff.mp hf
    refine R_geti lg_X13_252 et1 dX13_isWord_18 ?_
    refine R_aload_n 0 dX13_isWord_21 rfl rfl ?_
    obtain ⟨t2, et2, hf⟩ := Option.bind_eq_some_iff.mp hf
    refine R_geti lg_X13_255 et2 dX13_isWord_22 ?_
    refine R_isub dX13_isWord_25 ?_
    refine R_icgt (tgt := 80) dX13_isWord_26 (by decide) (fun hc => ?_) (fun hc => ?_)
    · rw [if_pos hc] at hf
      refine R_iload_n 2 dX13_isWord_80 rfl rfl ?_
      obtain ⟨u3, eu3, hf⟩ := Option.bind_eq_some_iff.mp hf
      obtain rfl := Option.some.inj hf
      exact R_iretZ eu3 rfl dX13_isWord_81
    · rw [if_neg hc] at hf
      refine R_iload_n 2 dX13_isWord_29 rfl rfl ?_
      refine R_ifeq (tgt := 80) dX13_isWord_30 (by decide) (fun hc => ?_) (fun hc => ?_)
      · rw [if_pos hc] at hf
        refine R_iload_n 2 dX13_isWord_80 rfl rfl ?_
        obtain ⟨u4, eu4, hf⟩ := Option.bind_eq_some_iff.mp hf
        obtain rfl := Option.some.inj hf
        exact R_iretZ eu4 rfl dX13_isWord_81
      · rw [if_neg hc] at hf
        refine R_iload_n 1 dX13_isWord_33 rfl rfl ?_
        refine R_iload_n 3 dX13_isWord_34 rfl rfl ?_
        obtain ⟨q5, eq5, hf⟩ := Option.bind_eq_some_iff.mp hf
        refine R_callS (mj := mi_X13_letterOf) (As := [.int x1, .int x3]) (rest := []) (T_X13_letterOf eq5) lS_X13_271 oky_X13_letterOf (by decide) (by decide) rfl C1_0 (Nat.le_of_ble_eq_true rfl) dX13_isWord_35 ?_
        refine R_iload_n 3 dX13_isWord_38 rfl rfl ?_
        refine R_aload_n 0 dX13_isWord_39 rfl rfl ?_
        obtain ⟨t6, et6, hf⟩ := Option.bind_eq_some_iff.mp hf
        refine R_geti lg_X13_252 et6 dX13_isWord_40 ?_
        refine R_aload_n 0 dX13_isWord_43 rfl rfl ?_
        obtain ⟨t7, et7, hf⟩ := Option.bind_eq_some_iff.mp hf
        refine R_geti lg_X13_255 et7 dX13_isWord_44 ?_
        refine R_isub dX13_isWord_47 ?_
        refine R_icge (tgt := 64) dX13_isWord_48 (by decide) (fun hc => ?_) (fun hc => ?_)
        · rw [if_pos hc] at hf
          refine R_iconst dX13_isWord_64 k_iconst_0 ?_
          refine R.sub [0, 1, 3] (L' := [(0, va_rf x0), (1, .int x1), (3, .int x3)]) rfl ?_
          exact f_X13_isWord_B65_ok ih x0 x1 x3 q5.1 0 q5.2 hf
        · rw [if_neg hc] at hf
          refine R_aload_n 0 dX13_isWord_51 rfl rfl ?_
          refine R_aload_n 0 dX13_isWord_52 rfl rfl ?_
          obtain ⟨t8, et8, hf⟩ := Option.bind_eq_some_iff.mp hf
          refine R_geti lg_X13_255 et8 dX13_isWord_53 ?_
          refine R_iload_n 3 dX13_isWord_56 rfl rfl ?_
          refine R_iadd dX13_isWord_57 ?_
          obtain ⟨u9, eu9, hf⟩ := Option.bind_eq_some_iff.mp hf
          obtain ⟨q10, eq10, hf⟩ := Option.bind_eq_some_iff.mp hf
          refine R_callV (mj := mi_X13_at) (ci := 11) (q := (RX13, TX13, 24)) (As := [.int (t8 + x3)]) (rest := [.int q5.1]) (T_X13_at eq10) eu9 rfl lV_X13_258 ⟨rfl, oky_X13_at⟩ (by decide) (by decide) rfl (C1_i C1_0) (Nat.le_of_ble_eq_true rfl) dX13_isWord_58 ?_
          refine R_goto (tgt := 65) dX13_isWord_61 (by decide) ?_
          refine R.sub [0, 1, 3] (L' := [(0, va_rf x0), (1, .int x1), (3, .int x3)]) rfl ?_
          exact f_X13_isWord_B65_ok ih x0 x1 x3 q5.1 q10.1 q10.2 hf
noncomputable def f_X13_isWord (x0 : Option Nat) (x1 : Int32) (h : PH) : Option (Int32 × PH) := (gfi 11 20 x0 h).bind (fun t1 => if t1 = 1 then (f_X13_isWord_L16  FU x0 x1 1 0 h) else (f_X13_isWord_L16  FU x0 x1 0 0 h))
theorem T_X13_isWord {K : KT} {x0 : Option Nat} {x1 : Int32} {h : PH} {q : (Int32 × PH)} (hf : f_X13_isWord x0 x1 h = some q) : T K mi_X13_isWord [va_rf x0, .int x1] h (.inl (some (.int q.1))) q.2 := by
  unfold f_X13_isWord at hf
  refine T_of (by decide +kernel) rfl (C1_r (C1_i C1_0)) (Nat.le_of_ble_eq_true rfl) ?_
  show R K mi_X13_isWord h [va_rf x0, .int x1] _ _ 0 [(0, va_rf x0), (1, .int x1)] [] h
  refine R_aload_n 0 dX13_isWord_0 rfl rfl ?_
  obtain ⟨t1, et1, hf⟩ := Option.bind_eq_some_iff.mp hf
  refine R_geti lg_X13_261 et1 dX13_isWord_1 ?_
  refine R_iconst dX13_isWord_4 k_iconst_1 ?_
  refine R_icne (tgt := 12) dX13_isWord_5 (by decide) (fun hc => ?_) (fun hc => ?_)
  · rw [if_pos hc] at hf
    refine R_iconst dX13_isWord_8 k_iconst_1 ?_
    refine R_goto (tgt := 13) dX13_isWord_9 (by decide) ?_
    refine R_istore_n (L' := [(2, .int 1), (0, va_rf x0), (1, .int x1)]) dX13_isWord_13 rfl (by decide) rfl ?_
    refine R_iconst dX13_isWord_14 k_iconst_0 ?_
    refine R_istore_n (L' := [(3, .int 0), (2, .int 1), (0, va_rf x0), (1, .int x1)]) dX13_isWord_15 rfl (by decide) rfl ?_
    refine R.sub [2, 3, 1, 0] (L' := [(0, va_rf x0), (1, .int x1), (2, .int 1), (3, .int 0)]) rfl ?_
    exact f_X13_isWord_L16_ok  FU x0 x1 1 0 h hf
  · rw [if_neg hc] at hf
    refine R_iconst dX13_isWord_12 k_iconst_0 ?_
    refine R_istore_n (L' := [(2, .int 0), (0, va_rf x0), (1, .int x1)]) dX13_isWord_13 rfl (by decide) rfl ?_
    refine R_iconst dX13_isWord_14 k_iconst_0 ?_
    refine R_istore_n (L' := [(3, .int 0), (2, .int 0), (0, va_rf x0), (1, .int x1)]) dX13_isWord_15 rfl (by decide) rfl ?_
    refine R.sub [2, 3, 1, 0] (L' := [(0, va_rf x0), (1, .int x1), (2, .int 0), (3, .int 0)]) rfl ?_
    exact f_X13_isWord_L16_ok  FU x0 x1 0 0 h hf
theorem fp_X13_264 {mi : MI} (ho : mi.own = "EdgeSumsModel") : FP mi 264 11 23 .int := ⟨_, _, _, ck_11, by decide, by decide +kernel, Or.inl ⟨rfl, by rw [ho]; exact Or.inl q2674⟩⟩
abbrev mi_X13_fail : MI := (RX13, yX13_fail, cX13_fail, 1, none, 1)
noncomputable def f_X13_fail_B19  (s0 : Option Nat) (s1 : Int32) (h : PH) : Option PH := (pf 11 23 s0 (.int s1) h).bind (fun h1 => some h1)
theorem f_X13_fail_B19_ok {K : KT} {h0 : PH} {a0 : List Value} {q : PH}  (s0 : Option Nat) (s1 : Int32) (h : PH) (hf : f_X13_fail_B19  s0 s1 h = some q) : R K mi_X13_fail h0 a0 (.inl none) q 19 [] [.int s1, va_rf s0] h := by
  unfold f_X13_fail_B19 at hf
  obtain ⟨h1, eh1, hf⟩ := Option.bind_eq_some_iff.mp hf
  refine R_putI (fp_X13_264 rfl) eh1 dX13_fail_19 ?_
  obtain rfl := Option.some.inj hf
  exact R_return rfl dX13_fail_22
noncomputable def f_X13_fail (x0 : Option Nat) (h : PH) : Option PH := (gfi 11 23 x0 h).bind (fun t1 => if 0 ≤ t1 then ((gfi 11 23 x0 h).bind (fun t2 => f_X13_fail_B19  x0 t2 h)) else ((gfi 11 21 x0 h).bind (fun t3 => f_X13_fail_B19  x0 t3 h)))
theorem T_X13_fail {K : KT} {x0 : Option Nat} {h : PH} {q : PH} (hf : f_X13_fail x0 h = some q) : T K mi_X13_fail [va_rf x0] h (.inl none) q := by
  unfold f_X13_fail at hf
  refine T_of (by decide +kernel) rfl (C1_r C1_0) (Nat.le_of_ble_eq_true rfl) ?_
  show R K mi_X13_fail h [va_rf x0] _ _ 0 [(0, va_rf x0)] [] h
  refine R_aload_n 0 dX13_fail_0 rfl rfl ?_
  refine R_aload_n 0 dX13_fail_1 rfl rfl ?_
  obtain ⟨t1, et1, hf⟩ := Option.bind_eq_some_iff.mp hf
  refine R_geti lg_X13_264 et1 dX13_fail_2 ?_
  refine R_ifge (tgt := 15) dX13_fail_5 (by decide) (fun hc => ?_) (fun hc => ?_)
  · rw [if_pos hc] at hf
    refine R_aload_n 0 dX13_fail_15 rfl rfl ?_
    obtain ⟨t2, et2, hf⟩ := Option.bind_eq_some_iff.mp hf
    refine R_geti lg_X13_264 et2 dX13_fail_16 ?_
    refine R.sub [] (L' := []) rfl ?_
    exact f_X13_fail_B19_ok  x0 t2 h hf
  · rw [if_neg hc] at hf
    refine R_aload_n 0 dX13_fail_8 rfl rfl ?_
    obtain ⟨t3, et3, hf⟩ := Option.bind_eq_some_iff.mp hf
    refine R_geti lg_X13_255 et3 dX13_fail_9 ?_
    refine R_goto (tgt := 19) dX13_fail_12 (by decide) ?_
    refine R.sub [] (L' := []) rfl ?_
    exact f_X13_fail_B19_ok  x0 t3 h hf
abbrev mi_X13_isStop : MI := (RX13, yX13_isStop, cX13_isStop, 1, (some FieldType.boolean), 2)
noncomputable def f_X13_isStop (x0 : Option Nat) (h : PH) : Option (Int32 × PH) := (gfi 11 20 x0 h).bind (fun t1 => if t1 = 3 then ((gfi 11 21 x0 h).bind (fun t2 => (rcv 11 x0 h).bind (fun u3 => (f_X13_at x0 t2 h).bind (fun q4 => if q4.1 = 59 then (some (1, q4.2)) else (some (0, q4.2)))))) else (some (0, h)))
theorem T_X13_isStop {K : KT} {x0 : Option Nat} {h : PH} {q : (Int32 × PH)} (hf : f_X13_isStop x0 h = some q) : T K mi_X13_isStop [va_rf x0] h (.inl (some (.int q.1))) q.2 := by
  unfold f_X13_isStop at hf
  refine T_of (by decide +kernel) rfl (C1_r C1_0) (Nat.le_of_ble_eq_true rfl) ?_
  show R K mi_X13_isStop h [va_rf x0] _ _ 0 [(0, va_rf x0)] [] h
  refine R_aload_n 0 dX13_isStop_0 rfl rfl ?_
  obtain ⟨t1, et1, hf⟩ := Option.bind_eq_some_iff.mp hf
  refine R_geti lg_X13_261 et1 dX13_isStop_1 ?_
  refine R_iconst dX13_isStop_4 k_iconst_3 ?_
  refine R_icne (tgt := 25) dX13_isStop_5 (by decide) (fun hc => ?_) (fun hc => ?_)
  · rw [if_pos hc] at hf
    refine R_aload_n 0 dX13_isStop_8 rfl rfl ?_
    refine R_aload_n 0 dX13_isStop_9 rfl rfl ?_
    obtain ⟨t2, et2, hf⟩ := Option.bind_eq_some_iff.mp hf
    refine R_geti lg_X13_255 et2 dX13_isStop_10 ?_
    obtain ⟨u3, eu3, hf⟩ := Option.bind_eq_some_iff.mp hf
    obtain ⟨q4, eq4, hf⟩ := Option.bind_eq_some_iff.mp hf
    refine R_callV (mj := mi_X13_at) (ci := 11) (q := (RX13, TX13, 24)) (As := [.int t2]) (rest := []) (T_X13_at eq4) eu3 rfl lV_X13_258 ⟨rfl, oky_X13_at⟩ (by decide) (by decide) rfl C1_0 (Nat.le_of_ble_eq_true rfl) dX13_isStop_13 ?_
    refine R_bipush dX13_isStop_16 k_bipush_59 ?_
    refine R_icne (tgt := 25) dX13_isStop_18 (by decide) (fun hc => ?_) (fun hc => ?_)
    · rw [if_pos hc] at hf
      refine R_iconst dX13_isStop_21 k_iconst_1 ?_
      refine R_goto (tgt := 26) dX13_isStop_22 (by decide) ?_
      obtain rfl := Option.some.inj hf
      exact R_iretZ1 rfl dX13_isStop_26
    · rw [if_neg hc] at hf
      refine R_iconst dX13_isStop_25 k_iconst_0 ?_
      obtain rfl := Option.some.inj hf
      exact R_iretZ0 rfl dX13_isStop_26
  · rw [if_neg hc] at hf
    refine R_iconst dX13_isStop_25 k_iconst_0 ?_
    obtain rfl := Option.some.inj hf
    exact R_iretZ0 rfl dX13_isStop_26
theorem lV_X13_277 : GoodIn lw_all (wsV "EdgeSumsModel" 277 "EdgeSumsModel" yX13_isWell (ws_ yX13_isWell cX13_isWell 1 (some FieldType.boolean))) := lw_V q3014 q3016 qs102 q158 q3017
theorem oky_X13_isWell : okY yX13_isWell 0 := ⟨by decide +kernel, by decide +kernel, by decide +kernel⟩
theorem lV_X13_280 : GoodIn lw_all (wsV "EdgeSumsModel" 280 "EdgeSumsModel" yX13_fail (ws_ yX13_fail cX13_fail 1 none)) := lw_V q3032 q3034 qs105 q158 q3035
theorem oky_X13_fail : okY yX13_fail 0 := ⟨by decide +kernel, by decide +kernel, by decide +kernel⟩
theorem lV_X13_286 : GoodIn lw_all (wsV "EdgeSumsModel" 286 "EdgeSumsModel" yX13_isStop (ws_ yX13_isStop cX13_isStop 1 (some FieldType.boolean))) := lw_V q3040 q3042 qs107 q158 q3043
theorem oky_X13_isStop : okY yX13_isStop 0 := ⟨by decide +kernel, by decide +kernel, by decide +kernel⟩
theorem lV_X13_283 : GoodIn lw_all (wsV "EdgeSumsModel" 283 "EdgeSumsModel" yX13_goOn (ws_ yX13_goOn cX13_goOn 1 none)) := lw_V q3006 q3008 qs100 q158 q3009
theorem oky_X13_goOn : okY yX13_goOn 0 := ⟨by decide +kernel, by decide +kernel, by decide +kernel⟩
abbrev mi_X13_readPage : MI := (RX13, yX13_readPage, cX13_readPage, 5, none, 3)
noncomputable def f_X13_readPage_B242 (r215 : Option Nat → Int32 → Int32 → PH → Option PH) (x0 : Option Nat) (x3 : Int32) (x4 : Int32) (h : PH) : Option PH := (rcv 11 x0 h).bind (fun u1 => (f_X13_fail x0 h).bind (fun h2 => r215 x0 x3 (x4 + 1) h2))
theorem f_X13_readPage_B242_ok {K : KT} {h0 : PH} {a0 : List Value} {q : PH} {r215 : Option Nat → Int32 → Int32 → PH → Option PH} (hr215 : ∀ (y0 : Option Nat) (y3 : Int32) (y4 : Int32) (h : PH), r215 y0 y3 y4 h = some q → R K mi_X13_readPage h0 a0 (.inl none) q 215 [(0, va_rf y0), (3, .int y3), (4, .int y4)] [] h) (x0 : Option Nat) (x3 : Int32) (x4 : Int32) (h : PH) (hf : f_X13_readPage_B242 r215 x0 x3 x4 h = some q) : R K mi_X13_readPage h0 a0 (.inl none) q 242 [(0, va_rf x0), (3, .int x3), (4, .int x4)] [] h := by
  unfold f_X13_readPage_B242 at hf
  refine R_aload_n 0 dX13_readPage_242 rfl rfl ?_
  obtain ⟨u1, eu1, hf⟩ := Option.bind_eq_some_iff.mp hf
  obtain ⟨h2, eh2, hf⟩ := Option.bind_eq_some_iff.mp hf
  refine R_callV (mj := mi_X13_fail) (ci := 11) (q := (RX13, TX13, 24)) (As := []) (rest := []) (T_X13_fail eh2) eu1 rfl lV_X13_280 ⟨rfl, oky_X13_fail⟩ (by decide) (by decide) rfl C1_0 (Nat.le_of_ble_eq_true rfl) dX13_readPage_243 ?_
  refine R_iinc (L' := [(4, .int (x4 + 1)), (0, va_rf x0), (3, .int x3)]) 2 dX13_readPage_246 rfl (k_inc_1 _) (by decide) rfl ?_
  refine R_goto (tgt := 215) dX13_readPage_249 (by decide) ?_
  refine R.sub [1, 2, 0] (L' := [(0, va_rf x0), (3, .int x3), (4, .int (x4 + 1))]) rfl ?_
  exact hr215 x0 x3 (x4 + 1) h2 hf
noncomputable def f_X13_readPage_L215  : Nat → Option Nat → Int32 → Int32 → PH → Option PH
  | 0, _, _, _, _ => none
  | k + 1, x0, x3, x4, h => if x3 ≤ x4 then (some h) else ((rcv 11 x0 h).bind (fun u1 => (f_X13_isConnected x0 x4 (-1) h).bind (fun q2 => if q2.1 = 0 then (f_X13_readPage_B242 (f_X13_readPage_L215 k) x0 x3 x4 q2.2) else ((rcv 11 x0 q2.2).bind (fun u3 => (f_X13_blockSize x0 x4 q2.2).bind (fun q4 => if q4.1 ≤ 6 then ((f_X13_readPage_L215 k) x0 x3 (x4 + 1) q4.2) else (f_X13_readPage_B242 (f_X13_readPage_L215 k) x0 x3 x4 q4.2)))))))
theorem f_X13_readPage_L215_ok {K : KT} {h0 : PH} {a0 : List Value} {q : PH}  : ∀ (k : Nat) (x0 : Option Nat) (x3 : Int32) (x4 : Int32) (h : PH), f_X13_readPage_L215  k x0 x3 x4 h = some q → R K mi_X13_readPage h0 a0 (.inl none) q 215 [(0, va_rf x0), (3, .int x3), (4, .int x4)] [] h := by
  intro k
  induction k with
  | zero => intro _ _ _ _ hf; cases hf
  | succ k ih =>
    intro x0 x3 x4 h hf
    unfold f_X13_readPage_L215 at hf
    refine R_iload 2 dX13_readPage_215 rfl ?_
    refine R_iload_n 1 dX13_readPage_217 rfl rfl ?_
    refine R_icge (tgt := 252) dX13_readPage_218 (by decide) (fun hc => ?_) (fun hc => ?_)
    · rw [if_pos hc] at hf
      obtain rfl := Option.some.inj hf
      exact R_return rfl dX13_readPage_252
    · rw [if_neg hc] at hf
      refine R_aload_n 0 dX13_readPage_221 rfl rfl ?_
      refine R_iload 2 dX13_readPage_222 rfl ?_
      refine R_iconst dX13_readPage_224 k_iconst_m1 ?_
      obtain ⟨u1, eu1, hf⟩ := Option.bind_eq_some_iff.mp hf
      obtain ⟨q2, eq2, hf⟩ := Option.bind_eq_some_iff.mp hf
      refine R_callV (mj := mi_X13_isConnected) (ci := 11) (q := (RX13, TX13, 24)) (As := [.int x4, .int (-1)]) (rest := []) (T_X13_isConnected eq2) eu1 rfl lV_X13_112 ⟨rfl, oky_X13_isConnected⟩ (by decide) (by decide) rfl C1_0 (Nat.le_of_ble_eq_true rfl) dX13_readPage_225 ?_
      refine R_ifeq (tgt := 242) dX13_readPage_228 (by decide) (fun hc => ?_) (fun hc => ?_)
      · rw [if_pos hc] at hf
        exact f_X13_readPage_B242_ok ih x0 x3 x4 q2.2 hf
      · rw [if_neg hc] at hf
        refine R_aload_n 0 dX13_readPage_231 rfl rfl ?_
        refine R_iload 2 dX13_readPage_232 rfl ?_
        obtain ⟨u3, eu3, hf⟩ := Option.bind_eq_some_iff.mp hf
        obtain ⟨q4, eq4, hf⟩ := Option.bind_eq_some_iff.mp hf
        refine R_callV (mj := mi_X13_blockSize) (ci := 11) (q := (RX13, TX13, 24)) (As := [.int x4]) (rest := []) (T_X13_blockSize eq4) eu3 rfl lV_X13_76 ⟨rfl, oky_X13_blockSize⟩ (by decide) (by decide) rfl C1_0 (Nat.le_of_ble_eq_true rfl) dX13_readPage_234 ?_
        refine R_bipush dX13_readPage_237 k_bipush_6 ?_
        refine R_icle (tgt := 246) dX13_readPage_239 (by decide) (fun hc => ?_) (fun hc => ?_)
        · rw [if_pos hc] at hf
          refine R_iinc (L' := [(4, .int (x4 + 1)), (0, va_rf x0), (3, .int x3)]) 2 dX13_readPage_246 rfl (k_inc_1 _) (by decide) rfl ?_
          refine R_goto (tgt := 215) dX13_readPage_249 (by decide) ?_
          refine R.sub [1, 2, 0] (L' := [(0, va_rf x0), (3, .int x3), (4, .int (x4 + 1))]) rfl ?_
          exact ih x0 x3 (x4 + 1) q4.2 hf
        · rw [if_neg hc] at hf
          exact f_X13_readPage_B242_ok ih x0 x3 x4 q4.2 hf
noncomputable def f_X13_readPage_L175  : Nat → Option Nat → Int32 → PH → Option PH
  | 0, _, _, _ => none
  | k + 1, x0, x3, h => (rcv 11 x0 h).bind (fun u1 => (f_X13_cells x0 h).bind (fun q2 => if q2.1 ≤ x3 then ((rcv 11 x0 q2.2).bind (fun u3 => (f_X13_renumber x0 q2.2).bind (fun q4 => f_X13_readPage_L215  FU x0 q4.1 0 q4.2))) else ((gfr 11 1 x0 q2.2).bind (fun t5 => (gfr 11 17 x0 q2.2).bind (fun t6 => (ald 0 t6 (8 + x3) q2.2).bind (fun t7 => (asi 0 t5 (8 + x3) t7 q2.2).bind (fun h8 => (f_X13_readPage_L175 k) x0 (x3 + 1) h8)))))))
theorem f_X13_readPage_L175_ok {K : KT} {h0 : PH} {a0 : List Value} {q : PH}  : ∀ (k : Nat) (x0 : Option Nat) (x3 : Int32) (h : PH), f_X13_readPage_L175  k x0 x3 h = some q → R K mi_X13_readPage h0 a0 (.inl none) q 175 [(0, va_rf x0), (3, .int x3)] [] h := by
  intro k
  induction k with
  | zero => intro _ _ _ hf; cases hf
  | succ k ih =>
    intro x0 x3 h hf
    unfold f_X13_readPage_L175 at hf
    refine R_iload_n 1 dX13_readPage_175 rfl rfl ?_
    refine R_aload_n 0 dX13_readPage_176 rfl rfl ?_
    obtain ⟨u1, eu1, hf⟩ := Option.bind_eq_some_iff.mp hf
    obtain ⟨q2, eq2, hf⟩ := Option.bind_eq_some_iff.mp hf
    refine R_callV (mj := mi_X13_cells) (ci := 11) (q := (RX13, TX13, 24)) (As := []) (rest := [.int x3]) (T_X13_cells eq2) eu1 rfl lV_X13_61 ⟨rfl, oky_X13_cells⟩ (by decide) (by decide) rfl (C1_i C1_0) (Nat.le_of_ble_eq_true rfl) dX13_readPage_177 ?_
    refine R_icge (tgt := 207) dX13_readPage_180 (by decide) (fun hc => ?_) (fun hc => ?_)
    · rw [if_pos hc] at hf
      refine R_aload_n 0 dX13_readPage_207 rfl rfl ?_
      obtain ⟨u3, eu3, hf⟩ := Option.bind_eq_some_iff.mp hf
      obtain ⟨q4, eq4, hf⟩ := Option.bind_eq_some_iff.mp hf
      refine R_callV (mj := mi_X13_renumber) (ci := 11) (q := (RX13, TX13, 24)) (As := []) (rest := []) (T_X13_renumber eq4) eu3 rfl lV_X13_118 ⟨rfl, oky_X13_renumber⟩ (by decide) (by decide) rfl C1_0 (Nat.le_of_ble_eq_true rfl) dX13_readPage_208 ?_
      refine R_istore_n (L' := [(3, .int q4.1), (0, va_rf x0)]) dX13_readPage_211 rfl (by decide) rfl ?_
      refine R_iconst dX13_readPage_212 k_iconst_0 ?_
      refine R_istore (L' := [(4, .int 0), (3, .int q4.1), (0, va_rf x0)]) dX13_readPage_213 (by decide) rfl ?_
      refine R.sub [2, 1, 0] (L' := [(0, va_rf x0), (3, .int q4.1), (4, .int 0)]) rfl ?_
      exact f_X13_readPage_L215_ok  FU x0 q4.1 0 q4.2 hf
    · rw [if_neg hc] at hf
      refine R_aload_n 0 dX13_readPage_183 rfl rfl ?_
      obtain ⟨t5, et5, hf⟩ := Option.bind_eq_some_iff.mp hf
      refine R_getr lg_X13_7 et5 dX13_readPage_184 ?_
      refine R_bipush dX13_readPage_187 k_bipush_8 ?_
      refine R_iload_n 1 dX13_readPage_189 rfl rfl ?_
      refine R_iadd dX13_readPage_190 ?_
      refine R_aload_n 0 dX13_readPage_191 rfl rfl ?_
      obtain ⟨t6, et6, hf⟩ := Option.bind_eq_some_iff.mp hf
      refine R_getr lg_X13_37 et6 dX13_readPage_192 ?_
      refine R_bipush dX13_readPage_195 k_bipush_8 ?_
      refine R_iload_n 1 dX13_readPage_197 rfl rfl ?_
      refine R_iadd dX13_readPage_198 ?_
      obtain ⟨t7, et7, hf⟩ := Option.bind_eq_some_iff.mp hf
      refine R_iaload et7 dX13_readPage_199 ?_
      obtain ⟨h8, eh8, hf⟩ := Option.bind_eq_some_iff.mp hf
      refine R_iastore eh8 dX13_readPage_200 ?_
      refine R_iinc (L' := [(3, .int (x3 + 1)), (0, va_rf x0)]) 1 dX13_readPage_201 rfl (k_inc_1 _) (by decide) rfl ?_
      refine R_goto (tgt := 175) dX13_readPage_204 (by decide) ?_
      refine R.sub [1, 0] (L' := [(0, va_rf x0), (3, .int (x3 + 1))]) rfl ?_
      exact ih x0 (x3 + 1) h8 hf
noncomputable def f_X13_readPage_B159  (x0 : Option Nat) (x1 : Int32) (x2 : Int32) (h : PH) : Option PH := (rcv 11 x0 h).bind (fun u1 => (f_X13_isWell x0 h).bind (fun q2 => if q2.1 = 0 then (some q2.2) else ((rcv 11 x0 q2.2).bind (fun u3 => (f_X13_lay x0 x1 x2 q2.2).bind (fun h4 => f_X13_readPage_L175  FU x0 0 h4)))))
theorem f_X13_readPage_B159_ok {K : KT} {h0 : PH} {a0 : List Value} {q : PH}  (x0 : Option Nat) (x1 : Int32) (x2 : Int32) (h : PH) (hf : f_X13_readPage_B159  x0 x1 x2 h = some q) : R K mi_X13_readPage h0 a0 (.inl none) q 159 [(0, va_rf x0), (1, .int x1), (2, .int x2)] [] h := by
  unfold f_X13_readPage_B159 at hf
  refine R_aload_n 0 dX13_readPage_159 rfl rfl ?_
  obtain ⟨u1, eu1, hf⟩ := Option.bind_eq_some_iff.mp hf
  obtain ⟨q2, eq2, hf⟩ := Option.bind_eq_some_iff.mp hf
  refine R_callV (mj := mi_X13_isWell) (ci := 11) (q := (RX13, TX13, 24)) (As := []) (rest := []) (T_X13_isWell eq2) eu1 rfl lV_X13_277 ⟨rfl, oky_X13_isWell⟩ (by decide) (by decide) rfl C1_0 (Nat.le_of_ble_eq_true rfl) dX13_readPage_160 ?_
  refine R_ifne (tgt := 167) dX13_readPage_163 (by decide) (fun hc => ?_) (fun hc => ?_)
  · rw [if_pos hc] at hf
    obtain rfl := Option.some.inj hf
    exact R_return rfl dX13_readPage_166
  · rw [if_neg hc] at hf
    refine R_aload_n 0 dX13_readPage_167 rfl rfl ?_
    refine R_iload_n 1 dX13_readPage_168 rfl rfl ?_
    refine R_iload_n 2 dX13_readPage_169 rfl rfl ?_
    obtain ⟨u3, eu3, hf⟩ := Option.bind_eq_some_iff.mp hf
    obtain ⟨h4, eh4, hf⟩ := Option.bind_eq_some_iff.mp hf
    refine R_callV (mj := mi_X13_lay) (ci := 11) (q := (RX13, TX13, 24)) (As := [.int x1, .int x2]) (rest := []) (T_X13_lay eh4) eu3 rfl lV_X13_47 ⟨rfl, oky_X13_lay⟩ (by decide) (by decide) rfl C1_0 (Nat.le_of_ble_eq_true rfl) dX13_readPage_170 ?_
    refine R_iconst dX13_readPage_173 k_iconst_0 ?_
    refine R_istore_n (L' := [(3, .int 0), (0, va_rf x0), (1, .int x1), (2, .int x2)]) dX13_readPage_174 rfl (by decide) rfl ?_
    refine R.sub [1, 0] (L' := [(0, va_rf x0), (3, .int 0)]) rfl ?_
    exact f_X13_readPage_L175_ok  FU x0 0 h4 hf
noncomputable def f_X13_readPage_B155  (x0 : Option Nat) (x1 : Int32) (x2 : Int32) (h : PH) : Option PH := (rcv 11 x0 h).bind (fun u1 => (f_X13_fail x0 h).bind (fun h2 => f_X13_readPage_B159  x0 x1 x2 h2))
theorem f_X13_readPage_B155_ok {K : KT} {h0 : PH} {a0 : List Value} {q : PH}  (x0 : Option Nat) (x1 : Int32) (x2 : Int32) (h : PH) (hf : f_X13_readPage_B155  x0 x1 x2 h = some q) : R K mi_X13_readPage h0 a0 (.inl none) q 155 [(0, va_rf x0), (1, .int x1), (2, .int x2)] [] h := by
  unfold f_X13_readPage_B155 at hf
  refine R_aload_n 0 dX13_readPage_155 rfl rfl ?_
  obtain ⟨u1, eu1, hf⟩ := Option.bind_eq_some_iff.mp hf
  obtain ⟨h2, eh2, hf⟩ := Option.bind_eq_some_iff.mp hf
  refine R_callV (mj := mi_X13_fail) (ci := 11) (q := (RX13, TX13, 24)) (As := []) (rest := []) (T_X13_fail eh2) eu1 rfl lV_X13_280 ⟨rfl, oky_X13_fail⟩ (by decide) (by decide) rfl C1_0 (Nat.le_of_ble_eq_true rfl) dX13_readPage_156 ?_
  exact f_X13_readPage_B159_ok  x0 x1 x2 h2 hf
noncomputable def f_X13_readPage_B136  (x0 : Option Nat) (x1 : Int32) (x2 : Int32) (h : PH) : Option PH := (rcv 11 x0 h).bind (fun u1 => (f_X13_isWell x0 h).bind (fun q2 => if q2.1 = 0 then (f_X13_readPage_B159  x0 x1 x2 q2.2) else (if x1 < 2 then (f_X13_readPage_B155  x0 x1 x2 q2.2) else ((rcv 11 x0 q2.2).bind (fun u3 => (f_X13_isStop x0 q2.2).bind (fun q4 => if q4.1 = 0 then (f_X13_readPage_B155  x0 x1 x2 q4.2) else (f_X13_readPage_B159  x0 x1 x2 q4.2)))))))
theorem f_X13_readPage_B136_ok {K : KT} {h0 : PH} {a0 : List Value} {q : PH}  (x0 : Option Nat) (x1 : Int32) (x2 : Int32) (h : PH) (hf : f_X13_readPage_B136  x0 x1 x2 h = some q) : R K mi_X13_readPage h0 a0 (.inl none) q 136 [(0, va_rf x0), (1, .int x1), (2, .int x2)] [] h := by
  unfold f_X13_readPage_B136 at hf
  refine R_aload_n 0 dX13_readPage_136 rfl rfl ?_
  obtain ⟨u1, eu1, hf⟩ := Option.bind_eq_some_iff.mp hf
  obtain ⟨q2, eq2, hf⟩ := Option.bind_eq_some_iff.mp hf
  refine R_callV (mj := mi_X13_isWell) (ci := 11) (q := (RX13, TX13, 24)) (As := []) (rest := []) (T_X13_isWell eq2) eu1 rfl lV_X13_277 ⟨rfl, oky_X13_isWell⟩ (by decide) (by decide) rfl C1_0 (Nat.le_of_ble_eq_true rfl) dX13_readPage_137 ?_
  refine R_ifeq (tgt := 159) dX13_readPage_140 (by decide) (fun hc => ?_) (fun hc => ?_)
  · rw [if_pos hc] at hf
    exact f_X13_readPage_B159_ok  x0 x1 x2 q2.2 hf
  · rw [if_neg hc] at hf
    refine R_iload_n 1 dX13_readPage_143 rfl rfl ?_
    refine R_iconst dX13_readPage_144 k_iconst_2 ?_
    refine R_iclt (tgt := 155) dX13_readPage_145 (by decide) (fun hc => ?_) (fun hc => ?_)
    · rw [if_pos hc] at hf
      exact f_X13_readPage_B155_ok  x0 x1 x2 q2.2 hf
    · rw [if_neg hc] at hf
      refine R_aload_n 0 dX13_readPage_148 rfl rfl ?_
      obtain ⟨u3, eu3, hf⟩ := Option.bind_eq_some_iff.mp hf
      obtain ⟨q4, eq4, hf⟩ := Option.bind_eq_some_iff.mp hf
      refine R_callV (mj := mi_X13_isStop) (ci := 11) (q := (RX13, TX13, 24)) (As := []) (rest := []) (T_X13_isStop eq4) eu3 rfl lV_X13_286 ⟨rfl, oky_X13_isStop⟩ (by decide) (by decide) rfl C1_0 (Nat.le_of_ble_eq_true rfl) dX13_readPage_149 ?_
      refine R_ifne (tgt := 159) dX13_readPage_152 (by decide) (fun hc => ?_) (fun hc => ?_)
      · rw [if_pos hc] at hf
        exact f_X13_readPage_B155_ok  x0 x1 x2 q4.2 hf
      · rw [if_neg hc] at hf
        exact f_X13_readPage_B159_ok  x0 x1 x2 q4.2 hf
noncomputable def f_X13_readPage_B119 (r12 : Option Nat → Int32 → Int32 → PH → Option PH) (x0 : Option Nat) (x1 : Int32) (x2 : Int32) (h : PH) : Option PH := (rcv 11 x0 h).bind (fun u1 => (f_X13_isWell x0 h).bind (fun q2 => if q2.1 = 0 then (r12 x0 (x1 + 1) x2 q2.2) else ((rcv 11 x0 q2.2).bind (fun u3 => (f_X13_goOn x0 q2.2).bind (fun h4 => r12 x0 (x1 + 1) x2 h4)))))
theorem f_X13_readPage_B119_ok {K : KT} {h0 : PH} {a0 : List Value} {q : PH} {r12 : Option Nat → Int32 → Int32 → PH → Option PH} (hr12 : ∀ (y0 : Option Nat) (y1 : Int32) (y2 : Int32) (h : PH), r12 y0 y1 y2 h = some q → R K mi_X13_readPage h0 a0 (.inl none) q 12 [(0, va_rf y0), (1, .int y1), (2, .int y2)] [] h) (x0 : Option Nat) (x1 : Int32) (x2 : Int32) (h : PH) (hf : f_X13_readPage_B119 r12 x0 x1 x2 h = some q) : R K mi_X13_readPage h0 a0 (.inl none) q 119 [(0, va_rf x0), (1, .int x1), (2, .int x2)] [] h := by
  unfold f_X13_readPage_B119 at hf
  refine R_iinc (L' := [(1, .int (x1 + 1)), (0, va_rf x0), (2, .int x2)]) 1 dX13_readPage_119 rfl (k_inc_1 _) (by decide) rfl ?_
  refine R_aload_n 1 dX13_readPage_122 rfl rfl ?_
  obtain ⟨u1, eu1, hf⟩ := Option.bind_eq_some_iff.mp hf
  obtain ⟨q2, eq2, hf⟩ := Option.bind_eq_some_iff.mp hf
  refine R_callV (mj := mi_X13_isWell) (ci := 11) (q := (RX13, TX13, 24)) (As := []) (rest := []) (T_X13_isWell eq2) eu1 rfl lV_X13_277 ⟨rfl, oky_X13_isWell⟩ (by decide) (by decide) rfl C1_0 (Nat.le_of_ble_eq_true rfl) dX13_readPage_123 ?_
  refine R_ifeq (tgt := 12) dX13_readPage_126 (by decide) (fun hc => ?_) (fun hc => ?_)
  · rw [if_pos hc] at hf
    refine R.sub [1, 0, 2] (L' := [(0, va_rf x0), (1, .int (x1 + 1)), (2, .int x2)]) rfl ?_
    exact hr12 x0 (x1 + 1) x2 q2.2 hf
  · rw [if_neg hc] at hf
    refine R_aload_n 1 dX13_readPage_129 rfl rfl ?_
    obtain ⟨u3, eu3, hf⟩ := Option.bind_eq_some_iff.mp hf
    obtain ⟨h4, eh4, hf⟩ := Option.bind_eq_some_iff.mp hf
    refine R_callV (mj := mi_X13_goOn) (ci := 11) (q := (RX13, TX13, 24)) (As := []) (rest := []) (T_X13_goOn eh4) eu3 rfl lV_X13_283 ⟨rfl, oky_X13_goOn⟩ (by decide) (by decide) rfl C1_0 (Nat.le_of_ble_eq_true rfl) dX13_readPage_130 ?_
    refine R_goto (tgt := 12) dX13_readPage_133 (by decide) ?_
    refine R.sub [1, 0, 2] (L' := [(0, va_rf x0), (1, .int (x1 + 1)), (2, .int x2)]) rfl ?_
    exact hr12 x0 (x1 + 1) x2 h4 hf
noncomputable def f_X13_readPage_L78 (r12 : Option Nat → Int32 → Int32 → PH → Option PH) : Nat → Option Nat → Int32 → Int32 → Int32 → PH → Option PH
  | 0, _, _, _, _, _ => none
  | k + 1, x0, x1, x2, x3, h => if x2 ≤ x3 then (f_X13_readPage_B119 r12 x0 x1 x2 h) else ((rcv 11 x0 h).bind (fun u1 => (f_X13_isWell x0 h).bind (fun q2 => if q2.1 = 0 then (f_X13_readPage_B119 r12 x0 x1 x2 q2.2) else ((gfr 11 17 x0 q2.2).bind (fun t3 => (gfi 11 21 x0 q2.2).bind (fun t4 => (rcv 11 x0 q2.2).bind (fun u5 => (f_X13_at x0 (t4 + x3) q2.2).bind (fun q6 => (asi 0 t3 ((8 + (x2 * x1)) + x3) q6.1 q6.2).bind (fun h7 => (f_X13_readPage_L78 r12 k) x0 x1 x2 (x3 + 1) h7)))))))))
theorem f_X13_readPage_L78_ok {K : KT} {h0 : PH} {a0 : List Value} {q : PH} {r12 : Option Nat → Int32 → Int32 → PH → Option PH} (hr12 : ∀ (y0 : Option Nat) (y1 : Int32) (y2 : Int32) (h : PH), r12 y0 y1 y2 h = some q → R K mi_X13_readPage h0 a0 (.inl none) q 12 [(0, va_rf y0), (1, .int y1), (2, .int y2)] [] h) : ∀ (k : Nat) (x0 : Option Nat) (x1 : Int32) (x2 : Int32) (x3 : Int32) (h : PH), f_X13_readPage_L78 r12 k x0 x1 x2 x3 h = some q → R K mi_X13_readPage h0 a0 (.inl none) q 78 [(0, va_rf x0), (1, .int x1), (2, .int x2), (3, .int x3)] [] h := by
  intro k
  induction k with
  | zero => intro _ _ _ _ _ hf; cases hf
  | succ k ih =>
    intro x0 x1 x2 x3 h hf
    unfold f_X13_readPage_L78 at hf
    refine R_iload_n 3 dX13_readPage_78 rfl rfl ?_
    refine R_iload_n 2 dX13_readPage_79 rfl rfl ?_
    refine R_icge (tgt := 119) dX13_readPage_80 (by decide) (fun hc => ?_) (fun hc => ?_)
    · rw [if_pos hc] at hf
      refine R.sub [0, 1, 2] (L' := [(0, va_rf x0), (1, .int x1), (2, .int x2)]) rfl ?_
      exact f_X13_readPage_B119_ok hr12 x0 x1 x2 h hf
    · rw [if_neg hc] at hf
      refine R_aload_n 0 dX13_readPage_83 rfl rfl ?_
      obtain ⟨u1, eu1, hf⟩ := Option.bind_eq_some_iff.mp hf
      obtain ⟨q2, eq2, hf⟩ := Option.bind_eq_some_iff.mp hf
      refine R_callV (mj := mi_X13_isWell) (ci := 11) (q := (RX13, TX13, 24)) (As := []) (rest := []) (T_X13_isWell eq2) eu1 rfl lV_X13_277 ⟨rfl, oky_X13_isWell⟩ (by decide) (by decide) rfl C1_0 (Nat.le_of_ble_eq_true rfl) dX13_readPage_84 ?_
      refine R_ifeq (tgt := 119) dX13_readPage_87 (by decide) (fun hc => ?_) (fun hc => ?_)
      · rw [if_pos hc] at hf
        refine R.sub [0, 1, 2] (L' := [(0, va_rf x0), (1, .int x1), (2, .int x2)]) rfl ?_
        exact f_X13_readPage_B119_ok hr12 x0 x1 x2 q2.2 hf
      · rw [if_neg hc] at hf
        refine R_aload_n 0 dX13_readPage_90 rfl rfl ?_
        obtain ⟨t3, et3, hf⟩ := Option.bind_eq_some_iff.mp hf
        refine R_getr lg_X13_37 et3 dX13_readPage_91 ?_
        refine R_bipush dX13_readPage_94 k_bipush_8 ?_
        refine R_iload_n 2 dX13_readPage_96 rfl rfl ?_
        refine R_iload_n 1 dX13_readPage_97 rfl rfl ?_
        refine R_imul dX13_readPage_98 ?_
        refine R_iadd dX13_readPage_99 ?_
        refine R_iload_n 3 dX13_readPage_100 rfl rfl ?_
        refine R_iadd dX13_readPage_101 ?_
        refine R_aload_n 0 dX13_readPage_102 rfl rfl ?_
        refine R_aload_n 0 dX13_readPage_103 rfl rfl ?_
        obtain ⟨t4, et4, hf⟩ := Option.bind_eq_some_iff.mp hf
        refine R_geti lg_X13_255 et4 dX13_readPage_104 ?_
        refine R_iload_n 3 dX13_readPage_107 rfl rfl ?_
        refine R_iadd dX13_readPage_108 ?_
        obtain ⟨u5, eu5, hf⟩ := Option.bind_eq_some_iff.mp hf
        obtain ⟨q6, eq6, hf⟩ := Option.bind_eq_some_iff.mp hf
        refine R_callV (mj := mi_X13_at) (ci := 11) (q := (RX13, TX13, 24)) (As := [.int (t4 + x3)]) (rest := [.int ((8 + (x2 * x1)) + x3), va_rf t3]) (T_X13_at eq6) eu5 rfl lV_X13_258 ⟨rfl, oky_X13_at⟩ (by decide) (by decide) rfl (C1_i (C1_r C1_0)) (Nat.le_of_ble_eq_true rfl) dX13_readPage_109 ?_
        obtain ⟨h7, eh7, hf⟩ := Option.bind_eq_some_iff.mp hf
        refine R_iastore eh7 dX13_readPage_112 ?_
        refine R_iinc (L' := [(3, .int (x3 + 1)), (0, va_rf x0), (1, .int x1), (2, .int x2)]) 3 dX13_readPage_113 rfl (k_inc_1 _) (by decide) rfl ?_
        refine R_goto (tgt := 78) dX13_readPage_116 (by decide) ?_
        refine R.sub [1, 2, 3, 0] (L' := [(0, va_rf x0), (1, .int x1), (2, .int x2), (3, .int (x3 + 1))]) rfl ?_
        exact ih x0 x1 x2 (x3 + 1) h7 hf
noncomputable def f_X13_readPage_B72 (r12 : Option Nat → Int32 → Int32 → PH → Option PH) (x0 : Option Nat) (x1 : Int32) (x2 : Int32) (h : PH) : Option PH := (rcv 11 x0 h).bind (fun u1 => (f_X13_fail x0 h).bind (fun h2 => f_X13_readPage_L78 r12 FU x0 x1 x2 0 h2))
theorem f_X13_readPage_B72_ok {K : KT} {h0 : PH} {a0 : List Value} {q : PH} {r12 : Option Nat → Int32 → Int32 → PH → Option PH} (hr12 : ∀ (y0 : Option Nat) (y1 : Int32) (y2 : Int32) (h : PH), r12 y0 y1 y2 h = some q → R K mi_X13_readPage h0 a0 (.inl none) q 12 [(0, va_rf y0), (1, .int y1), (2, .int y2)] [] h) (x0 : Option Nat) (x1 : Int32) (x2 : Int32) (h : PH) (hf : f_X13_readPage_B72 r12 x0 x1 x2 h = some q) : R K mi_X13_readPage h0 a0 (.inl none) q 72 [(0, va_rf x0), (1, .int x1), (2, .int x2)] [] h := by
  unfold f_X13_readPage_B72 at hf
  refine R_aload_n 0 dX13_readPage_72 rfl rfl ?_
  obtain ⟨u1, eu1, hf⟩ := Option.bind_eq_some_iff.mp hf
  obtain ⟨h2, eh2, hf⟩ := Option.bind_eq_some_iff.mp hf
  refine R_callV (mj := mi_X13_fail) (ci := 11) (q := (RX13, TX13, 24)) (As := []) (rest := []) (T_X13_fail eh2) eu1 rfl lV_X13_280 ⟨rfl, oky_X13_fail⟩ (by decide) (by decide) rfl C1_0 (Nat.le_of_ble_eq_true rfl) dX13_readPage_73 ?_
  refine R_iconst dX13_readPage_76 k_iconst_0 ?_
  refine R_istore_n (L' := [(3, .int 0), (0, va_rf x0), (1, .int x1), (2, .int x2)]) dX13_readPage_77 rfl (by decide) rfl ?_
  refine R.sub [1, 2, 3, 0] (L' := [(0, va_rf x0), (1, .int x1), (2, .int x2), (3, .int 0)]) rfl ?_
  exact f_X13_readPage_L78_ok hr12 FU x0 x1 x2 0 h2 hf
noncomputable def f_X13_readPage_B49 (r12 : Option Nat → Int32 → Int32 → PH → Option PH) (x0 : Option Nat) (x1 : Int32) (s0 : Int32) (h : PH) : Option PH := (f_X13_in s0 2 5 h).bind (fun q1 => if q1.1 = 0 then (f_X13_readPage_B72 r12 x0 x1 s0 q1.2) else ((gfi 11 22 x0 q1.2).bind (fun t2 => (gfi 11 21 x0 q1.2).bind (fun t3 => if (t2 - t3) = s0 then (f_X13_readPage_L78 r12 FU x0 x1 s0 0 q1.2) else (f_X13_readPage_B72 r12 x0 x1 s0 q1.2)))))
theorem f_X13_readPage_B49_ok {K : KT} {h0 : PH} {a0 : List Value} {q : PH} {r12 : Option Nat → Int32 → Int32 → PH → Option PH} (hr12 : ∀ (y0 : Option Nat) (y1 : Int32) (y2 : Int32) (h : PH), r12 y0 y1 y2 h = some q → R K mi_X13_readPage h0 a0 (.inl none) q 12 [(0, va_rf y0), (1, .int y1), (2, .int y2)] [] h) (x0 : Option Nat) (x1 : Int32) (s0 : Int32) (h : PH) (hf : f_X13_readPage_B49 r12 x0 x1 s0 h = some q) : R K mi_X13_readPage h0 a0 (.inl none) q 49 [(0, va_rf x0), (1, .int x1)] [.int s0] h := by
  unfold f_X13_readPage_B49 at hf
  refine R_istore_n (L' := [(2, .int s0), (0, va_rf x0), (1, .int x1)]) dX13_readPage_49 rfl (by decide) rfl ?_
  refine R_iload_n 0 dX13_readPage_50 rfl rfl ?_
  refine R_iconst dX13_readPage_51 k_iconst_2 ?_
  refine R_iconst dX13_readPage_52 k_iconst_5 ?_
  obtain ⟨q1, eq1, hf⟩ := Option.bind_eq_some_iff.mp hf
  refine R_callS (mj := mi_X13_in) (As := [.int s0, .int 2, .int 5]) (rest := []) (T_X13_in eq1) lS_X13_65 oky_X13_in (by decide) (by decide) rfl C1_0 (Nat.le_of_ble_eq_true rfl) dX13_readPage_53 ?_
  refine R_ifeq (tgt := 72) dX13_readPage_56 (by decide) (fun hc => ?_) (fun hc => ?_)
  · rw [if_pos hc] at hf
    refine R.sub [1, 2, 0] (L' := [(0, va_rf x0), (1, .int x1), (2, .int s0)]) rfl ?_
    exact f_X13_readPage_B72_ok hr12 x0 x1 s0 q1.2 hf
  · rw [if_neg hc] at hf
    refine R_aload_n 1 dX13_readPage_59 rfl rfl ?_
    obtain ⟨t2, et2, hf⟩ := Option.bind_eq_some_iff.mp hf
    refine R_geti lg_X13_252 et2 dX13_readPage_60 ?_
    refine R_aload_n 1 dX13_readPage_63 rfl rfl ?_
    obtain ⟨t3, et3, hf⟩ := Option.bind_eq_some_iff.mp hf
    refine R_geti lg_X13_255 et3 dX13_readPage_64 ?_
    refine R_isub dX13_readPage_67 ?_
    refine R_iload_n 0 dX13_readPage_68 rfl rfl ?_
    refine R_iceq (tgt := 76) dX13_readPage_69 (by decide) (fun hc => ?_) (fun hc => ?_)
    · rw [if_pos hc] at hf
      refine R_iconst dX13_readPage_76 k_iconst_0 ?_
      refine R_istore_n (L' := [(3, .int 0), (2, .int s0), (0, va_rf x0), (1, .int x1)]) dX13_readPage_77 rfl (by decide) rfl ?_
      refine R.sub [2, 3, 1, 0] (L' := [(0, va_rf x0), (1, .int x1), (2, .int s0), (3, .int 0)]) rfl ?_
      exact f_X13_readPage_L78_ok hr12 FU x0 x1 s0 0 q1.2 hf
    · rw [if_neg hc] at hf
      refine R.sub [1, 2, 0] (L' := [(0, va_rf x0), (1, .int x1), (2, .int s0)]) rfl ?_
      exact f_X13_readPage_B72_ok hr12 x0 x1 s0 q1.2 hf
noncomputable def f_X13_readPage_L12  : Nat → Option Nat → Int32 → Int32 → PH → Option PH
  | 0, _, _, _, _ => none
  | k + 1, x0, x1, x2, h => (rcv 11 x0 h).bind (fun u1 => (f_X13_isWell x0 h).bind (fun q2 => if q2.1 = 0 then (f_X13_readPage_B136  x0 x1 x2 q2.2) else ((gfi 11 20 x0 q2.2).bind (fun t3 => if t3 = 1 then (if 5 ≤ x1 then (f_X13_readPage_B136  x0 x1 x2 q2.2) else (if x1 = 0 then ((gfi 11 22 x0 q2.2).bind (fun t4 => (gfi 11 21 x0 q2.2).bind (fun t5 => f_X13_readPage_B49 (f_X13_readPage_L12 k) x0 x1 (t4 - t5) q2.2))) else (f_X13_readPage_B49 (f_X13_readPage_L12 k) x0 x1 x2 q2.2))) else (f_X13_readPage_B136  x0 x1 x2 q2.2)))))
theorem f_X13_readPage_L12_ok {K : KT} {h0 : PH} {a0 : List Value} {q : PH}  : ∀ (k : Nat) (x0 : Option Nat) (x1 : Int32) (x2 : Int32) (h : PH), f_X13_readPage_L12  k x0 x1 x2 h = some q → R K mi_X13_readPage h0 a0 (.inl none) q 12 [(0, va_rf x0), (1, .int x1), (2, .int x2)] [] h := by
  intro k
  induction k with
  | zero => intro _ _ _ _ hf; cases hf
  | succ k ih =>
    intro x0 x1 x2 h hf
    unfold f_X13_readPage_L12 at hf
    refine R_aload_n 0 dX13_readPage_12 rfl rfl ?_
    obtain ⟨u1, eu1, hf⟩ := Option.bind_eq_some_iff.mp hf
    obtain ⟨q2, eq2, hf⟩ := Option.bind_eq_some_iff.mp hf
    refine R_callV (mj := mi_X13_isWell) (ci := 11) (q := (RX13, TX13, 24)) (As := []) (rest := []) (T_X13_isWell eq2) eu1 rfl lV_X13_277 ⟨rfl, oky_X13_isWell⟩ (by decide) (by decide) rfl C1_0 (Nat.le_of_ble_eq_true rfl) dX13_readPage_13 ?_
    refine R_ifeq (tgt := 136) dX13_readPage_16 (by decide) (fun hc => ?_) (fun hc => ?_)
    · rw [if_pos hc] at hf
      exact f_X13_readPage_B136_ok  x0 x1 x2 q2.2 hf
    · rw [if_neg hc] at hf
      refine R_aload_n 0 dX13_readPage_19 rfl rfl ?_
      obtain ⟨t3, et3, hf⟩ := Option.bind_eq_some_iff.mp hf
      refine R_geti lg_X13_261 et3 dX13_readPage_20 ?_
      refine R_iconst dX13_readPage_23 k_iconst_1 ?_
      refine R_icne (tgt := 136) dX13_readPage_24 (by decide) (fun hc => ?_) (fun hc => ?_)
      · rw [if_pos hc] at hf
        refine R_iload_n 1 dX13_readPage_27 rfl rfl ?_
        refine R_iconst dX13_readPage_28 k_iconst_5 ?_
        refine R_icge (tgt := 136) dX13_readPage_29 (by decide) (fun hc => ?_) (fun hc => ?_)
        · rw [if_pos hc] at hf
          exact f_X13_readPage_B136_ok  x0 x1 x2 q2.2 hf
        · rw [if_neg hc] at hf
          refine R_iload_n 1 dX13_readPage_32 rfl rfl ?_
          refine R_ifne (tgt := 48) dX13_readPage_33 (by decide) (fun hc => ?_) (fun hc => ?_)
          · rw [if_pos hc] at hf
            refine R_aload_n 0 dX13_readPage_36 rfl rfl ?_
            obtain ⟨t4, et4, hf⟩ := Option.bind_eq_some_iff.mp hf
            refine R_geti lg_X13_252 et4 dX13_readPage_37 ?_
            refine R_aload_n 0 dX13_readPage_40 rfl rfl ?_
            obtain ⟨t5, et5, hf⟩ := Option.bind_eq_some_iff.mp hf
            refine R_geti lg_X13_255 et5 dX13_readPage_41 ?_
            refine R_isub dX13_readPage_44 ?_
            refine R_goto (tgt := 49) dX13_readPage_45 (by decide) ?_
            refine R.sub [0, 1] (L' := [(0, va_rf x0), (1, .int x1)]) rfl ?_
            exact f_X13_readPage_B49_ok ih x0 x1 (t4 - t5) q2.2 hf
          · rw [if_neg hc] at hf
            refine R_iload_n 2 dX13_readPage_48 rfl rfl ?_
            refine R.sub [0, 1] (L' := [(0, va_rf x0), (1, .int x1)]) rfl ?_
            exact f_X13_readPage_B49_ok ih x0 x1 x2 q2.2 hf
      · rw [if_neg hc] at hf
        exact f_X13_readPage_B136_ok  x0 x1 x2 q2.2 hf
noncomputable def f_X13_readPage (x0 : Option Nat) (h : PH) : Option PH := (gfi 11 22 x0 h).bind (fun t1 => (gfi 11 21 x0 h).bind (fun t2 => f_X13_readPage_L12  FU x0 0 (t1 - t2) h))
theorem T_X13_readPage {K : KT} {x0 : Option Nat} {h : PH} {q : PH} (hf : f_X13_readPage x0 h = some q) : T K mi_X13_readPage [va_rf x0] h (.inl none) q := by
  unfold f_X13_readPage at hf
  refine T_of (by decide +kernel) rfl (C1_r C1_0) (Nat.le_of_ble_eq_true rfl) ?_
  show R K mi_X13_readPage h [va_rf x0] _ _ 0 [(0, va_rf x0)] [] h
  refine R_iconst dX13_readPage_0 k_iconst_0 ?_
  refine R_istore_n (L' := [(1, .int 0), (0, va_rf x0)]) dX13_readPage_1 rfl (by decide) rfl ?_
  refine R_aload_n 1 dX13_readPage_2 rfl rfl ?_
  obtain ⟨t1, et1, hf⟩ := Option.bind_eq_some_iff.mp hf
  refine R_geti lg_X13_252 et1 dX13_readPage_3 ?_
  refine R_aload_n 1 dX13_readPage_6 rfl rfl ?_
  obtain ⟨t2, et2, hf⟩ := Option.bind_eq_some_iff.mp hf
  refine R_geti lg_X13_255 et2 dX13_readPage_7 ?_
  refine R_isub dX13_readPage_10 ?_
  refine R_istore_n (L' := [(2, .int (t1 - t2)), (1, .int 0), (0, va_rf x0)]) dX13_readPage_11 rfl (by decide) rfl ?_
  refine R.sub [2, 1, 0] (L' := [(0, va_rf x0), (1, .int 0), (2, .int (t1 - t2))]) rfl ?_
  exact f_X13_readPage_L12_ok  FU x0 0 (t1 - t2) h hf
abbrev mi_X13_mayWrite : MI := (RX13, yX13_mayWrite, cX13_mayWrite, 3, (some FieldType.boolean), 4)
noncomputable def f_X13_mayWrite (x0 : Option Nat) (x1 : Int32) (x2 : Int32) (h : PH) : Option (Int32 × PH) := if x2 = 0 then (some (1, h)) else ((rcv 11 x0 h).bind (fun u1 => (f_X13_mostIn x0 x1 h).bind (fun q2 => if q2.1 < x2 then (some (0, q2.2)) else ((rcv 11 x0 q2.2).bind (fun u3 => (f_X13_isTaken x0 x1 x2 q2.2).bind (fun q4 => if q4.1 = 0 then (some (1, q4.2)) else (some (0, q4.2))))))))
theorem T_X13_mayWrite {K : KT} {x0 : Option Nat} {x1 : Int32} {x2 : Int32} {h : PH} {q : (Int32 × PH)} (hf : f_X13_mayWrite x0 x1 x2 h = some q) : T K mi_X13_mayWrite [va_rf x0, .int x1, .int x2] h (.inl (some (.int q.1))) q.2 := by
  unfold f_X13_mayWrite at hf
  refine T_of (by decide +kernel) rfl (C1_r (C1_i (C1_i C1_0))) (Nat.le_of_ble_eq_true rfl) ?_
  show R K mi_X13_mayWrite h [va_rf x0, .int x1, .int x2] _ _ 0 [(0, va_rf x0), (1, .int x1), (2, .int x2)] [] h
  refine R_iload_n 2 dX13_mayWrite_0 rfl rfl ?_
  refine R_ifeq (tgt := 22) dX13_mayWrite_1 (by decide) (fun hc => ?_) (fun hc => ?_)
  · rw [if_pos hc] at hf
    refine R_iconst dX13_mayWrite_22 k_iconst_1 ?_
    refine R_goto (tgt := 27) dX13_mayWrite_23 (by decide) ?_
    obtain rfl := Option.some.inj hf
    exact R_iretZ1 rfl dX13_mayWrite_27
  · rw [if_neg hc] at hf
    refine R_iload_n 2 dX13_mayWrite_4 rfl rfl ?_
    refine R_aload_n 0 dX13_mayWrite_5 rfl rfl ?_
    refine R_iload_n 1 dX13_mayWrite_6 rfl rfl ?_
    obtain ⟨u1, eu1, hf⟩ := Option.bind_eq_some_iff.mp hf
    obtain ⟨q2, eq2, hf⟩ := Option.bind_eq_some_iff.mp hf
    refine R_callV (mj := mi_X13_mostIn) (ci := 11) (q := (RX13, TX13, 24)) (As := [.int x1]) (rest := [.int x2]) (T_X13_mostIn eq2) eu1 rfl lV_X13_121 ⟨rfl, oky_X13_mostIn⟩ (by decide) (by decide) rfl (C1_i C1_0) (Nat.le_of_ble_eq_true rfl) dX13_mayWrite_7 ?_
    refine R_icgt (tgt := 26) dX13_mayWrite_10 (by decide) (fun hc => ?_) (fun hc => ?_)
    · rw [if_pos hc] at hf
      refine R_iconst dX13_mayWrite_26 k_iconst_0 ?_
      obtain rfl := Option.some.inj hf
      exact R_iretZ0 rfl dX13_mayWrite_27
    · rw [if_neg hc] at hf
      refine R_aload_n 0 dX13_mayWrite_13 rfl rfl ?_
      refine R_iload_n 1 dX13_mayWrite_14 rfl rfl ?_
      refine R_iload_n 2 dX13_mayWrite_15 rfl rfl ?_
      obtain ⟨u3, eu3, hf⟩ := Option.bind_eq_some_iff.mp hf
      obtain ⟨q4, eq4, hf⟩ := Option.bind_eq_some_iff.mp hf
      refine R_callV (mj := mi_X13_isTaken) (ci := 11) (q := (RX13, TX13, 24)) (As := [.int x1, .int x2]) (rest := []) (T_X13_isTaken eq4) eu3 rfl lV_X13_133 ⟨rfl, oky_X13_isTaken⟩ (by decide) (by decide) rfl C1_0 (Nat.le_of_ble_eq_true rfl) dX13_mayWrite_16 ?_
      refine R_ifne (tgt := 26) dX13_mayWrite_19 (by decide) (fun hc => ?_) (fun hc => ?_)
      · rw [if_pos hc] at hf
        refine R_iconst dX13_mayWrite_22 k_iconst_1 ?_
        refine R_goto (tgt := 27) dX13_mayWrite_23 (by decide) ?_
        obtain rfl := Option.some.inj hf
        exact R_iretZ1 rfl dX13_mayWrite_27
      · rw [if_neg hc] at hf
        refine R_iconst dX13_mayWrite_26 k_iconst_0 ?_
        obtain rfl := Option.some.inj hf
        exact R_iretZ0 rfl dX13_mayWrite_27
theorem lV_X13_289 : GoodIn lw_all (wsV "EdgeSumsModel" 289 "EdgeSumsModel" yX13_mayWrite (ws_ yX13_mayWrite cX13_mayWrite 3 (some FieldType.boolean))) := lw_V q3048 q3050 qs109 q158 q3051
theorem oky_X13_mayWrite : okY yX13_mayWrite 2 := ⟨by decide +kernel, by decide +kernel, by decide +kernel⟩
abbrev mi_X13_readAnswer : MI := (RX13, yX13_readAnswer, cX13_readAnswer, 5, none, 5)
noncomputable def f_X13_readAnswer_B149 (r23 : Option Nat → Int32 → PH → Option PH) (x0 : Option Nat) (x1 : Int32) (h : PH) : Option PH := (rcv 11 x0 h).bind (fun u1 => (f_X13_isWell x0 h).bind (fun q2 => if q2.1 = 0 then (r23 x0 (x1 + 1) q2.2) else ((rcv 11 x0 q2.2).bind (fun u3 => (f_X13_goOn x0 q2.2).bind (fun h4 => r23 x0 (x1 + 1) h4)))))
theorem f_X13_readAnswer_B149_ok {K : KT} {h0 : PH} {a0 : List Value} {q : PH} {r23 : Option Nat → Int32 → PH → Option PH} (hr23 : ∀ (y0 : Option Nat) (y1 : Int32) (h : PH), r23 y0 y1 h = some q → R K mi_X13_readAnswer h0 a0 (.inl none) q 23 [(0, va_rf y0), (1, .int y1)] [] h) (x0 : Option Nat) (x1 : Int32) (h : PH) (hf : f_X13_readAnswer_B149 r23 x0 x1 h = some q) : R K mi_X13_readAnswer h0 a0 (.inl none) q 149 [(0, va_rf x0), (1, .int x1)] [] h := by
  unfold f_X13_readAnswer_B149 at hf
  refine R_aload_n 0 dX13_readAnswer_149 rfl rfl ?_
  obtain ⟨u1, eu1, hf⟩ := Option.bind_eq_some_iff.mp hf
  obtain ⟨q2, eq2, hf⟩ := Option.bind_eq_some_iff.mp hf
  refine R_callV (mj := mi_X13_isWell) (ci := 11) (q := (RX13, TX13, 24)) (As := []) (rest := []) (T_X13_isWell eq2) eu1 rfl lV_X13_277 ⟨rfl, oky_X13_isWell⟩ (by decide) (by decide) rfl C1_0 (Nat.le_of_ble_eq_true rfl) dX13_readAnswer_150 ?_
  refine R_ifeq (tgt := 160) dX13_readAnswer_153 (by decide) (fun hc => ?_) (fun hc => ?_)
  · rw [if_pos hc] at hf
    refine R_iinc (L' := [(1, .int (x1 + 1)), (0, va_rf x0)]) 1 dX13_readAnswer_160 rfl (k_inc_1 _) (by decide) rfl ?_
    refine R_goto (tgt := 23) dX13_readAnswer_163 (by decide) ?_
    refine R.sub [1, 0] (L' := [(0, va_rf x0), (1, .int (x1 + 1))]) rfl ?_
    exact hr23 x0 (x1 + 1) q2.2 hf
  · rw [if_neg hc] at hf
    refine R_aload_n 0 dX13_readAnswer_156 rfl rfl ?_
    obtain ⟨u3, eu3, hf⟩ := Option.bind_eq_some_iff.mp hf
    obtain ⟨h4, eh4, hf⟩ := Option.bind_eq_some_iff.mp hf
    refine R_callV (mj := mi_X13_goOn) (ci := 11) (q := (RX13, TX13, 24)) (As := []) (rest := []) (T_X13_goOn eh4) eu3 rfl lV_X13_283 ⟨rfl, oky_X13_goOn⟩ (by decide) (by decide) rfl C1_0 (Nat.le_of_ble_eq_true rfl) dX13_readAnswer_157 ?_
    refine R_iinc (L' := [(1, .int (x1 + 1)), (0, va_rf x0)]) 1 dX13_readAnswer_160 rfl (k_inc_1 _) (by decide) rfl ?_
    refine R_goto (tgt := 23) dX13_readAnswer_163 (by decide) ?_
    refine R.sub [1, 0] (L' := [(0, va_rf x0), (1, .int (x1 + 1))]) rfl ?_
    exact hr23 x0 (x1 + 1) h4 hf
noncomputable def f_X13_readAnswer_L72 (r23 : Option Nat → Int32 → PH → Option PH) : Nat → Option Nat → Int32 → Int32 → PH → Option PH
  | 0, _, _, _, _ => none
  | k + 1, x0, x1, x2, h => (gfr 11 1 x0 h).bind (fun t1 => (ald 0 t1 1 h).bind (fun t2 => if t2 ≤ x2 then (f_X13_readAnswer_B149 r23 x0 x1 h) else ((rcv 11 x0 h).bind (fun u3 => (f_X13_isWell x0 h).bind (fun q4 => if q4.1 = 0 then (f_X13_readAnswer_B149 r23 x0 x1 q4.2) else ((gfr 11 1 x0 q4.2).bind (fun t5 => (ald 0 t5 1 q4.2).bind (fun t6 => (gfi 11 21 x0 q4.2).bind (fun t7 => (rcv 11 x0 q4.2).bind (fun u8 => (f_X13_at x0 (t7 + x2) q4.2).bind (fun q9 => (rcv 11 x0 q9.2).bind (fun u10 => (f_X13_mayWrite x0 ((t6 * x1) + x2) (q9.1 - 48) q9.2).bind (fun q11 => if q11.1 = 0 then ((rcv 11 x0 q11.2).bind (fun u12 => (f_X13_fail x0 q11.2).bind (fun h13 => (f_X13_readAnswer_L72 r23 k) x0 x1 (x2 + 1) h13))) else ((gfr 11 1 x0 q11.2).bind (fun t14 => (asi 0 t14 (33 + ((t6 * x1) + x2)) (q9.1 - 48) q11.2).bind (fun h15 => (f_X13_readAnswer_L72 r23 k) x0 x1 (x2 + 1) h15))))))))))))))))
theorem f_X13_readAnswer_L72_ok {K : KT} {h0 : PH} {a0 : List Value} {q : PH} {r23 : Option Nat → Int32 → PH → Option PH} (hr23 : ∀ (y0 : Option Nat) (y1 : Int32) (h : PH), r23 y0 y1 h = some q → R K mi_X13_readAnswer h0 a0 (.inl none) q 23 [(0, va_rf y0), (1, .int y1)] [] h) : ∀ (k : Nat) (x0 : Option Nat) (x1 : Int32) (x2 : Int32) (h : PH), f_X13_readAnswer_L72 r23 k x0 x1 x2 h = some q → R K mi_X13_readAnswer h0 a0 (.inl none) q 72 [(0, va_rf x0), (1, .int x1), (2, .int x2)] [] h := by
  intro k
  induction k with
  | zero => intro _ _ _ _ hf; cases hf
  | succ k ih =>
    intro x0 x1 x2 h hf
    unfold f_X13_readAnswer_L72 at hf
    refine R_iload_n 2 dX13_readAnswer_72 rfl rfl ?_
    refine R_aload_n 0 dX13_readAnswer_73 rfl rfl ?_
    obtain ⟨t1, et1, hf⟩ := Option.bind_eq_some_iff.mp hf
    refine R_getr lg_X13_7 et1 dX13_readAnswer_74 ?_
    refine R_iconst dX13_readAnswer_77 k_iconst_1 ?_
    obtain ⟨t2, et2, hf⟩ := Option.bind_eq_some_iff.mp hf
    refine R_iaload et2 dX13_readAnswer_78 ?_
    refine R_icge (tgt := 149) dX13_readAnswer_79 (by decide) (fun hc => ?_) (fun hc => ?_)
    · rw [if_pos hc] at hf
      refine R.sub [0, 1] (L' := [(0, va_rf x0), (1, .int x1)]) rfl ?_
      exact f_X13_readAnswer_B149_ok hr23 x0 x1 h hf
    · rw [if_neg hc] at hf
      refine R_aload_n 0 dX13_readAnswer_82 rfl rfl ?_
      obtain ⟨u3, eu3, hf⟩ := Option.bind_eq_some_iff.mp hf
      obtain ⟨q4, eq4, hf⟩ := Option.bind_eq_some_iff.mp hf
      refine R_callV (mj := mi_X13_isWell) (ci := 11) (q := (RX13, TX13, 24)) (As := []) (rest := []) (T_X13_isWell eq4) eu3 rfl lV_X13_277 ⟨rfl, oky_X13_isWell⟩ (by decide) (by decide) rfl C1_0 (Nat.le_of_ble_eq_true rfl) dX13_readAnswer_83 ?_
      refine R_ifeq (tgt := 149) dX13_readAnswer_86 (by decide) (fun hc => ?_) (fun hc => ?_)
      · rw [if_pos hc] at hf
        refine R.sub [0, 1] (L' := [(0, va_rf x0), (1, .int x1)]) rfl ?_
        exact f_X13_readAnswer_B149_ok hr23 x0 x1 q4.2 hf
      · rw [if_neg hc] at hf
        refine R_aload_n 0 dX13_readAnswer_89 rfl rfl ?_
        obtain ⟨t5, et5, hf⟩ := Option.bind_eq_some_iff.mp hf
        refine R_getr lg_X13_7 et5 dX13_readAnswer_90 ?_
        refine R_iconst dX13_readAnswer_93 k_iconst_1 ?_
        obtain ⟨t6, et6, hf⟩ := Option.bind_eq_some_iff.mp hf
        refine R_iaload et6 dX13_readAnswer_94 ?_
        refine R_iload_n 1 dX13_readAnswer_95 rfl rfl ?_
        refine R_imul dX13_readAnswer_96 ?_
        refine R_iload_n 2 dX13_readAnswer_97 rfl rfl ?_
        refine R_iadd dX13_readAnswer_98 ?_
        refine R_istore_n (L' := [(3, .int ((t6 * x1) + x2)), (0, va_rf x0), (1, .int x1), (2, .int x2)]) dX13_readAnswer_99 rfl (by decide) rfl ?_
        refine R_aload_n 1 dX13_readAnswer_100 rfl rfl ?_
        refine R_aload_n 1 dX13_readAnswer_101 rfl rfl ?_
        obtain ⟨t7, et7, hf⟩ := Option.bind_eq_some_iff.mp hf
        refine R_geti lg_X13_255 et7 dX13_readAnswer_102 ?_
        refine R_iload_n 3 dX13_readAnswer_105 rfl rfl ?_
        refine R_iadd dX13_readAnswer_106 ?_
        obtain ⟨u8, eu8, hf⟩ := Option.bind_eq_some_iff.mp hf
        obtain ⟨q9, eq9, hf⟩ := Option.bind_eq_some_iff.mp hf
        refine R_callV (mj := mi_X13_at) (ci := 11) (q := (RX13, TX13, 24)) (As := [.int (t7 + x2)]) (rest := []) (T_X13_at eq9) eu8 rfl lV_X13_258 ⟨rfl, oky_X13_at⟩ (by decide) (by decide) rfl C1_0 (Nat.le_of_ble_eq_true rfl) dX13_readAnswer_107 ?_
        refine R_bipush dX13_readAnswer_110 k_bipush_48 ?_
        refine R_isub dX13_readAnswer_112 ?_
        refine R_istore (L' := [(4, .int (q9.1 - 48)), (3, .int ((t6 * x1) + x2)), (0, va_rf x0), (1, .int x1), (2, .int x2)]) dX13_readAnswer_113 (by decide) rfl ?_
        refine R_aload_n 2 dX13_readAnswer_115 rfl rfl ?_
        refine R_iload_n 1 dX13_readAnswer_116 rfl rfl ?_
        refine R_iload 0 dX13_readAnswer_117 rfl ?_
        obtain ⟨u10, eu10, hf⟩ := Option.bind_eq_some_iff.mp hf
        obtain ⟨q11, eq11, hf⟩ := Option.bind_eq_some_iff.mp hf
        refine R_callV (mj := mi_X13_mayWrite) (ci := 11) (q := (RX13, TX13, 24)) (As := [.int ((t6 * x1) + x2), .int (q9.1 - 48)]) (rest := []) (T_X13_mayWrite eq11) eu10 rfl lV_X13_289 ⟨rfl, oky_X13_mayWrite⟩ (by decide) (by decide) rfl C1_0 (Nat.le_of_ble_eq_true rfl) dX13_readAnswer_119 ?_
        refine R_ifeq (tgt := 139) dX13_readAnswer_122 (by decide) (fun hc => ?_) (fun hc => ?_)
        · rw [if_pos hc] at hf
          refine R_aload_n 2 dX13_readAnswer_139 rfl rfl ?_
          obtain ⟨u12, eu12, hf⟩ := Option.bind_eq_some_iff.mp hf
          obtain ⟨h13, eh13, hf⟩ := Option.bind_eq_some_iff.mp hf
          refine R_callV (mj := mi_X13_fail) (ci := 11) (q := (RX13, TX13, 24)) (As := []) (rest := []) (T_X13_fail eh13) eu12 rfl lV_X13_280 ⟨rfl, oky_X13_fail⟩ (by decide) (by decide) rfl C1_0 (Nat.le_of_ble_eq_true rfl) dX13_readAnswer_140 ?_
          refine R_iinc (L' := [(2, .int (x2 + 1)), (4, .int (q9.1 - 48)), (3, .int ((t6 * x1) + x2)), (0, va_rf x0), (1, .int x1)]) 4 dX13_readAnswer_143 rfl (k_inc_1 _) (by decide) rfl ?_
          refine R_goto (tgt := 72) dX13_readAnswer_146 (by decide) ?_
          refine R.sub [3, 4, 0] (L' := [(0, va_rf x0), (1, .int x1), (2, .int (x2 + 1))]) rfl ?_
          exact ih x0 x1 (x2 + 1) h13 hf
        · rw [if_neg hc] at hf
          refine R_aload_n 2 dX13_readAnswer_125 rfl rfl ?_
          obtain ⟨t14, et14, hf⟩ := Option.bind_eq_some_iff.mp hf
          refine R_getr lg_X13_7 et14 dX13_readAnswer_126 ?_
          refine R_bipush dX13_readAnswer_129 k_bipush_33 ?_
          refine R_iload_n 1 dX13_readAnswer_131 rfl rfl ?_
          refine R_iadd dX13_readAnswer_132 ?_
          refine R_iload 0 dX13_readAnswer_133 rfl ?_
          obtain ⟨h15, eh15, hf⟩ := Option.bind_eq_some_iff.mp hf
          refine R_iastore eh15 dX13_readAnswer_135 ?_
          refine R_goto (tgt := 143) dX13_readAnswer_136 (by decide) ?_
          refine R_iinc (L' := [(2, .int (x2 + 1)), (4, .int (q9.1 - 48)), (3, .int ((t6 * x1) + x2)), (0, va_rf x0), (1, .int x1)]) 4 dX13_readAnswer_143 rfl (k_inc_1 _) (by decide) rfl ?_
          refine R_goto (tgt := 72) dX13_readAnswer_146 (by decide) ?_
          refine R.sub [3, 4, 0] (L' := [(0, va_rf x0), (1, .int x1), (2, .int (x2 + 1))]) rfl ?_
          exact ih x0 x1 (x2 + 1) h15 hf
noncomputable def f_X13_readAnswer_B66 (r23 : Option Nat → Int32 → PH → Option PH) (x0 : Option Nat) (x1 : Int32) (h : PH) : Option PH := (rcv 11 x0 h).bind (fun u1 => (f_X13_fail x0 h).bind (fun h2 => f_X13_readAnswer_L72 r23 FU x0 x1 0 h2))
theorem f_X13_readAnswer_B66_ok {K : KT} {h0 : PH} {a0 : List Value} {q : PH} {r23 : Option Nat → Int32 → PH → Option PH} (hr23 : ∀ (y0 : Option Nat) (y1 : Int32) (h : PH), r23 y0 y1 h = some q → R K mi_X13_readAnswer h0 a0 (.inl none) q 23 [(0, va_rf y0), (1, .int y1)] [] h) (x0 : Option Nat) (x1 : Int32) (h : PH) (hf : f_X13_readAnswer_B66 r23 x0 x1 h = some q) : R K mi_X13_readAnswer h0 a0 (.inl none) q 66 [(0, va_rf x0), (1, .int x1)] [] h := by
  unfold f_X13_readAnswer_B66 at hf
  refine R_aload_n 0 dX13_readAnswer_66 rfl rfl ?_
  obtain ⟨u1, eu1, hf⟩ := Option.bind_eq_some_iff.mp hf
  obtain ⟨h2, eh2, hf⟩ := Option.bind_eq_some_iff.mp hf
  refine R_callV (mj := mi_X13_fail) (ci := 11) (q := (RX13, TX13, 24)) (As := []) (rest := []) (T_X13_fail eh2) eu1 rfl lV_X13_280 ⟨rfl, oky_X13_fail⟩ (by decide) (by decide) rfl C1_0 (Nat.le_of_ble_eq_true rfl) dX13_readAnswer_67 ?_
  refine R_iconst dX13_readAnswer_70 k_iconst_0 ?_
  refine R_istore_n (L' := [(2, .int 0), (0, va_rf x0), (1, .int x1)]) dX13_readAnswer_71 rfl (by decide) rfl ?_
  refine R.sub [1, 2, 0] (L' := [(0, va_rf x0), (1, .int x1), (2, .int 0)]) rfl ?_
  exact f_X13_readAnswer_L72_ok hr23 FU x0 x1 0 h2 hf
noncomputable def f_X13_readAnswer_L23  : Nat → Option Nat → Int32 → PH → Option PH
  | 0, _, _, _ => none
  | k + 1, x0, x1, h => (gfr 11 1 x0 h).bind (fun t1 => (ald 0 t1 0 h).bind (fun t2 => if t2 ≤ x1 then (some h) else ((rcv 11 x0 h).bind (fun u3 => (f_X13_isWell x0 h).bind (fun q4 => if q4.1 = 0 then (some q4.2) else ((gfi 11 20 x0 q4.2).bind (fun t5 => if t5 = 2 then ((gfi 11 22 x0 q4.2).bind (fun t6 => (gfi 11 21 x0 q4.2).bind (fun t7 => (gfr 11 1 x0 q4.2).bind (fun t8 => (ald 0 t8 1 q4.2).bind (fun t9 => if (t6 - t7) = t9 then (f_X13_readAnswer_L72 (f_X13_readAnswer_L23 k) FU x0 x1 0 q4.2) else (f_X13_readAnswer_B66 (f_X13_readAnswer_L23 k) x0 x1 q4.2)))))) else (f_X13_readAnswer_B66 (f_X13_readAnswer_L23 k) x0 x1 q4.2))))))))
theorem f_X13_readAnswer_L23_ok {K : KT} {h0 : PH} {a0 : List Value} {q : PH}  : ∀ (k : Nat) (x0 : Option Nat) (x1 : Int32) (h : PH), f_X13_readAnswer_L23  k x0 x1 h = some q → R K mi_X13_readAnswer h0 a0 (.inl none) q 23 [(0, va_rf x0), (1, .int x1)] [] h := by
  intro k
  induction k with
  | zero => intro _ _ _ hf; cases hf
  | succ k ih =>
    intro x0 x1 h hf
    unfold f_X13_readAnswer_L23 at hf
    refine R_iload_n 1 dX13_readAnswer_23 rfl rfl ?_
    refine R_aload_n 0 dX13_readAnswer_24 rfl rfl ?_
    obtain ⟨t1, et1, hf⟩ := Option.bind_eq_some_iff.mp hf
    refine R_getr lg_X13_7 et1 dX13_readAnswer_25 ?_
    refine R_iconst dX13_readAnswer_28 k_iconst_0 ?_
    obtain ⟨t2, et2, hf⟩ := Option.bind_eq_some_iff.mp hf
    refine R_iaload et2 dX13_readAnswer_29 ?_
    refine R_icge (tgt := 166) dX13_readAnswer_30 (by decide) (fun hc => ?_) (fun hc => ?_)
    · rw [if_pos hc] at hf
      obtain rfl := Option.some.inj hf
      exact R_return rfl dX13_readAnswer_166
    · rw [if_neg hc] at hf
      refine R_aload_n 0 dX13_readAnswer_33 rfl rfl ?_
      obtain ⟨u3, eu3, hf⟩ := Option.bind_eq_some_iff.mp hf
      obtain ⟨q4, eq4, hf⟩ := Option.bind_eq_some_iff.mp hf
      refine R_callV (mj := mi_X13_isWell) (ci := 11) (q := (RX13, TX13, 24)) (As := []) (rest := []) (T_X13_isWell eq4) eu3 rfl lV_X13_277 ⟨rfl, oky_X13_isWell⟩ (by decide) (by decide) rfl C1_0 (Nat.le_of_ble_eq_true rfl) dX13_readAnswer_34 ?_
      refine R_ifeq (tgt := 166) dX13_readAnswer_37 (by decide) (fun hc => ?_) (fun hc => ?_)
      · rw [if_pos hc] at hf
        obtain rfl := Option.some.inj hf
        exact R_return rfl dX13_readAnswer_166
      · rw [if_neg hc] at hf
        refine R_aload_n 0 dX13_readAnswer_40 rfl rfl ?_
        obtain ⟨t5, et5, hf⟩ := Option.bind_eq_some_iff.mp hf
        refine R_geti lg_X13_261 et5 dX13_readAnswer_41 ?_
        refine R_iconst dX13_readAnswer_44 k_iconst_2 ?_
        refine R_icne (tgt := 66) dX13_readAnswer_45 (by decide) (fun hc => ?_) (fun hc => ?_)
        · rw [if_pos hc] at hf
          refine R_aload_n 0 dX13_readAnswer_48 rfl rfl ?_
          obtain ⟨t6, et6, hf⟩ := Option.bind_eq_some_iff.mp hf
          refine R_geti lg_X13_252 et6 dX13_readAnswer_49 ?_
          refine R_aload_n 0 dX13_readAnswer_52 rfl rfl ?_
          obtain ⟨t7, et7, hf⟩ := Option.bind_eq_some_iff.mp hf
          refine R_geti lg_X13_255 et7 dX13_readAnswer_53 ?_
          refine R_isub dX13_readAnswer_56 ?_
          refine R_aload_n 0 dX13_readAnswer_57 rfl rfl ?_
          obtain ⟨t8, et8, hf⟩ := Option.bind_eq_some_iff.mp hf
          refine R_getr lg_X13_7 et8 dX13_readAnswer_58 ?_
          refine R_iconst dX13_readAnswer_61 k_iconst_1 ?_
          obtain ⟨t9, et9, hf⟩ := Option.bind_eq_some_iff.mp hf
          refine R_iaload et9 dX13_readAnswer_62 ?_
          refine R_iceq (tgt := 70) dX13_readAnswer_63 (by decide) (fun hc => ?_) (fun hc => ?_)
          · rw [if_pos hc] at hf
            refine R_iconst dX13_readAnswer_70 k_iconst_0 ?_
            refine R_istore_n (L' := [(2, .int 0), (0, va_rf x0), (1, .int x1)]) dX13_readAnswer_71 rfl (by decide) rfl ?_
            refine R.sub [1, 2, 0] (L' := [(0, va_rf x0), (1, .int x1), (2, .int 0)]) rfl ?_
            exact f_X13_readAnswer_L72_ok ih FU x0 x1 0 q4.2 hf
          · rw [if_neg hc] at hf
            exact f_X13_readAnswer_B66_ok ih x0 x1 q4.2 hf
        · rw [if_neg hc] at hf
          exact f_X13_readAnswer_B66_ok ih x0 x1 q4.2 hf
noncomputable def f_X13_readAnswer_L2  : Nat → Option Nat → Int32 → PH → Option PH
  | 0, _, _, _ => none
  | k + 1, x0, x1, h => (rcv 11 x0 h).bind (fun u1 => (f_X13_cells x0 h).bind (fun q2 => if q2.1 ≤ x1 then (f_X13_readAnswer_L23  FU x0 0 q2.2) else ((rcv 11 x0 q2.2).bind (fun u3 => (f_X13_empty x0 x1 q2.2).bind (fun h4 => (f_X13_readAnswer_L2 k) x0 (x1 + 1) h4)))))
theorem f_X13_readAnswer_L2_ok {K : KT} {h0 : PH} {a0 : List Value} {q : PH}  : ∀ (k : Nat) (x0 : Option Nat) (x1 : Int32) (h : PH), f_X13_readAnswer_L2  k x0 x1 h = some q → R K mi_X13_readAnswer h0 a0 (.inl none) q 2 [(0, va_rf x0), (1, .int x1)] [] h := by
  intro k
  induction k with
  | zero => intro _ _ _ hf; cases hf
  | succ k ih =>
    intro x0 x1 h hf
    unfold f_X13_readAnswer_L2 at hf
    refine R_iload_n 1 dX13_readAnswer_2 rfl rfl ?_
    refine R_aload_n 0 dX13_readAnswer_3 rfl rfl ?_
    obtain ⟨u1, eu1, hf⟩ := Option.bind_eq_some_iff.mp hf
    obtain ⟨q2, eq2, hf⟩ := Option.bind_eq_some_iff.mp hf
    refine R_callV (mj := mi_X13_cells) (ci := 11) (q := (RX13, TX13, 24)) (As := []) (rest := [.int x1]) (T_X13_cells eq2) eu1 rfl lV_X13_61 ⟨rfl, oky_X13_cells⟩ (by decide) (by decide) rfl (C1_i C1_0) (Nat.le_of_ble_eq_true rfl) dX13_readAnswer_4 ?_
    refine R_icge (tgt := 21) dX13_readAnswer_7 (by decide) (fun hc => ?_) (fun hc => ?_)
    · rw [if_pos hc] at hf
      refine R_iconst dX13_readAnswer_21 k_iconst_0 ?_
      refine R_istore_n (L' := [(1, .int 0), (0, va_rf x0)]) dX13_readAnswer_22 rfl (by decide) rfl ?_
      refine R.sub [1, 0] (L' := [(0, va_rf x0), (1, .int 0)]) rfl ?_
      exact f_X13_readAnswer_L23_ok  FU x0 0 q2.2 hf
    · rw [if_neg hc] at hf
      refine R_aload_n 0 dX13_readAnswer_10 rfl rfl ?_
      refine R_iload_n 1 dX13_readAnswer_11 rfl rfl ?_
      obtain ⟨u3, eu3, hf⟩ := Option.bind_eq_some_iff.mp hf
      obtain ⟨h4, eh4, hf⟩ := Option.bind_eq_some_iff.mp hf
      refine R_callV (mj := mi_X13_empty) (ci := 11) (q := (RX13, TX13, 24)) (As := [.int x1]) (rest := []) (T_X13_empty eh4) eu3 rfl lV_X13_89 ⟨rfl, oky_X13_empty⟩ (by decide) (by decide) rfl C1_0 (Nat.le_of_ble_eq_true rfl) dX13_readAnswer_12 ?_
      refine R_iinc (L' := [(1, .int (x1 + 1)), (0, va_rf x0)]) 1 dX13_readAnswer_15 rfl (k_inc_1 _) (by decide) rfl ?_
      refine R_goto (tgt := 2) dX13_readAnswer_18 (by decide) ?_
      refine R.sub [1, 0] (L' := [(0, va_rf x0), (1, .int (x1 + 1))]) rfl ?_
      exact ih x0 (x1 + 1) h4 hf
noncomputable def f_X13_readAnswer (x0 : Option Nat) (h : PH) : Option PH := f_X13_readAnswer_L2  FU x0 0 h
theorem T_X13_readAnswer {K : KT} {x0 : Option Nat} {h : PH} {q : PH} (hf : f_X13_readAnswer x0 h = some q) : T K mi_X13_readAnswer [va_rf x0] h (.inl none) q := by
  unfold f_X13_readAnswer at hf
  refine T_of (by decide +kernel) rfl (C1_r C1_0) (Nat.le_of_ble_eq_true rfl) ?_
  show R K mi_X13_readAnswer h [va_rf x0] _ _ 0 [(0, va_rf x0)] [] h
  refine R_iconst dX13_readAnswer_0 k_iconst_0 ?_
  refine R_istore_n (L' := [(1, .int 0), (0, va_rf x0)]) dX13_readAnswer_1 rfl (by decide) rfl ?_
  refine R.sub [1, 0] (L' := [(0, va_rf x0), (1, .int 0)]) rfl ?_
  exact f_X13_readAnswer_L2_ok  FU x0 0 h hf
abbrev mi_X13_less : MI := (RX13, yX13_less, cX13_less, 2, (some FieldType.int), 1)
noncomputable def f_X13_less (x0 : Int32) (x1 : Int32) (h : PH) : Option (Int32 × PH) := if x1 ≤ x0 then (some (x1, h)) else (some (x0, h))
theorem T_X13_less {K : KT} {x0 : Int32} {x1 : Int32} {h : PH} {q : (Int32 × PH)} (hf : f_X13_less x0 x1 h = some q) : T K mi_X13_less [.int x0, .int x1] h (.inl (some (.int q.1))) q.2 := by
  unfold f_X13_less at hf
  refine T_of (by decide +kernel) rfl (C1_i (C1_i C1_0)) (Nat.le_of_ble_eq_true rfl) ?_
  show R K mi_X13_less h [.int x0, .int x1] _ _ 0 [(0, .int x0), (1, .int x1)] [] h
  refine R_iload_n 0 dX13_less_0 rfl rfl ?_
  refine R_iload_n 1 dX13_less_1 rfl rfl ?_
  refine R_icge (tgt := 9) dX13_less_2 (by decide) (fun hc => ?_) (fun hc => ?_)
  · rw [if_pos hc] at hf
    refine R_iload_n 1 dX13_less_9 rfl rfl ?_
    obtain rfl := Option.some.inj hf
    exact R_iretI rfl dX13_less_10
  · rw [if_neg hc] at hf
    refine R_iload_n 0 dX13_less_5 rfl rfl ?_
    refine R_goto (tgt := 10) dX13_less_6 (by decide) ?_
    obtain rfl := Option.some.inj hf
    exact R_iretI rfl dX13_less_10
theorem lS_X13_274 : GoodIn lw_all (va_wsS "EdgeSumsModel" 274 yX13_less (ws_ yX13_less cX13_less 2 (some FieldType.int))) := lw_S q3060 q3061 q158 q3062
theorem oky_X13_less : okY yX13_less 2 := ⟨by decide +kernel, by decide +kernel, by decide +kernel⟩
abbrev mi_X13_numberHere : MI := (RX13, yX13_numberHere, cX13_numberHere, 5, (some FieldType.int), 2)
noncomputable def f_X13_numberHere_B100  (x3 : Int32) (s0 : Int32) (h : PH) : Option (Int32 × PH) := if s0 = 0 then (some ((-1), h)) else (some (x3, h))
theorem f_X13_numberHere_B100_ok {K : KT} {h0 : PH} {a0 : List Value} {q : (Int32 × PH)}  (x3 : Int32) (s0 : Int32) (h : PH) (hf : f_X13_numberHere_B100  x3 s0 h = some q) : R K mi_X13_numberHere h0 a0 (.inl (some (.int q.1))) q.2 100 [(3, .int x3)] [.int s0] h := by
  unfold f_X13_numberHere_B100 at hf
  refine R_istore (L' := [(4, .int s0), (3, .int x3)]) dX13_numberHere_100 (by decide) rfl ?_
  refine R_iload 0 dX13_numberHere_102 rfl ?_
  refine R_ifeq (tgt := 111) dX13_numberHere_104 (by decide) (fun hc => ?_) (fun hc => ?_)
  · rw [if_pos hc] at hf
    refine R_iconst dX13_numberHere_111 k_iconst_m1 ?_
    obtain rfl := Option.some.inj hf
    exact R_iretI rfl dX13_numberHere_112
  · rw [if_neg hc] at hf
    refine R_iload_n 1 dX13_numberHere_107 rfl rfl ?_
    refine R_goto (tgt := 112) dX13_numberHere_108 (by decide) ?_
    obtain rfl := Option.some.inj hf
    exact R_iretI rfl dX13_numberHere_112
noncomputable def f_X13_numberHere_B86  (x1 : Int32) (x2 : Int32) (x3 : Int32) (h : PH) : Option (Int32 × PH) := (f_X13_in x3 x1 x2 h).bind (fun q1 => if q1.1 = 0 then (f_X13_numberHere_B100  x3 0 q1.2) else (f_X13_numberHere_B100  x3 1 q1.2))
theorem f_X13_numberHere_B86_ok {K : KT} {h0 : PH} {a0 : List Value} {q : (Int32 × PH)}  (x1 : Int32) (x2 : Int32) (x3 : Int32) (h : PH) (hf : f_X13_numberHere_B86  x1 x2 x3 h = some q) : R K mi_X13_numberHere h0 a0 (.inl (some (.int q.1))) q.2 86 [(1, .int x1), (2, .int x2), (3, .int x3)] [] h := by
  unfold f_X13_numberHere_B86 at hf
  refine R_iload_n 2 dX13_numberHere_86 rfl rfl ?_
  refine R_iload_n 0 dX13_numberHere_87 rfl rfl ?_
  refine R_iload_n 1 dX13_numberHere_88 rfl rfl ?_
  obtain ⟨q1, eq1, hf⟩ := Option.bind_eq_some_iff.mp hf
  refine R_callS (mj := mi_X13_in) (As := [.int x3, .int x1, .int x2]) (rest := []) (T_X13_in eq1) lS_X13_65 oky_X13_in (by decide) (by decide) rfl C1_0 (Nat.le_of_ble_eq_true rfl) dX13_numberHere_89 ?_
  refine R_ifeq (tgt := 99) dX13_numberHere_92 (by decide) (fun hc => ?_) (fun hc => ?_)
  · rw [if_pos hc] at hf
    refine R_iconst dX13_numberHere_99 k_iconst_0 ?_
    refine R.sub [2] (L' := [(3, .int x3)]) rfl ?_
    exact f_X13_numberHere_B100_ok  x3 0 q1.2 hf
  · rw [if_neg hc] at hf
    refine R_iconst dX13_numberHere_95 k_iconst_1 ?_
    refine R_goto (tgt := 100) dX13_numberHere_96 (by decide) ?_
    refine R.sub [2] (L' := [(3, .int x3)]) rfl ?_
    exact f_X13_numberHere_B100_ok  x3 1 q1.2 hf
noncomputable def f_X13_numberHere_B52  (x0 : Option Nat) (x1 : Int32) (x2 : Int32) (x3 : Int32) (h : PH) : Option (Int32 × PH) := (gfi 11 20 x0 h).bind (fun t1 => if t1 = 2 then ((gfi 11 22 x0 h).bind (fun t2 => (gfi 11 21 x0 h).bind (fun t3 => if (t2 - t3) = 1 then (f_X13_numberHere_B86  x1 x2 x3 h) else ((gfi 11 21 x0 h).bind (fun t4 => (rcv 11 x0 h).bind (fun u5 => (f_X13_at x0 t4 h).bind (fun q6 => if q6.1 = 48 then (f_X13_numberHere_B100  x3 0 q6.2) else (f_X13_numberHere_B86  x1 x2 x3 q6.2)))))))) else (f_X13_numberHere_B100  x3 0 h))
theorem f_X13_numberHere_B52_ok {K : KT} {h0 : PH} {a0 : List Value} {q : (Int32 × PH)}  (x0 : Option Nat) (x1 : Int32) (x2 : Int32) (x3 : Int32) (h : PH) (hf : f_X13_numberHere_B52  x0 x1 x2 x3 h = some q) : R K mi_X13_numberHere h0 a0 (.inl (some (.int q.1))) q.2 52 [(0, va_rf x0), (1, .int x1), (2, .int x2), (3, .int x3)] [] h := by
  unfold f_X13_numberHere_B52 at hf
  refine R_aload_n 0 dX13_numberHere_52 rfl rfl ?_
  obtain ⟨t1, et1, hf⟩ := Option.bind_eq_some_iff.mp hf
  refine R_geti lg_X13_261 et1 dX13_numberHere_53 ?_
  refine R_iconst dX13_numberHere_56 k_iconst_2 ?_
  refine R_icne (tgt := 99) dX13_numberHere_57 (by decide) (fun hc => ?_) (fun hc => ?_)
  · rw [if_pos hc] at hf
    refine R_aload_n 0 dX13_numberHere_60 rfl rfl ?_
    obtain ⟨t2, et2, hf⟩ := Option.bind_eq_some_iff.mp hf
    refine R_geti lg_X13_252 et2 dX13_numberHere_61 ?_
    refine R_aload_n 0 dX13_numberHere_64 rfl rfl ?_
    obtain ⟨t3, et3, hf⟩ := Option.bind_eq_some_iff.mp hf
    refine R_geti lg_X13_255 et3 dX13_numberHere_65 ?_
    refine R_isub dX13_numberHere_68 ?_
    refine R_iconst dX13_numberHere_69 k_iconst_1 ?_
    refine R_iceq (tgt := 86) dX13_numberHere_70 (by decide) (fun hc => ?_) (fun hc => ?_)
    · rw [if_pos hc] at hf
      refine R.sub [1, 2, 3] (L' := [(1, .int x1), (2, .int x2), (3, .int x3)]) rfl ?_
      exact f_X13_numberHere_B86_ok  x1 x2 x3 h hf
    · rw [if_neg hc] at hf
      refine R_aload_n 0 dX13_numberHere_73 rfl rfl ?_
      refine R_aload_n 0 dX13_numberHere_74 rfl rfl ?_
      obtain ⟨t4, et4, hf⟩ := Option.bind_eq_some_iff.mp hf
      refine R_geti lg_X13_255 et4 dX13_numberHere_75 ?_
      obtain ⟨u5, eu5, hf⟩ := Option.bind_eq_some_iff.mp hf
      obtain ⟨q6, eq6, hf⟩ := Option.bind_eq_some_iff.mp hf
      refine R_callV (mj := mi_X13_at) (ci := 11) (q := (RX13, TX13, 24)) (As := [.int t4]) (rest := []) (T_X13_at eq6) eu5 rfl lV_X13_258 ⟨rfl, oky_X13_at⟩ (by decide) (by decide) rfl C1_0 (Nat.le_of_ble_eq_true rfl) dX13_numberHere_78 ?_
      refine R_bipush dX13_numberHere_81 k_bipush_48 ?_
      refine R_iceq (tgt := 99) dX13_numberHere_83 (by decide) (fun hc => ?_) (fun hc => ?_)
      · rw [if_pos hc] at hf
        refine R_iconst dX13_numberHere_99 k_iconst_0 ?_
        refine R.sub [3] (L' := [(3, .int x3)]) rfl ?_
        exact f_X13_numberHere_B100_ok  x3 0 q6.2 hf
      · rw [if_neg hc] at hf
        refine R.sub [1, 2, 3] (L' := [(1, .int x1), (2, .int x2), (3, .int x3)]) rfl ?_
        exact f_X13_numberHere_B86_ok  x1 x2 x3 q6.2 hf
  · rw [if_neg hc] at hf
    refine R_iconst dX13_numberHere_99 k_iconst_0 ?_
    refine R.sub [3] (L' := [(3, .int x3)]) rfl ?_
    exact f_X13_numberHere_B100_ok  x3 0 h hf
noncomputable def f_X13_numberHere_L8  : Nat → Option Nat → Int32 → Int32 → Int32 → Int32 → PH → Option (Int32 × PH)
  | 0, _, _, _, _, _, _ => none
  | k + 1, x0, x1, x2, x3, x4, h => (gfi 11 22 x0 h).bind (fun t1 => if t1 ≤ x4 then (f_X13_numberHere_B52  x0 x1 x2 x3 h) else ((gfi 11 20 x0 h).bind (fun t2 => if t2 = 2 then ((rcv 11 x0 h).bind (fun u3 => (f_X13_at x0 x4 h).bind (fun q4 => (f_X13_less 1000 (((10 * x3) + q4.1) - 48) q4.2).bind (fun q5 => (f_X13_numberHere_L8 k) x0 x1 x2 q5.1 (x4 + 1) q5.2)))) else (f_X13_numberHere_B52  x0 x1 x2 x3 h))))
theorem f_X13_numberHere_L8_ok {K : KT} {h0 : PH} {a0 : List Value} {q : (Int32 × PH)}  : ∀ (k : Nat) (x0 : Option Nat) (x1 : Int32) (x2 : Int32) (x3 : Int32) (x4 : Int32) (h : PH), f_X13_numberHere_L8  k x0 x1 x2 x3 x4 h = some q → R K mi_X13_numberHere h0 a0 (.inl (some (.int q.1))) q.2 8 [(0, va_rf x0), (1, .int x1), (2, .int x2), (3, .int x3), (4, .int x4)] [] h := by
  intro k
  induction k with
  | zero => intro _ _ _ _ _ _ hf; cases hf
  | succ k ih =>
    intro x0 x1 x2 x3 x4 h hf
    unfold f_X13_numberHere_L8 at hf
    refine R_iload 4 dX13_numberHere_8 rfl ?_
    refine R_aload_n 0 dX13_numberHere_10 rfl rfl ?_
    obtain ⟨t1, et1, hf⟩ := Option.bind_eq_some_iff.mp hf
    refine R_geti lg_X13_252 et1 dX13_numberHere_11 ?_
    refine R_icge (tgt := 52) dX13_numberHere_14 (by decide) (fun hc => ?_) (fun hc => ?_)
    · rw [if_pos hc] at hf
      refine R.sub [0, 1, 2, 3] (L' := [(0, va_rf x0), (1, .int x1), (2, .int x2), (3, .int x3)]) rfl ?_
      exact f_X13_numberHere_B52_ok  x0 x1 x2 x3 h hf
    · rw [if_neg hc] at hf
      refine R_aload_n 0 dX13_numberHere_17 rfl rfl ?_
      obtain ⟨t2, et2, hf⟩ := Option.bind_eq_some_iff.mp hf
      refine R_geti lg_X13_261 et2 dX13_numberHere_18 ?_
      refine R_iconst dX13_numberHere_21 k_iconst_2 ?_
      refine R_icne (tgt := 52) dX13_numberHere_22 (by decide) (fun hc => ?_) (fun hc => ?_)
      · rw [if_pos hc] at hf
        refine R_sipush dX13_numberHere_25 k_sipush_1000 ?_
        refine R_bipush dX13_numberHere_28 k_bipush_10 ?_
        refine R_iload_n 3 dX13_numberHere_30 rfl rfl ?_
        refine R_imul dX13_numberHere_31 ?_
        refine R_aload_n 0 dX13_numberHere_32 rfl rfl ?_
        refine R_iload 4 dX13_numberHere_33 rfl ?_
        obtain ⟨u3, eu3, hf⟩ := Option.bind_eq_some_iff.mp hf
        obtain ⟨q4, eq4, hf⟩ := Option.bind_eq_some_iff.mp hf
        refine R_callV (mj := mi_X13_at) (ci := 11) (q := (RX13, TX13, 24)) (As := [.int x4]) (rest := [.int (10 * x3), .int 1000]) (T_X13_at eq4) eu3 rfl lV_X13_258 ⟨rfl, oky_X13_at⟩ (by decide) (by decide) rfl (C1_i (C1_i C1_0)) (Nat.le_of_ble_eq_true rfl) dX13_numberHere_35 ?_
        refine R_iadd dX13_numberHere_38 ?_
        refine R_bipush dX13_numberHere_39 k_bipush_48 ?_
        refine R_isub dX13_numberHere_41 ?_
        obtain ⟨q5, eq5, hf⟩ := Option.bind_eq_some_iff.mp hf
        refine R_callS (mj := mi_X13_less) (As := [.int 1000, .int (((10 * x3) + q4.1) - 48)]) (rest := []) (T_X13_less eq5) lS_X13_274 oky_X13_less (by decide) (by decide) rfl C1_0 (Nat.le_of_ble_eq_true rfl) dX13_numberHere_42 ?_
        refine R_istore_n (L' := [(3, .int q5.1), (0, va_rf x0), (1, .int x1), (2, .int x2), (4, .int x4)]) dX13_numberHere_45 rfl (by decide) rfl ?_
        refine R_iinc (L' := [(4, .int (x4 + 1)), (3, .int q5.1), (0, va_rf x0), (1, .int x1), (2, .int x2)]) 4 dX13_numberHere_46 rfl (k_inc_1 _) (by decide) rfl ?_
        refine R_goto (tgt := 8) dX13_numberHere_49 (by decide) ?_
        refine R.sub [2, 3, 4, 1, 0] (L' := [(0, va_rf x0), (1, .int x1), (2, .int x2), (3, .int q5.1), (4, .int (x4 + 1))]) rfl ?_
        exact ih x0 x1 x2 q5.1 (x4 + 1) q5.2 hf
      · rw [if_neg hc] at hf
        refine R.sub [0, 1, 2, 3] (L' := [(0, va_rf x0), (1, .int x1), (2, .int x2), (3, .int x3)]) rfl ?_
        exact f_X13_numberHere_B52_ok  x0 x1 x2 x3 h hf
noncomputable def f_X13_numberHere (x0 : Option Nat) (x1 : Int32) (x2 : Int32) (h : PH) : Option (Int32 × PH) := (gfi 11 21 x0 h).bind (fun t1 => f_X13_numberHere_L8  FU x0 x1 x2 0 t1 h)
theorem T_X13_numberHere {K : KT} {x0 : Option Nat} {x1 : Int32} {x2 : Int32} {h : PH} {q : (Int32 × PH)} (hf : f_X13_numberHere x0 x1 x2 h = some q) : T K mi_X13_numberHere [va_rf x0, .int x1, .int x2] h (.inl (some (.int q.1))) q.2 := by
  unfold f_X13_numberHere at hf
  refine T_of (by decide +kernel) rfl (C1_r (C1_i (C1_i C1_0))) (Nat.le_of_ble_eq_true rfl) ?_
  show R K mi_X13_numberHere h [va_rf x0, .int x1, .int x2] _ _ 0 [(0, va_rf x0), (1, .int x1), (2, .int x2)] [] h
  refine R_iconst dX13_numberHere_0 k_iconst_0 ?_
  refine R_istore_n (L' := [(3, .int 0), (0, va_rf x0), (1, .int x1), (2, .int x2)]) dX13_numberHere_1 rfl (by decide) rfl ?_
  refine R_aload_n 1 dX13_numberHere_2 rfl rfl ?_
  obtain ⟨t1, et1, hf⟩ := Option.bind_eq_some_iff.mp hf
  refine R_geti lg_X13_255 et1 dX13_numberHere_3 ?_
  refine R_istore (L' := [(4, .int t1), (3, .int 0), (0, va_rf x0), (1, .int x1), (2, .int x2)]) dX13_numberHere_6 (by decide) rfl ?_
  refine R.sub [2, 3, 4, 1, 0] (L' := [(0, va_rf x0), (1, .int x1), (2, .int x2), (3, .int 0), (4, .int t1)]) rfl ?_
  exact f_X13_numberHere_L8_ok  FU x0 x1 x2 0 t1 h hf
theorem lV_X13_302 : GoodIn lw_all (wsV "EdgeSumsModel" 302 "EdgeSumsModel" yX13_numberHere (ws_ yX13_numberHere cX13_numberHere 5 (some FieldType.int))) := lw_V q3056 q3058 qs111 q158 q3059
theorem oky_X13_numberHere : okY yX13_numberHere 2 := ⟨by decide +kernel, by decide +kernel, by decide +kernel⟩
abbrev mi_X13_readCosts : MI := (RX13, yX13_readCosts, cX13_readCosts, 3, none, 3)
noncomputable def f_X13_readCosts_L2  : Nat → Option Nat → Int32 → PH → Option PH
  | 0, _, _, _ => none
  | k + 1, x0, x1, h => if 5 ≤ x1 then (some h) else ((rcv 11 x0 h).bind (fun u1 => (f_X13_isWell x0 h).bind (fun q2 => if q2.1 = 0 then (some q2.2) else ((rcv 11 x0 q2.2).bind (fun u3 => (f_X13_numberHere x0 1 9 q2.2).bind (fun q4 => if 0 ≤ q4.1 then ((gfr 11 1 x0 q4.2).bind (fun t5 => (asi 0 t5 (3 + x1) q4.1 q4.2).bind (fun h6 => (rcv 11 x0 h6).bind (fun u7 => (f_X13_goOn x0 h6).bind (fun h8 => (f_X13_readCosts_L2 k) x0 (x1 + 1) h8))))) else ((rcv 11 x0 q4.2).bind (fun u9 => (f_X13_fail x0 q4.2).bind (fun h10 => (f_X13_readCosts_L2 k) x0 (x1 + 1) h10)))))))))
theorem f_X13_readCosts_L2_ok {K : KT} {h0 : PH} {a0 : List Value} {q : PH}  : ∀ (k : Nat) (x0 : Option Nat) (x1 : Int32) (h : PH), f_X13_readCosts_L2  k x0 x1 h = some q → R K mi_X13_readCosts h0 a0 (.inl none) q 2 [(0, va_rf x0), (1, .int x1)] [] h := by
  intro k
  induction k with
  | zero => intro _ _ _ hf; cases hf
  | succ k ih =>
    intro x0 x1 h hf
    unfold f_X13_readCosts_L2 at hf
    refine R_iload_n 1 dX13_readCosts_2 rfl rfl ?_
    refine R_iconst dX13_readCosts_3 k_iconst_5 ?_
    refine R_icge (tgt := 52) dX13_readCosts_4 (by decide) (fun hc => ?_) (fun hc => ?_)
    · rw [if_pos hc] at hf
      obtain rfl := Option.some.inj hf
      exact R_return rfl dX13_readCosts_52
    · rw [if_neg hc] at hf
      refine R_aload_n 0 dX13_readCosts_7 rfl rfl ?_
      obtain ⟨u1, eu1, hf⟩ := Option.bind_eq_some_iff.mp hf
      obtain ⟨q2, eq2, hf⟩ := Option.bind_eq_some_iff.mp hf
      refine R_callV (mj := mi_X13_isWell) (ci := 11) (q := (RX13, TX13, 24)) (As := []) (rest := []) (T_X13_isWell eq2) eu1 rfl lV_X13_277 ⟨rfl, oky_X13_isWell⟩ (by decide) (by decide) rfl C1_0 (Nat.le_of_ble_eq_true rfl) dX13_readCosts_8 ?_
      refine R_ifeq (tgt := 52) dX13_readCosts_11 (by decide) (fun hc => ?_) (fun hc => ?_)
      · rw [if_pos hc] at hf
        obtain rfl := Option.some.inj hf
        exact R_return rfl dX13_readCosts_52
      · rw [if_neg hc] at hf
        refine R_aload_n 0 dX13_readCosts_14 rfl rfl ?_
        refine R_iconst dX13_readCosts_15 k_iconst_1 ?_
        refine R_bipush dX13_readCosts_16 k_bipush_9 ?_
        obtain ⟨u3, eu3, hf⟩ := Option.bind_eq_some_iff.mp hf
        obtain ⟨q4, eq4, hf⟩ := Option.bind_eq_some_iff.mp hf
        refine R_callV (mj := mi_X13_numberHere) (ci := 11) (q := (RX13, TX13, 24)) (As := [.int 1, .int 9]) (rest := []) (T_X13_numberHere eq4) eu3 rfl lV_X13_302 ⟨rfl, oky_X13_numberHere⟩ (by decide) (by decide) rfl C1_0 (Nat.le_of_ble_eq_true rfl) dX13_readCosts_18 ?_
        refine R_istore_n (L' := [(2, .int q4.1), (0, va_rf x0), (1, .int x1)]) dX13_readCosts_21 rfl (by decide) rfl ?_
        refine R_iload_n 0 dX13_readCosts_22 rfl rfl ?_
        refine R_ifge (tgt := 33) dX13_readCosts_23 (by decide) (fun hc => ?_) (fun hc => ?_)
        · rw [if_pos hc] at hf
          refine R_aload_n 1 dX13_readCosts_33 rfl rfl ?_
          obtain ⟨t5, et5, hf⟩ := Option.bind_eq_some_iff.mp hf
          refine R_getr lg_X13_7 et5 dX13_readCosts_34 ?_
          refine R_iconst dX13_readCosts_37 k_iconst_3 ?_
          refine R_iload_n 2 dX13_readCosts_38 rfl rfl ?_
          refine R_iadd dX13_readCosts_39 ?_
          refine R_iload_n 0 dX13_readCosts_40 rfl rfl ?_
          obtain ⟨h6, eh6, hf⟩ := Option.bind_eq_some_iff.mp hf
          refine R_iastore eh6 dX13_readCosts_41 ?_
          refine R_aload_n 1 dX13_readCosts_42 rfl rfl ?_
          obtain ⟨u7, eu7, hf⟩ := Option.bind_eq_some_iff.mp hf
          obtain ⟨h8, eh8, hf⟩ := Option.bind_eq_some_iff.mp hf
          refine R_callV (mj := mi_X13_goOn) (ci := 11) (q := (RX13, TX13, 24)) (As := []) (rest := []) (T_X13_goOn eh8) eu7 rfl lV_X13_283 ⟨rfl, oky_X13_goOn⟩ (by decide) (by decide) rfl C1_0 (Nat.le_of_ble_eq_true rfl) dX13_readCosts_43 ?_
          refine R_iinc (L' := [(1, .int (x1 + 1)), (2, .int q4.1), (0, va_rf x0)]) 2 dX13_readCosts_46 rfl (k_inc_1 _) (by decide) rfl ?_
          refine R_goto (tgt := 2) dX13_readCosts_49 (by decide) ?_
          refine R.sub [2, 0] (L' := [(0, va_rf x0), (1, .int (x1 + 1))]) rfl ?_
          exact ih x0 (x1 + 1) h8 hf
        · rw [if_neg hc] at hf
          refine R_aload_n 1 dX13_readCosts_26 rfl rfl ?_
          obtain ⟨u9, eu9, hf⟩ := Option.bind_eq_some_iff.mp hf
          obtain ⟨h10, eh10, hf⟩ := Option.bind_eq_some_iff.mp hf
          refine R_callV (mj := mi_X13_fail) (ci := 11) (q := (RX13, TX13, 24)) (As := []) (rest := []) (T_X13_fail eh10) eu9 rfl lV_X13_280 ⟨rfl, oky_X13_fail⟩ (by decide) (by decide) rfl C1_0 (Nat.le_of_ble_eq_true rfl) dX13_readCosts_27 ?_
          refine R_goto (tgt := 46) dX13_readCosts_30 (by decide) ?_
          refine R_iinc (L' := [(1, .int (x1 + 1)), (2, .int q4.1), (0, va_rf x0)]) 2 dX13_readCosts_46 rfl (k_inc_1 _) (by decide) rfl ?_
          refine R_goto (tgt := 2) dX13_readCosts_49 (by decide) ?_
          refine R.sub [2, 0] (L' := [(0, va_rf x0), (1, .int (x1 + 1))]) rfl ?_
          exact ih x0 (x1 + 1) h10 hf
noncomputable def f_X13_readCosts (x0 : Option Nat) (h : PH) : Option PH := f_X13_readCosts_L2  FU x0 0 h
theorem T_X13_readCosts {K : KT} {x0 : Option Nat} {h : PH} {q : PH} (hf : f_X13_readCosts x0 h = some q) : T K mi_X13_readCosts [va_rf x0] h (.inl none) q := by
  unfold f_X13_readCosts at hf
  refine T_of (by decide +kernel) rfl (C1_r C1_0) (Nat.le_of_ble_eq_true rfl) ?_
  show R K mi_X13_readCosts h [va_rf x0] _ _ 0 [(0, va_rf x0)] [] h
  refine R_iconst dX13_readCosts_0 k_iconst_0 ?_
  refine R_istore_n (L' := [(1, .int 0), (0, va_rf x0)]) dX13_readCosts_1 rfl (by decide) rfl ?_
  refine R.sub [1, 0] (L' := [(0, va_rf x0), (1, .int 0)]) rfl ?_
  exact f_X13_readCosts_L2_ok  FU x0 0 h hf
abbrev mi_X13_canBe : MI := (RX13, yX13_canBe, cX13_canBe, 3, (some FieldType.boolean), 3)
noncomputable def f_X13_canBe (x0 : Option Nat) (x1 : Int32) (x2 : Int32) (h : PH) : Option (Int32 × PH) := if x1 = 2 then ((rcv 11 x0 h).bind (fun u1 => (f_X13_numberOf x0 x2 h).bind (fun q2 => if q2.1 = 0 then (some (0, q2.2)) else (some (1, q2.2))))) else (if x1 = 3 then ((rcv 11 x0 h).bind (fun u3 => (f_X13_canShow x0 x2 h).bind (fun q4 => if q4.1 = 0 then (some (0, q4.2)) else (some (1, q4.2))))) else (some (1, h)))
theorem T_X13_canBe {K : KT} {x0 : Option Nat} {x1 : Int32} {x2 : Int32} {h : PH} {q : (Int32 × PH)} (hf : f_X13_canBe x0 x1 x2 h = some q) : T K mi_X13_canBe [va_rf x0, .int x1, .int x2] h (.inl (some (.int q.1))) q.2 := by
  unfold f_X13_canBe at hf
  refine T_of (by decide +kernel) rfl (C1_r (C1_i (C1_i C1_0))) (Nat.le_of_ble_eq_true rfl) ?_
  show R K mi_X13_canBe h [va_rf x0, .int x1, .int x2] _ _ 0 [(0, va_rf x0), (1, .int x1), (2, .int x2)] [] h
  refine R_iload_n 1 dX13_canBe_0 rfl rfl ?_
  refine R_iconst dX13_canBe_1 k_iconst_2 ?_
  refine R_icne (tgt := 21) dX13_canBe_2 (by decide) (fun hc => ?_) (fun hc => ?_)
  · rw [if_pos hc] at hf
    refine R_aload_n 0 dX13_canBe_5 rfl rfl ?_
    refine R_iload_n 2 dX13_canBe_6 rfl rfl ?_
    obtain ⟨u1, eu1, hf⟩ := Option.bind_eq_some_iff.mp hf
    obtain ⟨q2, eq2, hf⟩ := Option.bind_eq_some_iff.mp hf
    refine R_callV (mj := mi_X13_numberOf) (ci := 11) (q := (RX13, TX13, 24)) (As := [.int x2]) (rest := []) (T_X13_numberOf eq2) eu1 rfl lV_X13_99 ⟨rfl, oky_X13_numberOf⟩ (by decide) (by decide) rfl C1_0 (Nat.le_of_ble_eq_true rfl) dX13_canBe_7 ?_
    refine R_ifeq (tgt := 17) dX13_canBe_10 (by decide) (fun hc => ?_) (fun hc => ?_)
    · rw [if_pos hc] at hf
      refine R_iconst dX13_canBe_17 k_iconst_0 ?_
      refine R_goto (tgt := 39) dX13_canBe_18 (by decide) ?_
      obtain rfl := Option.some.inj hf
      exact R_iretZ0 rfl dX13_canBe_39
    · rw [if_neg hc] at hf
      refine R_iconst dX13_canBe_13 k_iconst_1 ?_
      refine R_goto (tgt := 39) dX13_canBe_14 (by decide) ?_
      obtain rfl := Option.some.inj hf
      exact R_iretZ1 rfl dX13_canBe_39
  · rw [if_neg hc] at hf
    refine R_iload_n 1 dX13_canBe_21 rfl rfl ?_
    refine R_iconst dX13_canBe_22 k_iconst_3 ?_
    refine R_icne (tgt := 34) dX13_canBe_23 (by decide) (fun hc => ?_) (fun hc => ?_)
    · rw [if_pos hc] at hf
      refine R_aload_n 0 dX13_canBe_26 rfl rfl ?_
      refine R_iload_n 2 dX13_canBe_27 rfl rfl ?_
      obtain ⟨u3, eu3, hf⟩ := Option.bind_eq_some_iff.mp hf
      obtain ⟨q4, eq4, hf⟩ := Option.bind_eq_some_iff.mp hf
      refine R_callV (mj := mi_X13_canShow) (ci := 11) (q := (RX13, TX13, 24)) (As := [.int x2]) (rest := []) (T_X13_canShow eq4) eu3 rfl lV_X13_219 ⟨rfl, oky_X13_canShow⟩ (by decide) (by decide) rfl C1_0 (Nat.le_of_ble_eq_true rfl) dX13_canBe_28 ?_
      refine R_ifeq (tgt := 38) dX13_canBe_31 (by decide) (fun hc => ?_) (fun hc => ?_)
      · rw [if_pos hc] at hf
        refine R_iconst dX13_canBe_38 k_iconst_0 ?_
        obtain rfl := Option.some.inj hf
        exact R_iretZ0 rfl dX13_canBe_39
      · rw [if_neg hc] at hf
        refine R_iconst dX13_canBe_34 k_iconst_1 ?_
        refine R_goto (tgt := 39) dX13_canBe_35 (by decide) ?_
        obtain rfl := Option.some.inj hf
        exact R_iretZ1 rfl dX13_canBe_39
    · rw [if_neg hc] at hf
      refine R_iconst dX13_canBe_34 k_iconst_1 ?_
      refine R_goto (tgt := 39) dX13_canBe_35 (by decide) ?_
      obtain rfl := Option.some.inj hf
      exact R_iretZ1 rfl dX13_canBe_39
abbrev mi_X13_put : MI := (RX13, yX13_put, cX13_put, 4, none, 1)
noncomputable def f_X13_put_B46  (x2 : Int32) (x3 : Int32) (s0 : Option Nat) (s1 : Int32) (h : PH) : Option PH := (asi 0 s0 (s1 + x2) x3 h).bind (fun h1 => some h1)
theorem f_X13_put_B46_ok {K : KT} {h0 : PH} {a0 : List Value} {q : PH}  (x2 : Int32) (x3 : Int32) (s0 : Option Nat) (s1 : Int32) (h : PH) (hf : f_X13_put_B46  x2 x3 s0 s1 h = some q) : R K mi_X13_put h0 a0 (.inl none) q 46 [(2, .int x2), (3, .int x3)] [.int s1, va_rf s0] h := by
  unfold f_X13_put_B46 at hf
  refine R_iload_n 0 dX13_put_46 rfl rfl ?_
  refine R_iadd dX13_put_47 ?_
  refine R_iload_n 1 dX13_put_48 rfl rfl ?_
  obtain ⟨h1, eh1, hf⟩ := Option.bind_eq_some_iff.mp hf
  refine R_iastore eh1 dX13_put_49 ?_
  obtain rfl := Option.some.inj hf
  exact R_return rfl dX13_put_50
noncomputable def f_X13_put (x0 : Option Nat) (x1 : Int32) (x2 : Int32) (x3 : Int32) (h : PH) : Option PH := if x1 = 4 then ((gfr 11 1 x0 h).bind (fun t1 => (gfr 11 1 x0 h).bind (fun t2 => (ald 0 t2 2 h).bind (fun t3 => (asi 0 t1 2 ((t3 &&& (((1 : Int32) <<< (x2 &&& 31)) ^^^ (-1))) ||| (x3 <<< (x2 &&& 31))) h).bind (fun h4 => some h4))))) else ((gfr 11 1 x0 h).bind (fun t5 => if x1 = 2 then (f_X13_put_B46  x2 x3 t5 58 h) else (f_X13_put_B46  x2 x3 t5 83 h)))
theorem T_X13_put {K : KT} {x0 : Option Nat} {x1 : Int32} {x2 : Int32} {x3 : Int32} {h : PH} {q : PH} (hf : f_X13_put x0 x1 x2 x3 h = some q) : T K mi_X13_put [va_rf x0, .int x1, .int x2, .int x3] h (.inl none) q := by
  unfold f_X13_put at hf
  refine T_of (by decide +kernel) rfl (C1_r (C1_i (C1_i (C1_i C1_0)))) (Nat.le_of_ble_eq_true rfl) ?_
  show R K mi_X13_put h [va_rf x0, .int x1, .int x2, .int x3] _ _ 0 [(0, va_rf x0), (1, .int x1), (2, .int x2), (3, .int x3)] [] h
  refine R_iload_n 1 dX13_put_0 rfl rfl ?_
  refine R_iconst dX13_put_1 k_iconst_4 ?_
  refine R_icne (tgt := 30) dX13_put_2 (by decide) (fun hc => ?_) (fun hc => ?_)
  · rw [if_pos hc] at hf
    refine R_aload_n 0 dX13_put_5 rfl rfl ?_
    obtain ⟨t1, et1, hf⟩ := Option.bind_eq_some_iff.mp hf
    refine R_getr lg_X13_7 et1 dX13_put_6 ?_
    refine R_iconst dX13_put_9 k_iconst_2 ?_
    refine R_aload_n 0 dX13_put_10 rfl rfl ?_
    obtain ⟨t2, et2, hf⟩ := Option.bind_eq_some_iff.mp hf
    refine R_getr lg_X13_7 et2 dX13_put_11 ?_
    refine R_iconst dX13_put_14 k_iconst_2 ?_
    obtain ⟨t3, et3, hf⟩ := Option.bind_eq_some_iff.mp hf
    refine R_iaload et3 dX13_put_15 ?_
    refine R_iconst dX13_put_16 k_iconst_1 ?_
    refine R_iload_n 2 dX13_put_17 rfl rfl ?_
    refine R_ishl dX13_put_18 ?_
    refine R_iconst dX13_put_19 k_iconst_m1 ?_
    refine R_ixor dX13_put_20 ?_
    refine R_iand dX13_put_21 ?_
    refine R_iload_n 3 dX13_put_22 rfl rfl ?_
    refine R_iload_n 2 dX13_put_23 rfl rfl ?_
    refine R_ishl dX13_put_24 ?_
    refine R_ior dX13_put_25 ?_
    obtain ⟨h4, eh4, hf⟩ := Option.bind_eq_some_iff.mp hf
    refine R_iastore eh4 dX13_put_26 ?_
    refine R_goto (tgt := 50) dX13_put_27 (by decide) ?_
    obtain rfl := Option.some.inj hf
    exact R_return rfl dX13_put_50
  · rw [if_neg hc] at hf
    refine R_aload_n 0 dX13_put_30 rfl rfl ?_
    obtain ⟨t5, et5, hf⟩ := Option.bind_eq_some_iff.mp hf
    refine R_getr lg_X13_7 et5 dX13_put_31 ?_
    refine R_iload_n 1 dX13_put_34 rfl rfl ?_
    refine R_iconst dX13_put_35 k_iconst_2 ?_
    refine R_icne (tgt := 44) dX13_put_36 (by decide) (fun hc => ?_) (fun hc => ?_)
    · rw [if_pos hc] at hf
      refine R_bipush dX13_put_39 k_bipush_58 ?_
      refine R_goto (tgt := 46) dX13_put_41 (by decide) ?_
      refine R.sub [2, 3] (L' := [(2, .int x2), (3, .int x3)]) rfl ?_
      exact f_X13_put_B46_ok  x2 x3 t5 58 h hf
    · rw [if_neg hc] at hf
      refine R_bipush dX13_put_44 k_bipush_83 ?_
      refine R.sub [2, 3] (L' := [(2, .int x2), (3, .int x3)]) rfl ?_
      exact f_X13_put_B46_ok  x2 x3 t5 83 h hf
theorem lV_X13_292 : GoodIn lw_all (wsV "EdgeSumsModel" 292 "EdgeSumsModel" yX13_isWord (ws_ yX13_isWord cX13_isWord 4 (some FieldType.boolean))) := lw_V q3022 q3024 qs104 q158 q3025
theorem oky_X13_isWord : okY yX13_isWord 1 := ⟨by decide +kernel, by decide +kernel, by decide +kernel⟩
theorem lV_X13_295 : GoodIn lw_all (wsV "EdgeSumsModel" 295 "EdgeSumsModel" yX13_canBe (ws_ yX13_canBe cX13_canBe 3 (some FieldType.boolean))) := lw_V q3067 q3069 qs113 q158 q3070
theorem oky_X13_canBe : okY yX13_canBe 2 := ⟨by decide +kernel, by decide +kernel, by decide +kernel⟩
theorem lV_X13_298 : GoodIn lw_all (wsV "EdgeSumsModel" 298 "EdgeSumsModel" yX13_put (ws_ yX13_put cX13_put 4 none)) := lw_V q3071 q3073 qs114 q158 q3074
theorem oky_X13_put : okY yX13_put 3 := ⟨by decide +kernel, by decide +kernel, by decide +kernel⟩
abbrev mi_X13_readWhich : MI := (RX13, yX13_readWhich, cX13_readWhich, 6, none, 4)
noncomputable def f_X13_readWhich_B144 (r95 : Option Nat → Int32 → Int32 → Int32 → PH → Option PH) (x0 : Option Nat) (x1 : Int32) (x2 : Int32) (h : PH) : Option PH := (rcv 11 x0 h).bind (fun u1 => (f_X13_isWell x0 h).bind (fun q2 => if q2.1 = 0 then (r95 x0 x1 x2 0 q2.2) else ((gfi 11 20 x0 q2.2).bind (fun t3 => if t3 = 2 then (r95 x0 x1 x2 1 q2.2) else (r95 x0 x1 x2 0 q2.2)))))
theorem f_X13_readWhich_B144_ok {K : KT} {h0 : PH} {a0 : List Value} {q : PH} {r95 : Option Nat → Int32 → Int32 → Int32 → PH → Option PH} (hr95 : ∀ (y0 : Option Nat) (y1 : Int32) (y2 : Int32) (y4 : Int32) (h : PH), r95 y0 y1 y2 y4 h = some q → R K mi_X13_readWhich h0 a0 (.inl none) q 95 [(0, va_rf y0), (1, .int y1), (2, .int y2), (4, .int y4)] [] h) (x0 : Option Nat) (x1 : Int32) (x2 : Int32) (h : PH) (hf : f_X13_readWhich_B144 r95 x0 x1 x2 h = some q) : R K mi_X13_readWhich h0 a0 (.inl none) q 144 [(0, va_rf x0), (1, .int x1), (2, .int x2)] [] h := by
  unfold f_X13_readWhich_B144 at hf
  refine R_aload_n 0 dX13_readWhich_144 rfl rfl ?_
  obtain ⟨u1, eu1, hf⟩ := Option.bind_eq_some_iff.mp hf
  obtain ⟨q2, eq2, hf⟩ := Option.bind_eq_some_iff.mp hf
  refine R_callV (mj := mi_X13_isWell) (ci := 11) (q := (RX13, TX13, 24)) (As := []) (rest := []) (T_X13_isWell eq2) eu1 rfl lV_X13_277 ⟨rfl, oky_X13_isWell⟩ (by decide) (by decide) rfl C1_0 (Nat.le_of_ble_eq_true rfl) dX13_readWhich_145 ?_
  refine R_ifeq (tgt := 163) dX13_readWhich_148 (by decide) (fun hc => ?_) (fun hc => ?_)
  · rw [if_pos hc] at hf
    refine R_iconst dX13_readWhich_163 k_iconst_0 ?_
    refine R_istore (L' := [(4, .int 0), (0, va_rf x0), (1, .int x1), (2, .int x2)]) dX13_readWhich_164 (by decide) rfl ?_
    refine R_goto (tgt := 95) dX13_readWhich_166 (by decide) ?_
    refine R.sub [1, 2, 3, 0] (L' := [(0, va_rf x0), (1, .int x1), (2, .int x2), (4, .int 0)]) rfl ?_
    exact hr95 x0 x1 x2 0 q2.2 hf
  · rw [if_neg hc] at hf
    refine R_aload_n 0 dX13_readWhich_151 rfl rfl ?_
    obtain ⟨t3, et3, hf⟩ := Option.bind_eq_some_iff.mp hf
    refine R_geti lg_X13_261 et3 dX13_readWhich_152 ?_
    refine R_iconst dX13_readWhich_155 k_iconst_2 ?_
    refine R_icne (tgt := 163) dX13_readWhich_156 (by decide) (fun hc => ?_) (fun hc => ?_)
    · rw [if_pos hc] at hf
      refine R_iconst dX13_readWhich_159 k_iconst_1 ?_
      refine R_goto (tgt := 164) dX13_readWhich_160 (by decide) ?_
      refine R_istore (L' := [(4, .int 1), (0, va_rf x0), (1, .int x1), (2, .int x2)]) dX13_readWhich_164 (by decide) rfl ?_
      refine R_goto (tgt := 95) dX13_readWhich_166 (by decide) ?_
      refine R.sub [1, 2, 3, 0] (L' := [(0, va_rf x0), (1, .int x1), (2, .int x2), (4, .int 1)]) rfl ?_
      exact hr95 x0 x1 x2 1 q2.2 hf
    · rw [if_neg hc] at hf
      refine R_iconst dX13_readWhich_163 k_iconst_0 ?_
      refine R_istore (L' := [(4, .int 0), (0, va_rf x0), (1, .int x1), (2, .int x2)]) dX13_readWhich_164 (by decide) rfl ?_
      refine R_goto (tgt := 95) dX13_readWhich_166 (by decide) ?_
      refine R.sub [1, 2, 3, 0] (L' := [(0, va_rf x0), (1, .int x1), (2, .int x2), (4, .int 0)]) rfl ?_
      exact hr95 x0 x1 x2 0 q2.2 hf
noncomputable def f_X13_readWhich_B125 (r95 : Option Nat → Int32 → Int32 → Int32 → PH → Option PH) (x0 : Option Nat) (x1 : Int32) (x2 : Int32) (h : PH) : Option PH := (rcv 11 x0 h).bind (fun u1 => (f_X13_fail x0 h).bind (fun h2 => f_X13_readWhich_B144 r95 x0 x1 x2 h2))
theorem f_X13_readWhich_B125_ok {K : KT} {h0 : PH} {a0 : List Value} {q : PH} {r95 : Option Nat → Int32 → Int32 → Int32 → PH → Option PH} (hr95 : ∀ (y0 : Option Nat) (y1 : Int32) (y2 : Int32) (y4 : Int32) (h : PH), r95 y0 y1 y2 y4 h = some q → R K mi_X13_readWhich h0 a0 (.inl none) q 95 [(0, va_rf y0), (1, .int y1), (2, .int y2), (4, .int y4)] [] h) (x0 : Option Nat) (x1 : Int32) (x2 : Int32) (h : PH) (hf : f_X13_readWhich_B125 r95 x0 x1 x2 h = some q) : R K mi_X13_readWhich h0 a0 (.inl none) q 125 [(0, va_rf x0), (1, .int x1), (2, .int x2)] [] h := by
  unfold f_X13_readWhich_B125 at hf
  refine R_aload_n 0 dX13_readWhich_125 rfl rfl ?_
  obtain ⟨u1, eu1, hf⟩ := Option.bind_eq_some_iff.mp hf
  obtain ⟨h2, eh2, hf⟩ := Option.bind_eq_some_iff.mp hf
  refine R_callV (mj := mi_X13_fail) (ci := 11) (q := (RX13, TX13, 24)) (As := []) (rest := []) (T_X13_fail eh2) eu1 rfl lV_X13_280 ⟨rfl, oky_X13_fail⟩ (by decide) (by decide) rfl C1_0 (Nat.le_of_ble_eq_true rfl) dX13_readWhich_126 ?_
  refine R_goto (tgt := 144) dX13_readWhich_129 (by decide) ?_
  exact f_X13_readWhich_B144_ok hr95 x0 x1 x2 h2 hf
noncomputable def f_X13_readWhich_L95  : Nat → Option Nat → Int32 → Int32 → Int32 → PH → Option PH
  | 0, _, _, _, _, _ => none
  | k + 1, x0, x1, x2, x4, h => if x4 = 0 then (some h) else ((rcv 11 x0 h).bind (fun u1 => (f_X13_numberHere x0 0 (x2 - 1) h).bind (fun q2 => if q2.1 < 0 then (f_X13_readWhich_B125 (f_X13_readWhich_L95 k) x0 x1 x2 q2.2) else ((rcv 11 x0 q2.2).bind (fun u3 => (f_X13_canBe x0 x1 q2.1 q2.2).bind (fun q4 => if q4.1 = 0 then (f_X13_readWhich_B125 (f_X13_readWhich_L95 k) x0 x1 x2 q4.2) else ((rcv 11 x0 q4.2).bind (fun u5 => (f_X13_put x0 x1 q2.1 1 q4.2).bind (fun h6 => (rcv 11 x0 h6).bind (fun u7 => (f_X13_goOn x0 h6).bind (fun h8 => f_X13_readWhich_B144 (f_X13_readWhich_L95 k) x0 x1 x2 h8)))))))))))
theorem f_X13_readWhich_L95_ok {K : KT} {h0 : PH} {a0 : List Value} {q : PH}  : ∀ (k : Nat) (x0 : Option Nat) (x1 : Int32) (x2 : Int32) (x4 : Int32) (h : PH), f_X13_readWhich_L95  k x0 x1 x2 x4 h = some q → R K mi_X13_readWhich h0 a0 (.inl none) q 95 [(0, va_rf x0), (1, .int x1), (2, .int x2), (4, .int x4)] [] h := by
  intro k
  induction k with
  | zero => intro _ _ _ _ _ hf; cases hf
  | succ k ih =>
    intro x0 x1 x2 x4 h hf
    unfold f_X13_readWhich_L95 at hf
    refine R_iload 3 dX13_readWhich_95 rfl ?_
    refine R_ifeq (tgt := 169) dX13_readWhich_97 (by decide) (fun hc => ?_) (fun hc => ?_)
    · rw [if_pos hc] at hf
      obtain rfl := Option.some.inj hf
      exact R_return rfl dX13_readWhich_169
    · rw [if_neg hc] at hf
      refine R_aload_n 0 dX13_readWhich_100 rfl rfl ?_
      refine R_iconst dX13_readWhich_101 k_iconst_0 ?_
      refine R_iload_n 2 dX13_readWhich_102 rfl rfl ?_
      refine R_iconst dX13_readWhich_103 k_iconst_1 ?_
      refine R_isub dX13_readWhich_104 ?_
      obtain ⟨u1, eu1, hf⟩ := Option.bind_eq_some_iff.mp hf
      obtain ⟨q2, eq2, hf⟩ := Option.bind_eq_some_iff.mp hf
      refine R_callV (mj := mi_X13_numberHere) (ci := 11) (q := (RX13, TX13, 24)) (As := [.int 0, .int (x2 - 1)]) (rest := []) (T_X13_numberHere eq2) eu1 rfl lV_X13_302 ⟨rfl, oky_X13_numberHere⟩ (by decide) (by decide) rfl C1_0 (Nat.le_of_ble_eq_true rfl) dX13_readWhich_105 ?_
      refine R_istore (L' := [(5, .int q2.1), (0, va_rf x0), (1, .int x1), (2, .int x2), (4, .int x4)]) dX13_readWhich_108 (by decide) rfl ?_
      refine R_iload 0 dX13_readWhich_110 rfl ?_
      refine R_iflt (tgt := 125) dX13_readWhich_112 (by decide) (fun hc => ?_) (fun hc => ?_)
      · rw [if_pos hc] at hf
        refine R.sub [1, 2, 3] (L' := [(0, va_rf x0), (1, .int x1), (2, .int x2)]) rfl ?_
        exact f_X13_readWhich_B125_ok ih x0 x1 x2 q2.2 hf
      · rw [if_neg hc] at hf
        refine R_aload_n 1 dX13_readWhich_115 rfl rfl ?_
        refine R_iload_n 2 dX13_readWhich_116 rfl rfl ?_
        refine R_iload 0 dX13_readWhich_117 rfl ?_
        obtain ⟨u3, eu3, hf⟩ := Option.bind_eq_some_iff.mp hf
        obtain ⟨q4, eq4, hf⟩ := Option.bind_eq_some_iff.mp hf
        refine R_callV (mj := mi_X13_canBe) (ci := 11) (q := (RX13, TX13, 24)) (As := [.int x1, .int q2.1]) (rest := []) (T_X13_canBe eq4) eu3 rfl lV_X13_295 ⟨rfl, oky_X13_canBe⟩ (by decide) (by decide) rfl C1_0 (Nat.le_of_ble_eq_true rfl) dX13_readWhich_119 ?_
        refine R_ifne (tgt := 132) dX13_readWhich_122 (by decide) (fun hc => ?_) (fun hc => ?_)
        · rw [if_pos hc] at hf
          refine R.sub [1, 2, 3] (L' := [(0, va_rf x0), (1, .int x1), (2, .int x2)]) rfl ?_
          exact f_X13_readWhich_B125_ok ih x0 x1 x2 q4.2 hf
        · rw [if_neg hc] at hf
          refine R_aload_n 1 dX13_readWhich_132 rfl rfl ?_
          refine R_iload_n 2 dX13_readWhich_133 rfl rfl ?_
          refine R_iload 0 dX13_readWhich_134 rfl ?_
          refine R_iconst dX13_readWhich_136 k_iconst_1 ?_
          obtain ⟨u5, eu5, hf⟩ := Option.bind_eq_some_iff.mp hf
          obtain ⟨h6, eh6, hf⟩ := Option.bind_eq_some_iff.mp hf
          refine R_callV (mj := mi_X13_put) (ci := 11) (q := (RX13, TX13, 24)) (As := [.int x1, .int q2.1, .int 1]) (rest := []) (T_X13_put eh6) eu5 rfl lV_X13_298 ⟨rfl, oky_X13_put⟩ (by decide) (by decide) rfl C1_0 (Nat.le_of_ble_eq_true rfl) dX13_readWhich_137 ?_
          refine R_aload_n 1 dX13_readWhich_140 rfl rfl ?_
          obtain ⟨u7, eu7, hf⟩ := Option.bind_eq_some_iff.mp hf
          obtain ⟨h8, eh8, hf⟩ := Option.bind_eq_some_iff.mp hf
          refine R_callV (mj := mi_X13_goOn) (ci := 11) (q := (RX13, TX13, 24)) (As := []) (rest := []) (T_X13_goOn eh8) eu7 rfl lV_X13_283 ⟨rfl, oky_X13_goOn⟩ (by decide) (by decide) rfl C1_0 (Nat.le_of_ble_eq_true rfl) dX13_readWhich_141 ?_
          refine R.sub [1, 2, 3] (L' := [(0, va_rf x0), (1, .int x1), (2, .int x2)]) rfl ?_
          exact f_X13_readWhich_B144_ok ih x0 x1 x2 h8 hf
noncomputable def f_X13_readWhich_B87  (x0 : Option Nat) (h : PH) : Option PH := (rcv 11 x0 h).bind (fun u1 => (f_X13_goOn x0 h).bind (fun h2 => some h2))
theorem f_X13_readWhich_B87_ok {K : KT} {h0 : PH} {a0 : List Value} {q : PH}  (x0 : Option Nat) (h : PH) (hf : f_X13_readWhich_B87  x0 h = some q) : R K mi_X13_readWhich h0 a0 (.inl none) q 87 [(0, va_rf x0)] [] h := by
  unfold f_X13_readWhich_B87 at hf
  refine R_aload_n 0 dX13_readWhich_87 rfl rfl ?_
  obtain ⟨u1, eu1, hf⟩ := Option.bind_eq_some_iff.mp hf
  obtain ⟨h2, eh2, hf⟩ := Option.bind_eq_some_iff.mp hf
  refine R_callV (mj := mi_X13_goOn) (ci := 11) (q := (RX13, TX13, 24)) (As := []) (rest := []) (T_X13_goOn eh2) eu1 rfl lV_X13_283 ⟨rfl, oky_X13_goOn⟩ (by decide) (by decide) rfl C1_0 (Nat.le_of_ble_eq_true rfl) dX13_readWhich_88 ?_
  obtain rfl := Option.some.inj hf
  exact R_return rfl dX13_readWhich_91
noncomputable def f_X13_readWhich_B65 (r36 : Option Nat → Int32 → Int32 → Int32 → Int32 → PH → Option PH) (x0 : Option Nat) (x1 : Int32) (x2 : Int32) (x3 : Int32) (x4 : Int32) (s0 : Option Nat) (s1 : Int32) (s2 : Int32) (s3 : Int32) (h : PH) : Option PH := (rcv 11 s0 h).bind (fun u1 => (f_X13_put s0 s1 s2 s3 h).bind (fun h2 => r36 x0 x1 x2 x3 (x4 + 1) h2))
theorem f_X13_readWhich_B65_ok {K : KT} {h0 : PH} {a0 : List Value} {q : PH} {r36 : Option Nat → Int32 → Int32 → Int32 → Int32 → PH → Option PH} (hr36 : ∀ (y0 : Option Nat) (y1 : Int32) (y2 : Int32) (y3 : Int32) (y4 : Int32) (h : PH), r36 y0 y1 y2 y3 y4 h = some q → R K mi_X13_readWhich h0 a0 (.inl none) q 36 [(0, va_rf y0), (1, .int y1), (2, .int y2), (3, .int y3), (4, .int y4)] [] h) (x0 : Option Nat) (x1 : Int32) (x2 : Int32) (x3 : Int32) (x4 : Int32) (s0 : Option Nat) (s1 : Int32) (s2 : Int32) (s3 : Int32) (h : PH) (hf : f_X13_readWhich_B65 r36 x0 x1 x2 x3 x4 s0 s1 s2 s3 h = some q) : R K mi_X13_readWhich h0 a0 (.inl none) q 65 [(0, va_rf x0), (1, .int x1), (2, .int x2), (3, .int x3), (4, .int x4)] [.int s3, .int s2, .int s1, va_rf s0] h := by
  unfold f_X13_readWhich_B65 at hf
  obtain ⟨u1, eu1, hf⟩ := Option.bind_eq_some_iff.mp hf
  obtain ⟨h2, eh2, hf⟩ := Option.bind_eq_some_iff.mp hf
  refine R_callV (mj := mi_X13_put) (ci := 11) (q := (RX13, TX13, 24)) (As := [.int s1, .int s2, .int s3]) (rest := []) (T_X13_put eh2) eu1 rfl lV_X13_298 ⟨rfl, oky_X13_put⟩ (by decide) (by decide) rfl C1_0 (Nat.le_of_ble_eq_true rfl) dX13_readWhich_65 ?_
  refine R_iinc (L' := [(4, .int (x4 + 1)), (0, va_rf x0), (1, .int x1), (2, .int x2), (3, .int x3)]) 4 dX13_readWhich_68 rfl (k_inc_1 _) (by decide) rfl ?_
  refine R_goto (tgt := 36) dX13_readWhich_71 (by decide) ?_
  refine R.sub [1, 2, 3, 4, 0] (L' := [(0, va_rf x0), (1, .int x1), (2, .int x2), (3, .int x3), (4, .int (x4 + 1))]) rfl ?_
  exact hr36 x0 x1 x2 x3 (x4 + 1) h2 hf
noncomputable def f_X13_readWhich_L36  : Nat → Option Nat → Int32 → Int32 → Int32 → Int32 → PH → Option PH
  | 0, _, _, _, _, _, _ => none
  | k + 1, x0, x1, x2, x3, x4, h => if x2 ≤ x4 then (if x3 = 0 then ((rcv 11 x0 h).bind (fun u1 => (f_X13_isWord x0 6 h).bind (fun q2 => if q2.1 = 0 then (f_X13_readWhich_L95  FU x0 x1 x2 1 q2.2) else (f_X13_readWhich_B87  x0 q2.2)))) else (f_X13_readWhich_B87  x0 h)) else (if x3 = 0 then (f_X13_readWhich_B65 (f_X13_readWhich_L36 k) x0 x1 x2 x3 x4 x0 x1 x4 0 h) else ((rcv 11 x0 h).bind (fun u3 => (f_X13_canBe x0 x1 x4 h).bind (fun q4 => if q4.1 = 0 then (f_X13_readWhich_B65 (f_X13_readWhich_L36 k) x0 x1 x2 x3 x4 x0 x1 x4 0 q4.2) else (f_X13_readWhich_B65 (f_X13_readWhich_L36 k) x0 x1 x2 x3 x4 x0 x1 x4 1 q4.2)))))
theorem f_X13_readWhich_L36_ok {K : KT} {h0 : PH} {a0 : List Value} {q : PH}  : ∀ (k : Nat) (x0 : Option Nat) (x1 : Int32) (x2 : Int32) (x3 : Int32) (x4 : Int32) (h : PH), f_X13_readWhich_L36  k x0 x1 x2 x3 x4 h = some q → R K mi_X13_readWhich h0 a0 (.inl none) q 36 [(0, va_rf x0), (1, .int x1), (2, .int x2), (3, .int x3), (4, .int x4)] [] h := by
  intro k
  induction k with
  | zero => intro _ _ _ _ _ _ hf; cases hf
  | succ k ih =>
    intro x0 x1 x2 x3 x4 h hf
    unfold f_X13_readWhich_L36 at hf
    refine R_iload 4 dX13_readWhich_36 rfl ?_
    refine R_iload_n 2 dX13_readWhich_38 rfl rfl ?_
    refine R_icge (tgt := 74) dX13_readWhich_39 (by decide) (fun hc => ?_) (fun hc => ?_)
    · rw [if_pos hc] at hf
      refine R_iload_n 3 dX13_readWhich_74 rfl rfl ?_
      refine R_ifne (tgt := 87) dX13_readWhich_75 (by decide) (fun hc => ?_) (fun hc => ?_)
      · rw [if_pos hc] at hf
        refine R_aload_n 0 dX13_readWhich_78 rfl rfl ?_
        refine R_bipush dX13_readWhich_79 k_bipush_6 ?_
        obtain ⟨u1, eu1, hf⟩ := Option.bind_eq_some_iff.mp hf
        obtain ⟨q2, eq2, hf⟩ := Option.bind_eq_some_iff.mp hf
        refine R_callV (mj := mi_X13_isWord) (ci := 11) (q := (RX13, TX13, 24)) (As := [.int 6]) (rest := []) (T_X13_isWord eq2) eu1 rfl lV_X13_292 ⟨rfl, oky_X13_isWord⟩ (by decide) (by decide) rfl C1_0 (Nat.le_of_ble_eq_true rfl) dX13_readWhich_81 ?_
        refine R_ifeq (tgt := 92) dX13_readWhich_84 (by decide) (fun hc => ?_) (fun hc => ?_)
        · rw [if_pos hc] at hf
          refine R_iconst dX13_readWhich_92 k_iconst_1 ?_
          refine R_istore (L' := [(4, .int 1), (0, va_rf x0), (1, .int x1), (2, .int x2), (3, .int x3)]) dX13_readWhich_93 (by decide) rfl ?_
          refine R.sub [1, 2, 3, 0] (L' := [(0, va_rf x0), (1, .int x1), (2, .int x2), (4, .int 1)]) rfl ?_
          exact f_X13_readWhich_L95_ok  FU x0 x1 x2 1 q2.2 hf
        · rw [if_neg hc] at hf
          refine R.sub [0] (L' := [(0, va_rf x0)]) rfl ?_
          exact f_X13_readWhich_B87_ok  x0 q2.2 hf
      · rw [if_neg hc] at hf
        refine R.sub [0] (L' := [(0, va_rf x0)]) rfl ?_
        exact f_X13_readWhich_B87_ok  x0 h hf
    · rw [if_neg hc] at hf
      refine R_aload_n 0 dX13_readWhich_42 rfl rfl ?_
      refine R_iload_n 1 dX13_readWhich_43 rfl rfl ?_
      refine R_iload 4 dX13_readWhich_44 rfl ?_
      refine R_iload_n 3 dX13_readWhich_46 rfl rfl ?_
      refine R_ifeq (tgt := 64) dX13_readWhich_47 (by decide) (fun hc => ?_) (fun hc => ?_)
      · rw [if_pos hc] at hf
        refine R_iconst dX13_readWhich_64 k_iconst_0 ?_
        exact f_X13_readWhich_B65_ok ih x0 x1 x2 x3 x4 x0 x1 x4 0 h hf
      · rw [if_neg hc] at hf
        refine R_aload_n 0 dX13_readWhich_50 rfl rfl ?_
        refine R_iload_n 1 dX13_readWhich_51 rfl rfl ?_
        refine R_iload 4 dX13_readWhich_52 rfl ?_
        obtain ⟨u3, eu3, hf⟩ := Option.bind_eq_some_iff.mp hf
        obtain ⟨q4, eq4, hf⟩ := Option.bind_eq_some_iff.mp hf
        refine R_callV (mj := mi_X13_canBe) (ci := 11) (q := (RX13, TX13, 24)) (As := [.int x1, .int x4]) (rest := [.int x4, .int x1, va_rf x0]) (T_X13_canBe eq4) eu3 rfl lV_X13_295 ⟨rfl, oky_X13_canBe⟩ (by decide) (by decide) rfl (C1_i (C1_i (C1_r C1_0))) (Nat.le_of_ble_eq_true rfl) dX13_readWhich_54 ?_
        refine R_ifeq (tgt := 64) dX13_readWhich_57 (by decide) (fun hc => ?_) (fun hc => ?_)
        · rw [if_pos hc] at hf
          refine R_iconst dX13_readWhich_64 k_iconst_0 ?_
          exact f_X13_readWhich_B65_ok ih x0 x1 x2 x3 x4 x0 x1 x4 0 q4.2 hf
        · rw [if_neg hc] at hf
          refine R_iconst dX13_readWhich_60 k_iconst_1 ?_
          refine R_goto (tgt := 65) dX13_readWhich_61 (by decide) ?_
          exact f_X13_readWhich_B65_ok ih x0 x1 x2 x3 x4 x0 x1 x4 1 q4.2 hf
noncomputable def f_X13_readWhich_B25  (x0 : Option Nat) (x1 : Int32) (s0 : Int32) (h : PH) : Option PH := (rcv 11 x0 h).bind (fun u1 => (f_X13_isWord x0 7 h).bind (fun q2 => f_X13_readWhich_L36  FU x0 x1 s0 q2.1 0 q2.2))
theorem f_X13_readWhich_B25_ok {K : KT} {h0 : PH} {a0 : List Value} {q : PH}  (x0 : Option Nat) (x1 : Int32) (s0 : Int32) (h : PH) (hf : f_X13_readWhich_B25  x0 x1 s0 h = some q) : R K mi_X13_readWhich h0 a0 (.inl none) q 25 [(0, va_rf x0), (1, .int x1)] [.int s0] h := by
  unfold f_X13_readWhich_B25 at hf
  refine R_istore_n (L' := [(2, .int s0), (0, va_rf x0), (1, .int x1)]) dX13_readWhich_25 rfl (by decide) rfl ?_
  refine R_aload_n 1 dX13_readWhich_26 rfl rfl ?_
  refine R_bipush dX13_readWhich_27 k_bipush_7 ?_
  obtain ⟨u1, eu1, hf⟩ := Option.bind_eq_some_iff.mp hf
  obtain ⟨q2, eq2, hf⟩ := Option.bind_eq_some_iff.mp hf
  refine R_callV (mj := mi_X13_isWord) (ci := 11) (q := (RX13, TX13, 24)) (As := [.int 7]) (rest := []) (T_X13_isWord eq2) eu1 rfl lV_X13_292 ⟨rfl, oky_X13_isWord⟩ (by decide) (by decide) rfl C1_0 (Nat.le_of_ble_eq_true rfl) dX13_readWhich_29 ?_
  refine R_istore_n (L' := [(3, .int q2.1), (2, .int s0), (0, va_rf x0), (1, .int x1)]) dX13_readWhich_32 rfl (by decide) rfl ?_
  refine R_iconst dX13_readWhich_33 k_iconst_0 ?_
  refine R_istore (L' := [(4, .int 0), (3, .int q2.1), (2, .int s0), (0, va_rf x0), (1, .int x1)]) dX13_readWhich_34 (by decide) rfl ?_
  refine R.sub [3, 4, 2, 1, 0] (L' := [(0, va_rf x0), (1, .int x1), (2, .int s0), (3, .int q2.1), (4, .int 0)]) rfl ?_
  exact f_X13_readWhich_L36_ok  FU x0 x1 s0 q2.1 0 q2.2 hf
noncomputable def f_X13_readWhich (x0 : Option Nat) (x1 : Int32) (h : PH) : Option PH := if x1 = 2 then ((rcv 11 x0 h).bind (fun u1 => (f_X13_cells x0 h).bind (fun q2 => f_X13_readWhich_B25  x0 x1 q2.1 q2.2))) else (if x1 = 3 then ((rcv 11 x0 h).bind (fun u3 => (f_X13_lines x0 h).bind (fun q4 => f_X13_readWhich_B25  x0 x1 q4.1 q4.2))) else (f_X13_readWhich_B25  x0 x1 5 h))
theorem T_X13_readWhich {K : KT} {x0 : Option Nat} {x1 : Int32} {h : PH} {q : PH} (hf : f_X13_readWhich x0 x1 h = some q) : T K mi_X13_readWhich [va_rf x0, .int x1] h (.inl none) q := by
  unfold f_X13_readWhich at hf
  refine T_of (by decide +kernel) rfl (C1_r (C1_i C1_0)) (Nat.le_of_ble_eq_true rfl) ?_
  show R K mi_X13_readWhich h [va_rf x0, .int x1] _ _ 0 [(0, va_rf x0), (1, .int x1)] [] h
  refine R_iload_n 1 dX13_readWhich_0 rfl rfl ?_
  refine R_iconst dX13_readWhich_1 k_iconst_2 ?_
  refine R_icne (tgt := 12) dX13_readWhich_2 (by decide) (fun hc => ?_) (fun hc => ?_)
  · rw [if_pos hc] at hf
    refine R_aload_n 0 dX13_readWhich_5 rfl rfl ?_
    obtain ⟨u1, eu1, hf⟩ := Option.bind_eq_some_iff.mp hf
    obtain ⟨q2, eq2, hf⟩ := Option.bind_eq_some_iff.mp hf
    refine R_callV (mj := mi_X13_cells) (ci := 11) (q := (RX13, TX13, 24)) (As := []) (rest := []) (T_X13_cells eq2) eu1 rfl lV_X13_61 ⟨rfl, oky_X13_cells⟩ (by decide) (by decide) rfl C1_0 (Nat.le_of_ble_eq_true rfl) dX13_readWhich_6 ?_
    refine R_goto (tgt := 25) dX13_readWhich_9 (by decide) ?_
    exact f_X13_readWhich_B25_ok  x0 x1 q2.1 q2.2 hf
  · rw [if_neg hc] at hf
    refine R_iload_n 1 dX13_readWhich_12 rfl rfl ?_
    refine R_iconst dX13_readWhich_13 k_iconst_3 ?_
    refine R_icne (tgt := 24) dX13_readWhich_14 (by decide) (fun hc => ?_) (fun hc => ?_)
    · rw [if_pos hc] at hf
      refine R_aload_n 0 dX13_readWhich_17 rfl rfl ?_
      obtain ⟨u3, eu3, hf⟩ := Option.bind_eq_some_iff.mp hf
      obtain ⟨q4, eq4, hf⟩ := Option.bind_eq_some_iff.mp hf
      refine R_callV (mj := mi_X13_lines) (ci := 11) (q := (RX13, TX13, 24)) (As := []) (rest := []) (T_X13_lines eq4) eu3 rfl lV_X13_69 ⟨rfl, oky_X13_lines⟩ (by decide) (by decide) rfl C1_0 (Nat.le_of_ble_eq_true rfl) dX13_readWhich_18 ?_
      refine R_goto (tgt := 25) dX13_readWhich_21 (by decide) ?_
      exact f_X13_readWhich_B25_ok  x0 x1 q4.1 q4.2 hf
    · rw [if_neg hc] at hf
      refine R_iconst dX13_readWhich_24 k_iconst_5 ?_
      exact f_X13_readWhich_B25_ok  x0 x1 5 h hf
theorem lV_X13_305 : GoodIn lw_all (wsV "EdgeSumsModel" 305 "EdgeSumsModel" yX13_readPage (ws_ yX13_readPage cX13_readPage 5 none)) := lw_V q3036 q3038 qs106 q158 q3039
theorem oky_X13_readPage : okY yX13_readPage 0 := ⟨by decide +kernel, by decide +kernel, by decide +kernel⟩
theorem lV_X13_308 : GoodIn lw_all (wsV "EdgeSumsModel" 308 "EdgeSumsModel" yX13_readAnswer (ws_ yX13_readAnswer cX13_readAnswer 5 none)) := lw_V q3044 q3046 qs108 q158 q3047
theorem oky_X13_readAnswer : okY yX13_readAnswer 0 := ⟨by decide +kernel, by decide +kernel, by decide +kernel⟩
theorem lV_X13_311 : GoodIn lw_all (wsV "EdgeSumsModel" 311 "EdgeSumsModel" yX13_readCosts (ws_ yX13_readCosts cX13_readCosts 3 none)) := lw_V q3052 q3054 qs110 q158 q3055
theorem oky_X13_readCosts : okY yX13_readCosts 0 := ⟨by decide +kernel, by decide +kernel, by decide +kernel⟩
theorem lV_X13_314 : GoodIn lw_all (wsV "EdgeSumsModel" 314 "EdgeSumsModel" yX13_readWhich (ws_ yX13_readWhich cX13_readWhich 6 none)) := lw_V q3063 q3065 qs112 q158 q3066
theorem oky_X13_readWhich : okY yX13_readWhich 1 := ⟨by decide +kernel, by decide +kernel, by decide +kernel⟩
abbrev mi_X13_readItem : MI := (RX13, yX13_readItem, cX13_readItem, 2, none, 6)
noncomputable def f_X13_readItem_B95  (x0 : Option Nat) (h : PH) : Option PH := (rcv 11 x0 h).bind (fun u1 => (f_X13_isWell x0 h).bind (fun q2 => if q2.1 = 0 then (some q2.2) else ((rcv 11 x0 q2.2).bind (fun u3 => (f_X13_goOn x0 q2.2).bind (fun h4 => some h4)))))
theorem f_X13_readItem_B95_ok {K : KT} {h0 : PH} {a0 : List Value} {q : PH}  (x0 : Option Nat) (h : PH) (hf : f_X13_readItem_B95  x0 h = some q) : R K mi_X13_readItem h0 a0 (.inl none) q 95 [(0, va_rf x0)] [] h := by
  unfold f_X13_readItem_B95 at hf
  refine R_aload_n 0 dX13_readItem_95 rfl rfl ?_
  obtain ⟨u1, eu1, hf⟩ := Option.bind_eq_some_iff.mp hf
  obtain ⟨q2, eq2, hf⟩ := Option.bind_eq_some_iff.mp hf
  refine R_callV (mj := mi_X13_isWell) (ci := 11) (q := (RX13, TX13, 24)) (As := []) (rest := []) (T_X13_isWell eq2) eu1 rfl lV_X13_277 ⟨rfl, oky_X13_isWell⟩ (by decide) (by decide) rfl C1_0 (Nat.le_of_ble_eq_true rfl) dX13_readItem_96 ?_
  refine R_ifeq (tgt := 106) dX13_readItem_99 (by decide) (fun hc => ?_) (fun hc => ?_)
  · rw [if_pos hc] at hf
    obtain rfl := Option.some.inj hf
    exact R_return rfl dX13_readItem_106
  · rw [if_neg hc] at hf
    refine R_aload_n 0 dX13_readItem_102 rfl rfl ?_
    obtain ⟨u3, eu3, hf⟩ := Option.bind_eq_some_iff.mp hf
    obtain ⟨h4, eh4, hf⟩ := Option.bind_eq_some_iff.mp hf
    refine R_callV (mj := mi_X13_goOn) (ci := 11) (q := (RX13, TX13, 24)) (As := []) (rest := []) (T_X13_goOn eh4) eu3 rfl lV_X13_283 ⟨rfl, oky_X13_goOn⟩ (by decide) (by decide) rfl C1_0 (Nat.le_of_ble_eq_true rfl) dX13_readItem_103 ?_
    obtain rfl := Option.some.inj hf
    exact R_return rfl dX13_readItem_106
noncomputable def f_X13_readItem_B77  (x0 : Option Nat) (h : PH) : Option PH := (rcv 11 x0 h).bind (fun u1 => (f_X13_isWell x0 h).bind (fun q2 => if q2.1 = 0 then (f_X13_readItem_B95  x0 q2.2) else ((rcv 11 x0 q2.2).bind (fun u3 => (f_X13_isStop x0 q2.2).bind (fun q4 => if q4.1 = 0 then ((rcv 11 x0 q4.2).bind (fun u5 => (f_X13_fail x0 q4.2).bind (fun h6 => f_X13_readItem_B95  x0 h6))) else (f_X13_readItem_B95  x0 q4.2))))))
theorem f_X13_readItem_B77_ok {K : KT} {h0 : PH} {a0 : List Value} {q : PH}  (x0 : Option Nat) (h : PH) (hf : f_X13_readItem_B77  x0 h = some q) : R K mi_X13_readItem h0 a0 (.inl none) q 77 [(0, va_rf x0)] [] h := by
  unfold f_X13_readItem_B77 at hf
  refine R_aload_n 0 dX13_readItem_77 rfl rfl ?_
  obtain ⟨u1, eu1, hf⟩ := Option.bind_eq_some_iff.mp hf
  obtain ⟨q2, eq2, hf⟩ := Option.bind_eq_some_iff.mp hf
  refine R_callV (mj := mi_X13_isWell) (ci := 11) (q := (RX13, TX13, 24)) (As := []) (rest := []) (T_X13_isWell eq2) eu1 rfl lV_X13_277 ⟨rfl, oky_X13_isWell⟩ (by decide) (by decide) rfl C1_0 (Nat.le_of_ble_eq_true rfl) dX13_readItem_78 ?_
  refine R_ifeq (tgt := 95) dX13_readItem_81 (by decide) (fun hc => ?_) (fun hc => ?_)
  · rw [if_pos hc] at hf
    exact f_X13_readItem_B95_ok  x0 q2.2 hf
  · rw [if_neg hc] at hf
    refine R_aload_n 0 dX13_readItem_84 rfl rfl ?_
    obtain ⟨u3, eu3, hf⟩ := Option.bind_eq_some_iff.mp hf
    obtain ⟨q4, eq4, hf⟩ := Option.bind_eq_some_iff.mp hf
    refine R_callV (mj := mi_X13_isStop) (ci := 11) (q := (RX13, TX13, 24)) (As := []) (rest := []) (T_X13_isStop eq4) eu3 rfl lV_X13_286 ⟨rfl, oky_X13_isStop⟩ (by decide) (by decide) rfl C1_0 (Nat.le_of_ble_eq_true rfl) dX13_readItem_85 ?_
    refine R_ifne (tgt := 95) dX13_readItem_88 (by decide) (fun hc => ?_) (fun hc => ?_)
    · rw [if_pos hc] at hf
      refine R_aload_n 0 dX13_readItem_91 rfl rfl ?_
      obtain ⟨u5, eu5, hf⟩ := Option.bind_eq_some_iff.mp hf
      obtain ⟨h6, eh6, hf⟩ := Option.bind_eq_some_iff.mp hf
      refine R_callV (mj := mi_X13_fail) (ci := 11) (q := (RX13, TX13, 24)) (As := []) (rest := []) (T_X13_fail eh6) eu5 rfl lV_X13_280 ⟨rfl, oky_X13_fail⟩ (by decide) (by decide) rfl C1_0 (Nat.le_of_ble_eq_true rfl) dX13_readItem_92 ?_
      exact f_X13_readItem_B95_ok  x0 h6 hf
    · rw [if_neg hc] at hf
      exact f_X13_readItem_B95_ok  x0 q4.2 hf
noncomputable def f_X13_readItem_B22  (x0 : Option Nat) (x1 : Int32) (h : PH) : Option PH := if x1 = 6 then ((rcv 11 x0 h).bind (fun u1 => (f_X13_fail x0 h).bind (fun h2 => some h2))) else ((rcv 11 x0 h).bind (fun u3 => (f_X13_goOn x0 h).bind (fun h4 => if x1 = 0 then ((rcv 11 x0 h4).bind (fun u5 => (f_X13_readPage x0 h4).bind (fun h6 => f_X13_readItem_B77  x0 h6))) else (if x1 = 1 then ((rcv 11 x0 h4).bind (fun u7 => (f_X13_readAnswer x0 h4).bind (fun h8 => f_X13_readItem_B77  x0 h8))) else (if x1 = 5 then ((rcv 11 x0 h4).bind (fun u9 => (f_X13_readCosts x0 h4).bind (fun h10 => f_X13_readItem_B77  x0 h10))) else ((rcv 11 x0 h4).bind (fun u11 => (f_X13_readWhich x0 x1 h4).bind (fun h12 => f_X13_readItem_B77  x0 h12))))))))
theorem f_X13_readItem_B22_ok {K : KT} {h0 : PH} {a0 : List Value} {q : PH}  (x0 : Option Nat) (x1 : Int32) (h : PH) (hf : f_X13_readItem_B22  x0 x1 h = some q) : R K mi_X13_readItem h0 a0 (.inl none) q 22 [(0, va_rf x0), (1, .int x1)] [] h := by
  unfold f_X13_readItem_B22 at hf
  refine R_iload_n 1 dX13_readItem_22 rfl rfl ?_
  refine R_bipush dX13_readItem_23 k_bipush_6 ?_
  refine R_icne (tgt := 33) dX13_readItem_25 (by decide) (fun hc => ?_) (fun hc => ?_)
  · rw [if_pos hc] at hf
    refine R_aload_n 0 dX13_readItem_28 rfl rfl ?_
    obtain ⟨u1, eu1, hf⟩ := Option.bind_eq_some_iff.mp hf
    obtain ⟨h2, eh2, hf⟩ := Option.bind_eq_some_iff.mp hf
    refine R_callV (mj := mi_X13_fail) (ci := 11) (q := (RX13, TX13, 24)) (As := []) (rest := []) (T_X13_fail eh2) eu1 rfl lV_X13_280 ⟨rfl, oky_X13_fail⟩ (by decide) (by decide) rfl C1_0 (Nat.le_of_ble_eq_true rfl) dX13_readItem_29 ?_
    obtain rfl := Option.some.inj hf
    exact R_return rfl dX13_readItem_32
  · rw [if_neg hc] at hf
    refine R_aload_n 0 dX13_readItem_33 rfl rfl ?_
    obtain ⟨u3, eu3, hf⟩ := Option.bind_eq_some_iff.mp hf
    obtain ⟨h4, eh4, hf⟩ := Option.bind_eq_some_iff.mp hf
    refine R_callV (mj := mi_X13_goOn) (ci := 11) (q := (RX13, TX13, 24)) (As := []) (rest := []) (T_X13_goOn eh4) eu3 rfl lV_X13_283 ⟨rfl, oky_X13_goOn⟩ (by decide) (by decide) rfl C1_0 (Nat.le_of_ble_eq_true rfl) dX13_readItem_34 ?_
    refine R_iload_n 1 dX13_readItem_37 rfl rfl ?_
    refine R_ifne (tgt := 48) dX13_readItem_38 (by decide) (fun hc => ?_) (fun hc => ?_)
    · rw [if_pos hc] at hf
      refine R_aload_n 0 dX13_readItem_41 rfl rfl ?_
      obtain ⟨u5, eu5, hf⟩ := Option.bind_eq_some_iff.mp hf
      obtain ⟨h6, eh6, hf⟩ := Option.bind_eq_some_iff.mp hf
      refine R_callV (mj := mi_X13_readPage) (ci := 11) (q := (RX13, TX13, 24)) (As := []) (rest := []) (T_X13_readPage eh6) eu5 rfl lV_X13_305 ⟨rfl, oky_X13_readPage⟩ (by decide) (by decide) rfl C1_0 (Nat.le_of_ble_eq_true rfl) dX13_readItem_42 ?_
      refine R_goto (tgt := 77) dX13_readItem_45 (by decide) ?_
      refine R.sub [0] (L' := [(0, va_rf x0)]) rfl ?_
      exact f_X13_readItem_B77_ok  x0 h6 hf
    · rw [if_neg hc] at hf
      refine R_iload_n 1 dX13_readItem_48 rfl rfl ?_
      refine R_iconst dX13_readItem_49 k_iconst_1 ?_
      refine R_icne (tgt := 60) dX13_readItem_50 (by decide) (fun hc => ?_) (fun hc => ?_)
      · rw [if_pos hc] at hf
        refine R_aload_n 0 dX13_readItem_53 rfl rfl ?_
        obtain ⟨u7, eu7, hf⟩ := Option.bind_eq_some_iff.mp hf
        obtain ⟨h8, eh8, hf⟩ := Option.bind_eq_some_iff.mp hf
        refine R_callV (mj := mi_X13_readAnswer) (ci := 11) (q := (RX13, TX13, 24)) (As := []) (rest := []) (T_X13_readAnswer eh8) eu7 rfl lV_X13_308 ⟨rfl, oky_X13_readAnswer⟩ (by decide) (by decide) rfl C1_0 (Nat.le_of_ble_eq_true rfl) dX13_readItem_54 ?_
        refine R_goto (tgt := 77) dX13_readItem_57 (by decide) ?_
        refine R.sub [0] (L' := [(0, va_rf x0)]) rfl ?_
        exact f_X13_readItem_B77_ok  x0 h8 hf
      · rw [if_neg hc] at hf
        refine R_iload_n 1 dX13_readItem_60 rfl rfl ?_
        refine R_iconst dX13_readItem_61 k_iconst_5 ?_
        refine R_icne (tgt := 72) dX13_readItem_62 (by decide) (fun hc => ?_) (fun hc => ?_)
        · rw [if_pos hc] at hf
          refine R_aload_n 0 dX13_readItem_65 rfl rfl ?_
          obtain ⟨u9, eu9, hf⟩ := Option.bind_eq_some_iff.mp hf
          obtain ⟨h10, eh10, hf⟩ := Option.bind_eq_some_iff.mp hf
          refine R_callV (mj := mi_X13_readCosts) (ci := 11) (q := (RX13, TX13, 24)) (As := []) (rest := []) (T_X13_readCosts eh10) eu9 rfl lV_X13_311 ⟨rfl, oky_X13_readCosts⟩ (by decide) (by decide) rfl C1_0 (Nat.le_of_ble_eq_true rfl) dX13_readItem_66 ?_
          refine R_goto (tgt := 77) dX13_readItem_69 (by decide) ?_
          refine R.sub [0] (L' := [(0, va_rf x0)]) rfl ?_
          exact f_X13_readItem_B77_ok  x0 h10 hf
        · rw [if_neg hc] at hf
          refine R_aload_n 0 dX13_readItem_72 rfl rfl ?_
          refine R_iload_n 1 dX13_readItem_73 rfl rfl ?_
          obtain ⟨u11, eu11, hf⟩ := Option.bind_eq_some_iff.mp hf
          obtain ⟨h12, eh12, hf⟩ := Option.bind_eq_some_iff.mp hf
          refine R_callV (mj := mi_X13_readWhich) (ci := 11) (q := (RX13, TX13, 24)) (As := [.int x1]) (rest := []) (T_X13_readWhich eh12) eu11 rfl lV_X13_314 ⟨rfl, oky_X13_readWhich⟩ (by decide) (by decide) rfl C1_0 (Nat.le_of_ble_eq_true rfl) dX13_readItem_74 ?_
          refine R.sub [0] (L' := [(0, va_rf x0)]) rfl ?_
          exact f_X13_readItem_B77_ok  x0 h12 hf
noncomputable def f_X13_readItem_L2  : Nat → Option Nat → Int32 → PH → Option PH
  | 0, _, _, _ => none
  | k + 1, x0, x1, h => if 6 ≤ x1 then (f_X13_readItem_B22  x0 x1 h) else ((rcv 11 x0 h).bind (fun u1 => (f_X13_isWord x0 x1 h).bind (fun q2 => if q2.1 = 0 then ((f_X13_readItem_L2 k) x0 (x1 + 1) q2.2) else (f_X13_readItem_B22  x0 x1 q2.2))))
theorem f_X13_readItem_L2_ok {K : KT} {h0 : PH} {a0 : List Value} {q : PH}  : ∀ (k : Nat) (x0 : Option Nat) (x1 : Int32) (h : PH), f_X13_readItem_L2  k x0 x1 h = some q → R K mi_X13_readItem h0 a0 (.inl none) q 2 [(0, va_rf x0), (1, .int x1)] [] h := by
  intro k
  induction k with
  | zero => intro _ _ _ hf; cases hf
  | succ k ih =>
    intro x0 x1 h hf
    unfold f_X13_readItem_L2 at hf
    refine R_iload_n 1 dX13_readItem_2 rfl rfl ?_
    refine R_bipush dX13_readItem_3 k_bipush_6 ?_
    refine R_icge (tgt := 22) dX13_readItem_5 (by decide) (fun hc => ?_) (fun hc => ?_)
    · rw [if_pos hc] at hf
      exact f_X13_readItem_B22_ok  x0 x1 h hf
    · rw [if_neg hc] at hf
      refine R_aload_n 0 dX13_readItem_8 rfl rfl ?_
      refine R_iload_n 1 dX13_readItem_9 rfl rfl ?_
      obtain ⟨u1, eu1, hf⟩ := Option.bind_eq_some_iff.mp hf
      obtain ⟨q2, eq2, hf⟩ := Option.bind_eq_some_iff.mp hf
      refine R_callV (mj := mi_X13_isWord) (ci := 11) (q := (RX13, TX13, 24)) (As := [.int x1]) (rest := []) (T_X13_isWord eq2) eu1 rfl lV_X13_292 ⟨rfl, oky_X13_isWord⟩ (by decide) (by decide) rfl C1_0 (Nat.le_of_ble_eq_true rfl) dX13_readItem_10 ?_
      refine R_ifne (tgt := 22) dX13_readItem_13 (by decide) (fun hc => ?_) (fun hc => ?_)
      · rw [if_pos hc] at hf
        refine R_iinc (L' := [(1, .int (x1 + 1)), (0, va_rf x0)]) 1 dX13_readItem_16 rfl (k_inc_1 _) (by decide) rfl ?_
        refine R_goto (tgt := 2) dX13_readItem_19 (by decide) ?_
        refine R.sub [1, 0] (L' := [(0, va_rf x0), (1, .int (x1 + 1))]) rfl ?_
        exact ih x0 (x1 + 1) q2.2 hf
      · rw [if_neg hc] at hf
        exact f_X13_readItem_B22_ok  x0 x1 q2.2 hf
noncomputable def f_X13_readItem (x0 : Option Nat) (h : PH) : Option PH := f_X13_readItem_L2  FU x0 0 h
theorem T_X13_readItem {K : KT} {x0 : Option Nat} {h : PH} {q : PH} (hf : f_X13_readItem x0 h = some q) : T K mi_X13_readItem [va_rf x0] h (.inl none) q := by
  unfold f_X13_readItem at hf
  refine T_of (by decide +kernel) rfl (C1_r C1_0) (Nat.le_of_ble_eq_true rfl) ?_
  show R K mi_X13_readItem h [va_rf x0] _ _ 0 [(0, va_rf x0)] [] h
  refine R_iconst dX13_readItem_0 k_iconst_0 ?_
  refine R_istore_n (L' := [(1, .int 0), (0, va_rf x0)]) dX13_readItem_1 rfl (by decide) rfl ?_
  refine R.sub [1, 0] (L' := [(0, va_rf x0), (1, .int 0)]) rfl ?_
  exact f_X13_readItem_L2_ok  FU x0 0 h hf
theorem lg_X13_13 : LG "EdgeSumsModel" 13 11 2 := ⟨_, _, _, ck_11, by decide, Or.inl q2653⟩
theorem lV_X13_317 : GoodIn lw_all (wsV "EdgeSumsModel" 317 "EdgeSumsModel" yX13_readItem (ws_ yX13_readItem cX13_readItem 2 none)) := lw_V q3018 q3020 qs103 q158 q3021
theorem oky_X13_readItem : okY yX13_readItem 0 := ⟨by decide +kernel, by decide +kernel, by decide +kernel⟩
abbrev mi_X13_load : MI := (RX13, yX13_load, cX13_load, 4, (some FieldType.int), 7)
noncomputable def f_X13_load_L135  : Nat → Option Nat → Int32 → Int32 → PH → Option (Int32 × PH)
  | 0, _, _, _, _ => none
  | k + 1, x0, x1, x2, h => if 356 ≤ x2 then ((rcv 11 x0 h).bind (fun u1 => (f_X13_reset x0 h).bind (fun h2 => (pf 11 6 x0 (.int 0) h2).bind (fun h3 => some (x1, h3))))) else ((gfr 11 1 x0 h).bind (fun t4 => (gfr 11 2 x0 h).bind (fun t5 => (ald 0 t5 x2 h).bind (fun t6 => (asi 0 t4 x2 t6 h).bind (fun h7 => (f_X13_load_L135 k) x0 x1 (x2 + 1) h7)))))
theorem f_X13_load_L135_ok {K : KT} {h0 : PH} {a0 : List Value} {q : (Int32 × PH)}  : ∀ (k : Nat) (x0 : Option Nat) (x1 : Int32) (x2 : Int32) (h : PH), f_X13_load_L135  k x0 x1 x2 h = some q → R K mi_X13_load h0 a0 (.inl (some (.int q.1))) q.2 135 [(0, va_rf x0), (1, .int x1), (2, .int x2)] [] h := by
  intro k
  induction k with
  | zero => intro _ _ _ _ hf; cases hf
  | succ k ih =>
    intro x0 x1 x2 h hf
    unfold f_X13_load_L135 at hf
    refine R_iload_n 2 dX13_load_135 rfl rfl ?_
    refine R_sipush dX13_load_136 k_sipush_356 ?_
    refine R_icge (tgt := 160) dX13_load_139 (by decide) (fun hc => ?_) (fun hc => ?_)
    · rw [if_pos hc] at hf
      refine R_aload_n 0 dX13_load_160 rfl rfl ?_
      obtain ⟨u1, eu1, hf⟩ := Option.bind_eq_some_iff.mp hf
      obtain ⟨h2, eh2, hf⟩ := Option.bind_eq_some_iff.mp hf
      refine R_callV (mj := mi_X13_reset) (ci := 11) (q := (RX13, TX13, 24)) (As := []) (rest := []) (T_X13_reset eh2) eu1 rfl lV_X13_51 ⟨rfl, oky_X13_reset⟩ (by decide) (by decide) rfl C1_0 (Nat.le_of_ble_eq_true rfl) dX13_load_161 ?_
      refine R_aload_n 0 dX13_load_164 rfl rfl ?_
      refine R_iconst dX13_load_165 k_iconst_0 ?_
      obtain ⟨h3, eh3, hf⟩ := Option.bind_eq_some_iff.mp hf
      refine R_putI (fp_X13_249 rfl) eh3 dX13_load_166 ?_
      refine R_iload_n 1 dX13_load_169 rfl rfl ?_
      obtain rfl := Option.some.inj hf
      exact R_iretI rfl dX13_load_170
    · rw [if_neg hc] at hf
      refine R_aload_n 0 dX13_load_142 rfl rfl ?_
      obtain ⟨t4, et4, hf⟩ := Option.bind_eq_some_iff.mp hf
      refine R_getr lg_X13_7 et4 dX13_load_143 ?_
      refine R_iload_n 2 dX13_load_146 rfl rfl ?_
      refine R_aload_n 0 dX13_load_147 rfl rfl ?_
      obtain ⟨t5, et5, hf⟩ := Option.bind_eq_some_iff.mp hf
      refine R_getr lg_X13_13 et5 dX13_load_148 ?_
      refine R_iload_n 2 dX13_load_151 rfl rfl ?_
      obtain ⟨t6, et6, hf⟩ := Option.bind_eq_some_iff.mp hf
      refine R_iaload et6 dX13_load_152 ?_
      obtain ⟨h7, eh7, hf⟩ := Option.bind_eq_some_iff.mp hf
      refine R_iastore eh7 dX13_load_153 ?_
      refine R_iinc (L' := [(2, .int (x2 + 1)), (0, va_rf x0), (1, .int x1)]) 2 dX13_load_154 rfl (k_inc_1 _) (by decide) rfl ?_
      refine R_goto (tgt := 135) dX13_load_157 (by decide) ?_
      refine R.sub [1, 2, 0] (L' := [(0, va_rf x0), (1, .int x1), (2, .int (x2 + 1))]) rfl ?_
      exact ih x0 x1 (x2 + 1) h7 hf
noncomputable def f_X13_load_L74  : Nat → Option Nat → Int32 → Int32 → PH → Option (Int32 × PH)
  | 0, _, _, _, _ => none
  | k + 1, x0, x1, x2, h => if 356 ≤ x2 then ((rcv 11 x0 h).bind (fun u1 => (f_X13_isWell x0 h).bind (fun q2 => if q2.1 = 0 then ((gfi 11 23 x0 q2.2).bind (fun t3 => some ((-1000) - t3, q2.2))) else ((rcv 11 x0 q2.2).bind (fun u4 => (f_X13_act x0 q2.2).bind (fun h5 => f_X13_load_L135  FU x0 x1 0 h5)))))) else ((gfr 11 1 x0 h).bind (fun t6 => (ald 0 t6 x2 h).bind (fun t7 => (gfr 11 1 x0 h).bind (fun t8 => (gfr 11 2 x0 h).bind (fun t9 => (ald 0 t9 x2 h).bind (fun t10 => (asi 0 t8 x2 t10 h).bind (fun h11 => (gfr 11 2 x0 h11).bind (fun t12 => (asi 0 t12 x2 t7 h11).bind (fun h13 => (f_X13_load_L74 k) x0 x1 (x2 + 1) h13)))))))))
theorem f_X13_load_L74_ok {K : KT} {h0 : PH} {a0 : List Value} {q : (Int32 × PH)}  : ∀ (k : Nat) (x0 : Option Nat) (x1 : Int32) (x2 : Int32) (h : PH), f_X13_load_L74  k x0 x1 x2 h = some q → R K mi_X13_load h0 a0 (.inl (some (.int q.1))) q.2 74 [(0, va_rf x0), (1, .int x1), (2, .int x2)] [] h := by
  intro k
  induction k with
  | zero => intro _ _ _ _ hf; cases hf
  | succ k ih =>
    intro x0 x1 x2 h hf
    unfold f_X13_load_L74 at hf
    refine R_iload_n 2 dX13_load_74 rfl rfl ?_
    refine R_sipush dX13_load_75 k_sipush_356 ?_
    refine R_icge (tgt := 113) dX13_load_78 (by decide) (fun hc => ?_) (fun hc => ?_)
    · rw [if_pos hc] at hf
      refine R_aload_n 0 dX13_load_113 rfl rfl ?_
      obtain ⟨u1, eu1, hf⟩ := Option.bind_eq_some_iff.mp hf
      obtain ⟨q2, eq2, hf⟩ := Option.bind_eq_some_iff.mp hf
      refine R_callV (mj := mi_X13_isWell) (ci := 11) (q := (RX13, TX13, 24)) (As := []) (rest := []) (T_X13_isWell eq2) eu1 rfl lV_X13_277 ⟨rfl, oky_X13_isWell⟩ (by decide) (by decide) rfl C1_0 (Nat.le_of_ble_eq_true rfl) dX13_load_114 ?_
      refine R_ifne (tgt := 129) dX13_load_117 (by decide) (fun hc => ?_) (fun hc => ?_)
      · rw [if_pos hc] at hf
        refine R_sipush dX13_load_120 k_sipush_m1000 ?_
        refine R_aload_n 0 dX13_load_123 rfl rfl ?_
        obtain ⟨t3, et3, hf⟩ := Option.bind_eq_some_iff.mp hf
        refine R_geti lg_X13_264 et3 dX13_load_124 ?_
        refine R_isub dX13_load_127 ?_
        obtain rfl := Option.some.inj hf
        exact R_iretI rfl dX13_load_128
      · rw [if_neg hc] at hf
        refine R_aload_n 0 dX13_load_129 rfl rfl ?_
        obtain ⟨u4, eu4, hf⟩ := Option.bind_eq_some_iff.mp hf
        obtain ⟨h5, eh5, hf⟩ := Option.bind_eq_some_iff.mp hf
        refine R_callV (mj := mi_X13_act) (ci := 11) (q := (RX13, TX13, 24)) (As := []) (rest := []) (T_X13_act eh5) eu4 rfl lV_X13_102 ⟨rfl, oky_X13_act⟩ (by decide) (by decide) rfl C1_0 (Nat.le_of_ble_eq_true rfl) dX13_load_130 ?_
        refine R_iconst dX13_load_133 k_iconst_0 ?_
        refine R_istore_n (L' := [(2, .int 0), (0, va_rf x0), (1, .int x1)]) dX13_load_134 rfl (by decide) rfl ?_
        refine R.sub [1, 2, 0] (L' := [(0, va_rf x0), (1, .int x1), (2, .int 0)]) rfl ?_
        exact f_X13_load_L135_ok  FU x0 x1 0 h5 hf
    · rw [if_neg hc] at hf
      refine R_aload_n 0 dX13_load_81 rfl rfl ?_
      obtain ⟨t6, et6, hf⟩ := Option.bind_eq_some_iff.mp hf
      refine R_getr lg_X13_7 et6 dX13_load_82 ?_
      refine R_iload_n 2 dX13_load_85 rfl rfl ?_
      obtain ⟨t7, et7, hf⟩ := Option.bind_eq_some_iff.mp hf
      refine R_iaload et7 dX13_load_86 ?_
      refine R_istore_n (L' := [(3, .int t7), (0, va_rf x0), (1, .int x1), (2, .int x2)]) dX13_load_87 rfl (by decide) rfl ?_
      refine R_aload_n 1 dX13_load_88 rfl rfl ?_
      obtain ⟨t8, et8, hf⟩ := Option.bind_eq_some_iff.mp hf
      refine R_getr lg_X13_7 et8 dX13_load_89 ?_
      refine R_iload_n 3 dX13_load_92 rfl rfl ?_
      refine R_aload_n 1 dX13_load_93 rfl rfl ?_
      obtain ⟨t9, et9, hf⟩ := Option.bind_eq_some_iff.mp hf
      refine R_getr lg_X13_13 et9 dX13_load_94 ?_
      refine R_iload_n 3 dX13_load_97 rfl rfl ?_
      obtain ⟨t10, et10, hf⟩ := Option.bind_eq_some_iff.mp hf
      refine R_iaload et10 dX13_load_98 ?_
      obtain ⟨h11, eh11, hf⟩ := Option.bind_eq_some_iff.mp hf
      refine R_iastore eh11 dX13_load_99 ?_
      refine R_aload_n 1 dX13_load_100 rfl rfl ?_
      obtain ⟨t12, et12, hf⟩ := Option.bind_eq_some_iff.mp hf
      refine R_getr lg_X13_13 et12 dX13_load_101 ?_
      refine R_iload_n 3 dX13_load_104 rfl rfl ?_
      refine R_iload_n 0 dX13_load_105 rfl rfl ?_
      obtain ⟨h13, eh13, hf⟩ := Option.bind_eq_some_iff.mp hf
      refine R_iastore eh13 dX13_load_106 ?_
      refine R_iinc (L' := [(2, .int (x2 + 1)), (3, .int t7), (0, va_rf x0), (1, .int x1)]) 3 dX13_load_107 rfl (k_inc_1 _) (by decide) rfl ?_
      refine R_goto (tgt := 74) dX13_load_110 (by decide) ?_
      refine R.sub [2, 3, 0] (L' := [(0, va_rf x0), (1, .int x1), (2, .int (x2 + 1))]) rfl ?_
      exact ih x0 x1 (x2 + 1) h13 hf
noncomputable def f_X13_load_L48  : Nat → Option Nat → Int32 → PH → Option (Int32 × PH)
  | 0, _, _, _ => none
  | k + 1, x0, x1, h => (rcv 11 x0 h).bind (fun u1 => (f_X13_isWell x0 h).bind (fun q2 => if q2.1 = 0 then (f_X13_load_L74  FU x0 x1 0 q2.2) else ((gfi 11 20 x0 q2.2).bind (fun t3 => if t3 = 0 then (f_X13_load_L74  FU x0 x1 0 q2.2) else ((rcv 11 x0 q2.2).bind (fun u4 => (f_X13_readItem x0 q2.2).bind (fun h5 => (f_X13_load_L48 k) x0 (x1 + 1) h5)))))))
theorem f_X13_load_L48_ok {K : KT} {h0 : PH} {a0 : List Value} {q : (Int32 × PH)}  : ∀ (k : Nat) (x0 : Option Nat) (x1 : Int32) (h : PH), f_X13_load_L48  k x0 x1 h = some q → R K mi_X13_load h0 a0 (.inl (some (.int q.1))) q.2 48 [(0, va_rf x0), (1, .int x1)] [] h := by
  intro k
  induction k with
  | zero => intro _ _ _ hf; cases hf
  | succ k ih =>
    intro x0 x1 h hf
    unfold f_X13_load_L48 at hf
    refine R_aload_n 0 dX13_load_48 rfl rfl ?_
    obtain ⟨u1, eu1, hf⟩ := Option.bind_eq_some_iff.mp hf
    obtain ⟨q2, eq2, hf⟩ := Option.bind_eq_some_iff.mp hf
    refine R_callV (mj := mi_X13_isWell) (ci := 11) (q := (RX13, TX13, 24)) (As := []) (rest := []) (T_X13_isWell eq2) eu1 rfl lV_X13_277 ⟨rfl, oky_X13_isWell⟩ (by decide) (by decide) rfl C1_0 (Nat.le_of_ble_eq_true rfl) dX13_load_49 ?_
    refine R_ifeq (tgt := 72) dX13_load_52 (by decide) (fun hc => ?_) (fun hc => ?_)
    · rw [if_pos hc] at hf
      refine R_iconst dX13_load_72 k_iconst_0 ?_
      refine R_istore_n (L' := [(2, .int 0), (0, va_rf x0), (1, .int x1)]) dX13_load_73 rfl (by decide) rfl ?_
      refine R.sub [1, 2, 0] (L' := [(0, va_rf x0), (1, .int x1), (2, .int 0)]) rfl ?_
      exact f_X13_load_L74_ok  FU x0 x1 0 q2.2 hf
    · rw [if_neg hc] at hf
      refine R_aload_n 0 dX13_load_55 rfl rfl ?_
      obtain ⟨t3, et3, hf⟩ := Option.bind_eq_some_iff.mp hf
      refine R_geti lg_X13_261 et3 dX13_load_56 ?_
      refine R_ifeq (tgt := 72) dX13_load_59 (by decide) (fun hc => ?_) (fun hc => ?_)
      · rw [if_pos hc] at hf
        refine R_iconst dX13_load_72 k_iconst_0 ?_
        refine R_istore_n (L' := [(2, .int 0), (0, va_rf x0), (1, .int x1)]) dX13_load_73 rfl (by decide) rfl ?_
        refine R.sub [1, 2, 0] (L' := [(0, va_rf x0), (1, .int x1), (2, .int 0)]) rfl ?_
        exact f_X13_load_L74_ok  FU x0 x1 0 q2.2 hf
      · rw [if_neg hc] at hf
        refine R_aload_n 0 dX13_load_62 rfl rfl ?_
        obtain ⟨u4, eu4, hf⟩ := Option.bind_eq_some_iff.mp hf
        obtain ⟨h5, eh5, hf⟩ := Option.bind_eq_some_iff.mp hf
        refine R_callV (mj := mi_X13_readItem) (ci := 11) (q := (RX13, TX13, 24)) (As := []) (rest := []) (T_X13_readItem eh5) eu4 rfl lV_X13_317 ⟨rfl, oky_X13_readItem⟩ (by decide) (by decide) rfl C1_0 (Nat.le_of_ble_eq_true rfl) dX13_load_63 ?_
        refine R_iinc (L' := [(1, .int (x1 + 1)), (0, va_rf x0)]) 1 dX13_load_66 rfl (k_inc_1 _) (by decide) rfl ?_
        refine R_goto (tgt := 48) dX13_load_69 (by decide) ?_
        refine R.sub [1, 0] (L' := [(0, va_rf x0), (1, .int (x1 + 1))]) rfl ?_
        exact ih x0 (x1 + 1) h5 hf
noncomputable def f_X13_load_L7  : Nat → Option Nat → Int32 → PH → Option (Int32 × PH)
  | 0, _, _, _ => none
  | k + 1, x0, x1, h => if 356 ≤ x1 then ((pf 11 22 x0 (.int 0) h).bind (fun h1 => (pf 11 23 x0 (.int (-1)) h1).bind (fun h2 => (rcv 11 x0 h2).bind (fun u3 => (f_X13_goOn x0 h2).bind (fun h4 => f_X13_load_L48  FU x0 0 h4))))) else ((gfr 11 2 x0 h).bind (fun t5 => (gfr 11 1 x0 h).bind (fun t6 => (ald 0 t6 x1 h).bind (fun t7 => (asi 0 t5 x1 t7 h).bind (fun h8 => (f_X13_load_L7 k) x0 (x1 + 1) h8)))))
theorem f_X13_load_L7_ok {K : KT} {h0 : PH} {a0 : List Value} {q : (Int32 × PH)}  : ∀ (k : Nat) (x0 : Option Nat) (x1 : Int32) (h : PH), f_X13_load_L7  k x0 x1 h = some q → R K mi_X13_load h0 a0 (.inl (some (.int q.1))) q.2 7 [(0, va_rf x0), (1, .int x1)] [] h := by
  intro k
  induction k with
  | zero => intro _ _ _ hf; cases hf
  | succ k ih =>
    intro x0 x1 h hf
    unfold f_X13_load_L7 at hf
    refine R_iload_n 1 dX13_load_7 rfl rfl ?_
    refine R_sipush dX13_load_8 k_sipush_356 ?_
    refine R_icge (tgt := 32) dX13_load_11 (by decide) (fun hc => ?_) (fun hc => ?_)
    · rw [if_pos hc] at hf
      refine R_aload_n 0 dX13_load_32 rfl rfl ?_
      refine R_iconst dX13_load_33 k_iconst_0 ?_
      obtain ⟨h1, eh1, hf⟩ := Option.bind_eq_some_iff.mp hf
      refine R_putI (fp_X13_252 rfl) eh1 dX13_load_34 ?_
      refine R_aload_n 0 dX13_load_37 rfl rfl ?_
      refine R_iconst dX13_load_38 k_iconst_m1 ?_
      obtain ⟨h2, eh2, hf⟩ := Option.bind_eq_some_iff.mp hf
      refine R_putI (fp_X13_264 rfl) eh2 dX13_load_39 ?_
      refine R_iconst dX13_load_42 k_iconst_0 ?_
      refine R_istore_n (L' := [(1, .int 0), (0, va_rf x0)]) dX13_load_43 rfl (by decide) rfl ?_
      refine R_aload_n 1 dX13_load_44 rfl rfl ?_
      obtain ⟨u3, eu3, hf⟩ := Option.bind_eq_some_iff.mp hf
      obtain ⟨h4, eh4, hf⟩ := Option.bind_eq_some_iff.mp hf
      refine R_callV (mj := mi_X13_goOn) (ci := 11) (q := (RX13, TX13, 24)) (As := []) (rest := []) (T_X13_goOn eh4) eu3 rfl lV_X13_283 ⟨rfl, oky_X13_goOn⟩ (by decide) (by decide) rfl C1_0 (Nat.le_of_ble_eq_true rfl) dX13_load_45 ?_
      refine R.sub [1, 0] (L' := [(0, va_rf x0), (1, .int 0)]) rfl ?_
      exact f_X13_load_L48_ok  FU x0 0 h4 hf
    · rw [if_neg hc] at hf
      refine R_aload_n 0 dX13_load_14 rfl rfl ?_
      obtain ⟨t5, et5, hf⟩ := Option.bind_eq_some_iff.mp hf
      refine R_getr lg_X13_13 et5 dX13_load_15 ?_
      refine R_iload_n 1 dX13_load_18 rfl rfl ?_
      refine R_aload_n 0 dX13_load_19 rfl rfl ?_
      obtain ⟨t6, et6, hf⟩ := Option.bind_eq_some_iff.mp hf
      refine R_getr lg_X13_7 et6 dX13_load_20 ?_
      refine R_iload_n 1 dX13_load_23 rfl rfl ?_
      obtain ⟨t7, et7, hf⟩ := Option.bind_eq_some_iff.mp hf
      refine R_iaload et7 dX13_load_24 ?_
      obtain ⟨h8, eh8, hf⟩ := Option.bind_eq_some_iff.mp hf
      refine R_iastore eh8 dX13_load_25 ?_
      refine R_iinc (L' := [(1, .int (x1 + 1)), (0, va_rf x0)]) 1 dX13_load_26 rfl (k_inc_1 _) (by decide) rfl ?_
      refine R_goto (tgt := 7) dX13_load_29 (by decide) ?_
      refine R.sub [1, 0] (L' := [(0, va_rf x0), (1, .int (x1 + 1))]) rfl ?_
      exact ih x0 (x1 + 1) h8 hf
noncomputable def f_X13_load (x0 : Option Nat) (h : PH) : Option (Int32 × PH) := (pf 11 0 x0 (.int 0) h).bind (fun h1 => f_X13_load_L7  FU x0 0 h1)
theorem T_X13_load {K : KT} {x0 : Option Nat} {h : PH} {q : (Int32 × PH)} (hf : f_X13_load x0 h = some q) : T K mi_X13_load [va_rf x0] h (.inl (some (.int q.1))) q.2 := by
  unfold f_X13_load at hf
  refine T_of (by decide +kernel) rfl (C1_r C1_0) (Nat.le_of_ble_eq_true rfl) ?_
  show R K mi_X13_load h [va_rf x0] _ _ 0 [(0, va_rf x0)] [] h
  refine R_aload_n 0 dX13_load_0 rfl rfl ?_
  refine R_iconst dX13_load_1 k_iconst_0 ?_
  obtain ⟨h1, eh1, hf⟩ := Option.bind_eq_some_iff.mp hf
  refine R_putI (fp_X13_43 rfl) eh1 dX13_load_2 ?_
  refine R_iconst dX13_load_5 k_iconst_0 ?_
  refine R_istore_n (L' := [(1, .int 0), (0, va_rf x0)]) dX13_load_6 rfl (by decide) rfl ?_
  refine R.sub [1, 0] (L' := [(0, va_rf x0), (1, .int 0)]) rfl ?_
  exact f_X13_load_L7_ok  FU x0 0 h1 hf
abbrev mi_X13_count : MI := (RX13, yX13_count, cX13_count, 2, (some FieldType.int), 3)
noncomputable def f_X13_count (x0 : Option Nat) (x1 : Int32) (h : PH) : Option (Int32 × PH) := (pf 11 0 x0 (.int 0) h).bind (fun h1 => (rcv 11 x0 h1).bind (fun u2 => (f_X13_layPlayers x0 h1).bind (fun h3 => if x1 = 0 then ((gfr 11 1 x0 h3).bind (fun t4 => (ald 0 t4 0 h3).bind (fun t5 => some (t5, h3)))) else (if x1 = 1 then ((gfr 11 1 x0 h3).bind (fun t6 => (ald 0 t6 1 h3).bind (fun t7 => some (t7, h3)))) else (if x1 = 2 then ((rcv 11 x0 h3).bind (fun u8 => (f_X13_blocks x0 h3).bind (fun q9 => some (q9.1, q9.2)))) else (if x1 = 3 then ((rcv 11 x0 h3).bind (fun u10 => (f_X13_emptyMany x0 h3).bind (fun q11 => some (q11.1, q11.2)))) else (if x1 = 4 then ((rcv 11 x0 h3).bind (fun u12 => (f_X13_givenMany x0 h3).bind (fun q13 => some (q13.1, q13.2)))) else (if x1 = 5 then ((rcv 11 x0 h3).bind (fun u14 => (f_X13_shownMany x0 h3).bind (fun q15 => some (q15.1, q15.2)))) else (if x1 = 6 then ((gfr 11 1 x0 h3).bind (fun t16 => (ald 0 t16 2 h3).bind (fun t17 => (f_X13_ones t17 h3).bind (fun q18 => some (q18.1, q18.2))))) else (if x1 = 7 then ((rcv 11 x0 h3).bind (fun u19 => (f_X13_possibleMany x0 h3).bind (fun q20 => some (q20.1, q20.2)))) else (if x1 = 8 then ((rcv 11 x0 h3).bind (fun u21 => (f_X13_singleMany x0 h3).bind (fun q22 => some (q22.1, q22.2)))) else (if x1 = 9 then ((gfr 11 1 x0 h3).bind (fun t23 => (ald 0 t23 118 h3).bind (fun t24 => (gfr 11 1 x0 h3).bind (fun t25 => (ald 0 t25 237 h3).bind (fun t26 => some (t24 + t26, h3)))))) else (if x1 = 10 then ((gfi 11 4 x0 h3).bind (fun t27 => some (t27, h3))) else (if x1 = 11 then ((gfi 11 6 x0 h3).bind (fun t28 => some (t28, h3))) else (some ((-1), h3))))))))))))))))
theorem T_X13_count {K : KT} {x0 : Option Nat} {x1 : Int32} {h : PH} {q : (Int32 × PH)} (hf : f_X13_count x0 x1 h = some q) : T K mi_X13_count [va_rf x0, .int x1] h (.inl (some (.int q.1))) q.2 := by
  unfold f_X13_count at hf
  refine T_of (by decide +kernel) rfl (C1_r (C1_i C1_0)) (Nat.le_of_ble_eq_true rfl) ?_
  show R K mi_X13_count h [va_rf x0, .int x1] _ _ 0 [(0, va_rf x0), (1, .int x1)] [] h
  refine R_aload_n 0 dX13_count_0 rfl rfl ?_
  refine R_iconst dX13_count_1 k_iconst_0 ?_
  obtain ⟨h1, eh1, hf⟩ := Option.bind_eq_some_iff.mp hf
  refine R_putI (fp_X13_43 rfl) eh1 dX13_count_2 ?_
  refine R_aload_n 0 dX13_count_5 rfl rfl ?_
  obtain ⟨u2, eu2, hf⟩ := Option.bind_eq_some_iff.mp hf
  obtain ⟨h3, eh3, hf⟩ := Option.bind_eq_some_iff.mp hf
  refine R_callV (mj := mi_X13_layPlayers) (ci := 11) (q := (RX13, TX13, 24)) (As := []) (rest := []) (T_X13_layPlayers eh3) eu2 rfl lV_X13_237 ⟨rfl, oky_X13_layPlayers⟩ (by decide) (by decide) rfl C1_0 (Nat.le_of_ble_eq_true rfl) dX13_count_6 ?_
  refine R_iload_n 1 dX13_count_9 rfl rfl ?_
  by_cases hc0 : x1 = 0
  · rw [if_pos hc0] at hf
    refine R_tswIn (tgt := 72) dX13_count_10 (by rw [hc0]; decide) (by rw [hc0]; decide) (by rw [hc0]; rfl) (by decide) ?_
    refine R_aload_n 0 dX13_count_72 rfl rfl ?_
    obtain ⟨t4, et4, hf⟩ := Option.bind_eq_some_iff.mp hf
    refine R_getr lg_X13_7 et4 dX13_count_73 ?_
    refine R_iconst dX13_count_76 k_iconst_0 ?_
    obtain ⟨t5, et5, hf⟩ := Option.bind_eq_some_iff.mp hf
    refine R_iaload et5 dX13_count_77 ?_
    obtain rfl := Option.some.inj hf
    exact R_iretI rfl dX13_count_78
  · rw [if_neg hc0] at hf
    by_cases hc1 : x1 = 1
    · rw [if_pos hc1] at hf
      refine R_tswIn (tgt := 79) dX13_count_10 (by rw [hc1]; decide) (by rw [hc1]; decide) (by rw [hc1]; rfl) (by decide) ?_
      refine R_aload_n 0 dX13_count_79 rfl rfl ?_
      obtain ⟨t6, et6, hf⟩ := Option.bind_eq_some_iff.mp hf
      refine R_getr lg_X13_7 et6 dX13_count_80 ?_
      refine R_iconst dX13_count_83 k_iconst_1 ?_
      obtain ⟨t7, et7, hf⟩ := Option.bind_eq_some_iff.mp hf
      refine R_iaload et7 dX13_count_84 ?_
      obtain rfl := Option.some.inj hf
      exact R_iretI rfl dX13_count_85
    · rw [if_neg hc1] at hf
      by_cases hc2 : x1 = 2
      · rw [if_pos hc2] at hf
        refine R_tswIn (tgt := 86) dX13_count_10 (by rw [hc2]; decide) (by rw [hc2]; decide) (by rw [hc2]; rfl) (by decide) ?_
        refine R_aload_n 0 dX13_count_86 rfl rfl ?_
        obtain ⟨u8, eu8, hf⟩ := Option.bind_eq_some_iff.mp hf
        obtain ⟨q9, eq9, hf⟩ := Option.bind_eq_some_iff.mp hf
        refine R_callV (mj := mi_X13_blocks) (ci := 11) (q := (RX13, TX13, 24)) (As := []) (rest := []) (T_X13_blocks eq9) eu8 rfl lV_X13_105 ⟨rfl, oky_X13_blocks⟩ (by decide) (by decide) rfl C1_0 (Nat.le_of_ble_eq_true rfl) dX13_count_87 ?_
        obtain rfl := Option.some.inj hf
        exact R_iretI rfl dX13_count_90
      · rw [if_neg hc2] at hf
        by_cases hc3 : x1 = 3
        · rw [if_pos hc3] at hf
          refine R_tswIn (tgt := 91) dX13_count_10 (by rw [hc3]; decide) (by rw [hc3]; decide) (by rw [hc3]; rfl) (by decide) ?_
          refine R_aload_n 0 dX13_count_91 rfl rfl ?_
          obtain ⟨u10, eu10, hf⟩ := Option.bind_eq_some_iff.mp hf
          obtain ⟨q11, eq11, hf⟩ := Option.bind_eq_some_iff.mp hf
          refine R_callV (mj := mi_X13_emptyMany) (ci := 11) (q := (RX13, TX13, 24)) (As := []) (rest := []) (T_X13_emptyMany eq11) eu10 rfl lV_X13_136 ⟨rfl, oky_X13_emptyMany⟩ (by decide) (by decide) rfl C1_0 (Nat.le_of_ble_eq_true rfl) dX13_count_92 ?_
          obtain rfl := Option.some.inj hf
          exact R_iretI rfl dX13_count_95
        · rw [if_neg hc3] at hf
          by_cases hc4 : x1 = 4
          · rw [if_pos hc4] at hf
            refine R_tswIn (tgt := 96) dX13_count_10 (by rw [hc4]; decide) (by rw [hc4]; decide) (by rw [hc4]; rfl) (by decide) ?_
            refine R_aload_n 0 dX13_count_96 rfl rfl ?_
            obtain ⟨u12, eu12, hf⟩ := Option.bind_eq_some_iff.mp hf
            obtain ⟨q13, eq13, hf⟩ := Option.bind_eq_some_iff.mp hf
            refine R_callV (mj := mi_X13_givenMany) (ci := 11) (q := (RX13, TX13, 24)) (As := []) (rest := []) (T_X13_givenMany eq13) eu12 rfl lV_X13_213 ⟨rfl, oky_X13_givenMany⟩ (by decide) (by decide) rfl C1_0 (Nat.le_of_ble_eq_true rfl) dX13_count_97 ?_
            obtain rfl := Option.some.inj hf
            exact R_iretI rfl dX13_count_100
          · rw [if_neg hc4] at hf
            by_cases hc5 : x1 = 5
            · rw [if_pos hc5] at hf
              refine R_tswIn (tgt := 101) dX13_count_10 (by rw [hc5]; decide) (by rw [hc5]; decide) (by rw [hc5]; rfl) (by decide) ?_
              refine R_aload_n 0 dX13_count_101 rfl rfl ?_
              obtain ⟨u14, eu14, hf⟩ := Option.bind_eq_some_iff.mp hf
              obtain ⟨q15, eq15, hf⟩ := Option.bind_eq_some_iff.mp hf
              refine R_callV (mj := mi_X13_shownMany) (ci := 11) (q := (RX13, TX13, 24)) (As := []) (rest := []) (T_X13_shownMany eq15) eu14 rfl lV_X13_222 ⟨rfl, oky_X13_shownMany⟩ (by decide) (by decide) rfl C1_0 (Nat.le_of_ble_eq_true rfl) dX13_count_102 ?_
              obtain rfl := Option.some.inj hf
              exact R_iretI rfl dX13_count_105
            · rw [if_neg hc5] at hf
              by_cases hc6 : x1 = 6
              · rw [if_pos hc6] at hf
                refine R_tswIn (tgt := 106) dX13_count_10 (by rw [hc6]; decide) (by rw [hc6]; decide) (by rw [hc6]; rfl) (by decide) ?_
                refine R_aload_n 0 dX13_count_106 rfl rfl ?_
                obtain ⟨t16, et16, hf⟩ := Option.bind_eq_some_iff.mp hf
                refine R_getr lg_X13_7 et16 dX13_count_107 ?_
                refine R_iconst dX13_count_110 k_iconst_2 ?_
                obtain ⟨t17, et17, hf⟩ := Option.bind_eq_some_iff.mp hf
                refine R_iaload et17 dX13_count_111 ?_
                obtain ⟨q18, eq18, hf⟩ := Option.bind_eq_some_iff.mp hf
                refine R_callS (mj := mi_X13_ones) (As := [.int t17]) (rest := []) (T_X13_ones eq18) lS_X13_142 oky_X13_ones (by decide) (by decide) rfl C1_0 (Nat.le_of_ble_eq_true rfl) dX13_count_112 ?_
                obtain rfl := Option.some.inj hf
                exact R_iretI rfl dX13_count_115
              · rw [if_neg hc6] at hf
                by_cases hc7 : x1 = 7
                · rw [if_pos hc7] at hf
                  refine R_tswIn (tgt := 116) dX13_count_10 (by rw [hc7]; decide) (by rw [hc7]; decide) (by rw [hc7]; rfl) (by decide) ?_
                  refine R_aload_n 0 dX13_count_116 rfl rfl ?_
                  obtain ⟨u19, eu19, hf⟩ := Option.bind_eq_some_iff.mp hf
                  obtain ⟨q20, eq20, hf⟩ := Option.bind_eq_some_iff.mp hf
                  refine R_callV (mj := mi_X13_possibleMany) (ci := 11) (q := (RX13, TX13, 24)) (As := []) (rest := []) (T_X13_possibleMany eq20) eu19 rfl lV_X13_243 ⟨rfl, oky_X13_possibleMany⟩ (by decide) (by decide) rfl C1_0 (Nat.le_of_ble_eq_true rfl) dX13_count_117 ?_
                  obtain rfl := Option.some.inj hf
                  exact R_iretI rfl dX13_count_120
                · rw [if_neg hc7] at hf
                  by_cases hc8 : x1 = 8
                  · rw [if_pos hc8] at hf
                    refine R_tswIn (tgt := 121) dX13_count_10 (by rw [hc8]; decide) (by rw [hc8]; decide) (by rw [hc8]; rfl) (by decide) ?_
                    refine R_aload_n 0 dX13_count_121 rfl rfl ?_
                    obtain ⟨u21, eu21, hf⟩ := Option.bind_eq_some_iff.mp hf
                    obtain ⟨q22, eq22, hf⟩ := Option.bind_eq_some_iff.mp hf
                    refine R_callV (mj := mi_X13_singleMany) (ci := 11) (q := (RX13, TX13, 24)) (As := []) (rest := []) (T_X13_singleMany eq22) eu21 rfl lV_X13_149 ⟨rfl, oky_X13_singleMany⟩ (by decide) (by decide) rfl C1_0 (Nat.le_of_ble_eq_true rfl) dX13_count_122 ?_
                    obtain rfl := Option.some.inj hf
                    exact R_iretI rfl dX13_count_125
                  · rw [if_neg hc8] at hf
                    by_cases hc9 : x1 = 9
                    · rw [if_pos hc9] at hf
                      refine R_tswIn (tgt := 126) dX13_count_10 (by rw [hc9]; decide) (by rw [hc9]; decide) (by rw [hc9]; rfl) (by decide) ?_
                      refine R_aload_n 0 dX13_count_126 rfl rfl ?_
                      obtain ⟨t23, et23, hf⟩ := Option.bind_eq_some_iff.mp hf
                      refine R_getr lg_X13_7 et23 dX13_count_127 ?_
                      refine R_bipush dX13_count_130 k_bipush_118 ?_
                      obtain ⟨t24, et24, hf⟩ := Option.bind_eq_some_iff.mp hf
                      refine R_iaload et24 dX13_count_132 ?_
                      refine R_aload_n 0 dX13_count_133 rfl rfl ?_
                      obtain ⟨t25, et25, hf⟩ := Option.bind_eq_some_iff.mp hf
                      refine R_getr lg_X13_7 et25 dX13_count_134 ?_
                      refine R_sipush dX13_count_137 k_sipush_237 ?_
                      obtain ⟨t26, et26, hf⟩ := Option.bind_eq_some_iff.mp hf
                      refine R_iaload et26 dX13_count_140 ?_
                      refine R_iadd dX13_count_141 ?_
                      obtain rfl := Option.some.inj hf
                      exact R_iretI rfl dX13_count_142
                    · rw [if_neg hc9] at hf
                      by_cases hc10 : x1 = 10
                      · rw [if_pos hc10] at hf
                        refine R_tswIn (tgt := 143) dX13_count_10 (by rw [hc10]; decide) (by rw [hc10]; decide) (by rw [hc10]; rfl) (by decide) ?_
                        refine R_aload_n 0 dX13_count_143 rfl rfl ?_
                        obtain ⟨t27, et27, hf⟩ := Option.bind_eq_some_iff.mp hf
                        refine R_geti lg_X13_58 et27 dX13_count_144 ?_
                        obtain rfl := Option.some.inj hf
                        exact R_iretI rfl dX13_count_147
                      · rw [if_neg hc10] at hf
                        by_cases hc11 : x1 = 11
                        · rw [if_pos hc11] at hf
                          refine R_tswIn (tgt := 148) dX13_count_10 (by rw [hc11]; decide) (by rw [hc11]; decide) (by rw [hc11]; rfl) (by decide) ?_
                          refine R_aload_n 0 dX13_count_148 rfl rfl ?_
                          obtain ⟨t28, et28, hf⟩ := Option.bind_eq_some_iff.mp hf
                          refine R_geti lg_X13_249 et28 dX13_count_149 ?_
                          obtain rfl := Option.some.inj hf
                          exact R_iretI rfl dX13_count_152
                        · rw [if_neg hc11] at hf
                          refine R_tswOut (tgt := 153) dX13_count_10 (by have := (⟨i32_ne hc0, i32_ne hc1, i32_ne hc2, i32_ne hc3, i32_ne hc4, i32_ne hc5, i32_ne hc6, i32_ne hc7, i32_ne hc8, i32_ne hc9, i32_ne hc10, i32_ne hc11, trivial⟩ : x1.toInt ≠ 0 ∧ x1.toInt ≠ 1 ∧ x1.toInt ≠ 2 ∧ x1.toInt ≠ 3 ∧ x1.toInt ≠ 4 ∧ x1.toInt ≠ 5 ∧ x1.toInt ≠ 6 ∧ x1.toInt ≠ 7 ∧ x1.toInt ≠ 8 ∧ x1.toInt ≠ 9 ∧ x1.toInt ≠ 10 ∧ x1.toInt ≠ 11 ∧ True); omega) (by decide) ?_
                          refine R_iconst dX13_count_153 k_iconst_m1 ?_
                          obtain rfl := Option.some.inj hf
                          exact R_iretI rfl dX13_count_154
abbrev mi_X13_strangers : MI := (RX13, yX13_strangers, cX13_strangers, 4, (some FieldType.int), 2)
noncomputable def f_X13_strangers_L4  : Nat → Option Nat → Int32 → Int32 → Int32 → PH → Option (Int32 × PH)
  | 0, _, _, _, _, _ => none
  | k + 1, x0, x1, x2, x3, h => (rcv 11 x0 h).bind (fun u1 => (f_X13_cells x0 h).bind (fun q2 => if q2.1 ≤ x3 then (some (x2, q2.2)) else ((rcv 11 x0 q2.2).bind (fun u3 => (f_X13_areNeighbors x0 x1 x3 q2.2).bind (fun q4 => if q4.1 = 0 then ((f_X13_strangers_L4 k) x0 x1 (x2 + 0) (x3 + 1) q4.2) else ((rcv 11 x0 q4.2).bind (fun u5 => (f_X13_blockOf x0 x3 q4.2).bind (fun q6 => (rcv 11 x0 q6.2).bind (fun u7 => (f_X13_blockOf x0 x1 q6.2).bind (fun q8 => if q6.1 = q8.1 then ((f_X13_strangers_L4 k) x0 x1 (x2 + 0) (x3 + 1) q8.2) else ((f_X13_strangers_L4 k) x0 x1 (x2 + 1) (x3 + 1) q8.2)))))))))))
theorem f_X13_strangers_L4_ok {K : KT} {h0 : PH} {a0 : List Value} {q : (Int32 × PH)}  : ∀ (k : Nat) (x0 : Option Nat) (x1 : Int32) (x2 : Int32) (x3 : Int32) (h : PH), f_X13_strangers_L4  k x0 x1 x2 x3 h = some q → R K mi_X13_strangers h0 a0 (.inl (some (.int q.1))) q.2 4 [(0, va_rf x0), (1, .int x1), (2, .int x2), (3, .int x3)] [] h := by
  intro k
  induction k with
  | zero => intro _ _ _ _ _ hf; cases hf
  | succ k ih =>
    intro x0 x1 x2 x3 h hf
    unfold f_X13_strangers_L4 at hf
    refine R_iload_n 3 dX13_strangers_4 rfl rfl ?_
    refine R_aload_n 0 dX13_strangers_5 rfl rfl ?_
    obtain ⟨u1, eu1, hf⟩ := Option.bind_eq_some_iff.mp hf
    obtain ⟨q2, eq2, hf⟩ := Option.bind_eq_some_iff.mp hf
    refine R_callV (mj := mi_X13_cells) (ci := 11) (q := (RX13, TX13, 24)) (As := []) (rest := [.int x3]) (T_X13_cells eq2) eu1 rfl lV_X13_61 ⟨rfl, oky_X13_cells⟩ (by decide) (by decide) rfl (C1_i C1_0) (Nat.le_of_ble_eq_true rfl) dX13_strangers_6 ?_
    refine R_icge (tgt := 48) dX13_strangers_9 (by decide) (fun hc => ?_) (fun hc => ?_)
    · rw [if_pos hc] at hf
      refine R_iload_n 2 dX13_strangers_48 rfl rfl ?_
      obtain rfl := Option.some.inj hf
      exact R_iretI rfl dX13_strangers_49
    · rw [if_neg hc] at hf
      refine R_iload_n 2 dX13_strangers_12 rfl rfl ?_
      refine R_aload_n 0 dX13_strangers_13 rfl rfl ?_
      refine R_iload_n 1 dX13_strangers_14 rfl rfl ?_
      refine R_iload_n 3 dX13_strangers_15 rfl rfl ?_
      obtain ⟨u3, eu3, hf⟩ := Option.bind_eq_some_iff.mp hf
      obtain ⟨q4, eq4, hf⟩ := Option.bind_eq_some_iff.mp hf
      refine R_callV (mj := mi_X13_areNeighbors) (ci := 11) (q := (RX13, TX13, 24)) (As := [.int x1, .int x3]) (rest := [.int x2]) (T_X13_areNeighbors eq4) eu3 rfl lV_X13_83 ⟨rfl, oky_X13_areNeighbors⟩ (by decide) (by decide) rfl (C1_i C1_0) (Nat.le_of_ble_eq_true rfl) dX13_strangers_16 ?_
      refine R_ifeq (tgt := 39) dX13_strangers_19 (by decide) (fun hc => ?_) (fun hc => ?_)
      · rw [if_pos hc] at hf
        refine R_iconst dX13_strangers_39 k_iconst_0 ?_
        refine R_iadd dX13_strangers_40 ?_
        refine R_istore_n (L' := [(2, .int (x2 + 0)), (0, va_rf x0), (1, .int x1), (3, .int x3)]) dX13_strangers_41 rfl (by decide) rfl ?_
        refine R_iinc (L' := [(3, .int (x3 + 1)), (2, .int (x2 + 0)), (0, va_rf x0), (1, .int x1)]) 3 dX13_strangers_42 rfl (k_inc_1 _) (by decide) rfl ?_
        refine R_goto (tgt := 4) dX13_strangers_45 (by decide) ?_
        refine R.sub [2, 3, 1, 0] (L' := [(0, va_rf x0), (1, .int x1), (2, .int (x2 + 0)), (3, .int (x3 + 1))]) rfl ?_
        exact ih x0 x1 (x2 + 0) (x3 + 1) q4.2 hf
      · rw [if_neg hc] at hf
        refine R_aload_n 0 dX13_strangers_22 rfl rfl ?_
        refine R_iload_n 3 dX13_strangers_23 rfl rfl ?_
        obtain ⟨u5, eu5, hf⟩ := Option.bind_eq_some_iff.mp hf
        obtain ⟨q6, eq6, hf⟩ := Option.bind_eq_some_iff.mp hf
        refine R_callV (mj := mi_X13_blockOf) (ci := 11) (q := (RX13, TX13, 24)) (As := [.int x3]) (rest := [.int x2]) (T_X13_blockOf eq6) eu5 rfl lV_X13_72 ⟨rfl, oky_X13_blockOf⟩ (by decide) (by decide) rfl (C1_i C1_0) (Nat.le_of_ble_eq_true rfl) dX13_strangers_24 ?_
        refine R_aload_n 0 dX13_strangers_27 rfl rfl ?_
        refine R_iload_n 1 dX13_strangers_28 rfl rfl ?_
        obtain ⟨u7, eu7, hf⟩ := Option.bind_eq_some_iff.mp hf
        obtain ⟨q8, eq8, hf⟩ := Option.bind_eq_some_iff.mp hf
        refine R_callV (mj := mi_X13_blockOf) (ci := 11) (q := (RX13, TX13, 24)) (As := [.int x1]) (rest := [.int q6.1, .int x2]) (T_X13_blockOf eq8) eu7 rfl lV_X13_72 ⟨rfl, oky_X13_blockOf⟩ (by decide) (by decide) rfl (C1_i (C1_i C1_0)) (Nat.le_of_ble_eq_true rfl) dX13_strangers_29 ?_
        refine R_iceq (tgt := 39) dX13_strangers_32 (by decide) (fun hc => ?_) (fun hc => ?_)
        · rw [if_pos hc] at hf
          refine R_iconst dX13_strangers_39 k_iconst_0 ?_
          refine R_iadd dX13_strangers_40 ?_
          refine R_istore_n (L' := [(2, .int (x2 + 0)), (0, va_rf x0), (1, .int x1), (3, .int x3)]) dX13_strangers_41 rfl (by decide) rfl ?_
          refine R_iinc (L' := [(3, .int (x3 + 1)), (2, .int (x2 + 0)), (0, va_rf x0), (1, .int x1)]) 3 dX13_strangers_42 rfl (k_inc_1 _) (by decide) rfl ?_
          refine R_goto (tgt := 4) dX13_strangers_45 (by decide) ?_
          refine R.sub [2, 3, 1, 0] (L' := [(0, va_rf x0), (1, .int x1), (2, .int (x2 + 0)), (3, .int (x3 + 1))]) rfl ?_
          exact ih x0 x1 (x2 + 0) (x3 + 1) q8.2 hf
        · rw [if_neg hc] at hf
          refine R_iconst dX13_strangers_35 k_iconst_1 ?_
          refine R_goto (tgt := 40) dX13_strangers_36 (by decide) ?_
          refine R_iadd dX13_strangers_40 ?_
          refine R_istore_n (L' := [(2, .int (x2 + 1)), (0, va_rf x0), (1, .int x1), (3, .int x3)]) dX13_strangers_41 rfl (by decide) rfl ?_
          refine R_iinc (L' := [(3, .int (x3 + 1)), (2, .int (x2 + 1)), (0, va_rf x0), (1, .int x1)]) 3 dX13_strangers_42 rfl (k_inc_1 _) (by decide) rfl ?_
          refine R_goto (tgt := 4) dX13_strangers_45 (by decide) ?_
          refine R.sub [2, 3, 1, 0] (L' := [(0, va_rf x0), (1, .int x1), (2, .int (x2 + 1)), (3, .int (x3 + 1))]) rfl ?_
          exact ih x0 x1 (x2 + 1) (x3 + 1) q8.2 hf
noncomputable def f_X13_strangers (x0 : Option Nat) (x1 : Int32) (h : PH) : Option (Int32 × PH) := f_X13_strangers_L4  FU x0 x1 0 0 h
theorem T_X13_strangers {K : KT} {x0 : Option Nat} {x1 : Int32} {h : PH} {q : (Int32 × PH)} (hf : f_X13_strangers x0 x1 h = some q) : T K mi_X13_strangers [va_rf x0, .int x1] h (.inl (some (.int q.1))) q.2 := by
  unfold f_X13_strangers at hf
  refine T_of (by decide +kernel) rfl (C1_r (C1_i C1_0)) (Nat.le_of_ble_eq_true rfl) ?_
  show R K mi_X13_strangers h [va_rf x0, .int x1] _ _ 0 [(0, va_rf x0), (1, .int x1)] [] h
  refine R_iconst dX13_strangers_0 k_iconst_0 ?_
  refine R_istore_n (L' := [(2, .int 0), (0, va_rf x0), (1, .int x1)]) dX13_strangers_1 rfl (by decide) rfl ?_
  refine R_iconst dX13_strangers_2 k_iconst_0 ?_
  refine R_istore_n (L' := [(3, .int 0), (2, .int 0), (0, va_rf x0), (1, .int x1)]) dX13_strangers_3 rfl (by decide) rfl ?_
  refine R.sub [2, 3, 1, 0] (L' := [(0, va_rf x0), (1, .int x1), (2, .int 0), (3, .int 0)]) rfl ?_
  exact f_X13_strangers_L4_ok  FU x0 x1 0 0 h hf
theorem lV_X13_320 : GoodIn lw_all (wsV "EdgeSumsModel" 320 "EdgeSumsModel" yX13_strangers (ws_ yX13_strangers cX13_strangers 4 (some FieldType.int))) := lw_V q3083 q3085 qs115 q158 q3086
theorem oky_X13_strangers : okY yX13_strangers 1 := ⟨by decide +kernel, by decide +kernel, by decide +kernel⟩
abbrev mi_X13_cell : MI := (RX13, yX13_cell, cX13_cell, 3, (some FieldType.int), 3)
noncomputable def f_X13_cell (x0 : Option Nat) (x1 : Int32) (x2 : Int32) (h : PH) : Option (Int32 × PH) := (pf 11 0 x0 (.int 0) h).bind (fun h1 => (rcv 11 x0 h1).bind (fun u2 => (f_X13_isCell x0 x1 h1).bind (fun q3 => if q3.1 = 0 then (some ((-1), q3.2)) else (if x2 = 0 then ((rcv 11 x0 q3.2).bind (fun u4 => (f_X13_blockOf x0 x1 q3.2).bind (fun q5 => some (q5.1, q5.2)))) else (if x2 = 1 then ((rcv 11 x0 q3.2).bind (fun u6 => (f_X13_numberOf x0 x1 q3.2).bind (fun q7 => some (q7.1, q7.2)))) else (if x2 = 2 then ((gfr 11 1 x0 q3.2).bind (fun t8 => (ald 0 t8 (58 + x1) q3.2).bind (fun t9 => some (t9, q3.2)))) else (if x2 = 3 then ((gfr 11 1 x0 q3.2).bind (fun t10 => (ald 0 t10 (93 + x1) q3.2).bind (fun t11 => (f_X13_ones t11 q3.2).bind (fun q12 => some (q12.1, q12.2))))) else (if x2 = 4 then ((gfr 11 1 x0 q3.2).bind (fun t13 => (ald 0 t13 (93 + x1) q3.2).bind (fun t14 => (f_X13_ones t14 q3.2).bind (fun q15 => if q15.1 = 1 then ((gfr 11 1 x0 q15.2).bind (fun t16 => (ald 0 t16 (93 + x1) q15.2).bind (fun t17 => (f_X13_lowest t17 q15.2).bind (fun q18 => some (q18.1, q18.2))))) else (some ((-99), q15.2)))))) else (if x2 = 5 then ((rcv 11 x0 q3.2).bind (fun u19 => (f_X13_strangers x0 x1 q3.2).bind (fun q20 => some (q20.1, q20.2)))) else (some ((-1), q3.2)))))))))))
theorem T_X13_cell {K : KT} {x0 : Option Nat} {x1 : Int32} {x2 : Int32} {h : PH} {q : (Int32 × PH)} (hf : f_X13_cell x0 x1 x2 h = some q) : T K mi_X13_cell [va_rf x0, .int x1, .int x2] h (.inl (some (.int q.1))) q.2 := by
  unfold f_X13_cell at hf
  refine T_of (by decide +kernel) rfl (C1_r (C1_i (C1_i C1_0))) (Nat.le_of_ble_eq_true rfl) ?_
  show R K mi_X13_cell h [va_rf x0, .int x1, .int x2] _ _ 0 [(0, va_rf x0), (1, .int x1), (2, .int x2)] [] h
  refine R_aload_n 0 dX13_cell_0 rfl rfl ?_
  refine R_iconst dX13_cell_1 k_iconst_0 ?_
  obtain ⟨h1, eh1, hf⟩ := Option.bind_eq_some_iff.mp hf
  refine R_putI (fp_X13_43 rfl) eh1 dX13_cell_2 ?_
  refine R_aload_n 0 dX13_cell_5 rfl rfl ?_
  refine R_iload_n 1 dX13_cell_6 rfl rfl ?_
  obtain ⟨u2, eu2, hf⟩ := Option.bind_eq_some_iff.mp hf
  obtain ⟨q3, eq3, hf⟩ := Option.bind_eq_some_iff.mp hf
  refine R_callV (mj := mi_X13_isCell) (ci := 11) (q := (RX13, TX13, 24)) (As := [.int x1]) (rest := []) (T_X13_isCell eq3) eu2 rfl lV_X13_108 ⟨rfl, oky_X13_isCell⟩ (by decide) (by decide) rfl C1_0 (Nat.le_of_ble_eq_true rfl) dX13_cell_7 ?_
  refine R_ifne (tgt := 15) dX13_cell_10 (by decide) (fun hc => ?_) (fun hc => ?_)
  · rw [if_pos hc] at hf
    refine R_iconst dX13_cell_13 k_iconst_m1 ?_
    obtain rfl := Option.some.inj hf
    exact R_iretI rfl dX13_cell_14
  · rw [if_neg hc] at hf
    refine R_iload_n 2 dX13_cell_15 rfl rfl ?_
    by_cases hc0 : x2 = 0
    · rw [if_pos hc0] at hf
      refine R_tswIn (tgt := 56) dX13_cell_16 (by rw [hc0]; decide) (by rw [hc0]; decide) (by rw [hc0]; rfl) (by decide) ?_
      refine R_aload_n 0 dX13_cell_56 rfl rfl ?_
      refine R_iload_n 1 dX13_cell_57 rfl rfl ?_
      obtain ⟨u4, eu4, hf⟩ := Option.bind_eq_some_iff.mp hf
      obtain ⟨q5, eq5, hf⟩ := Option.bind_eq_some_iff.mp hf
      refine R_callV (mj := mi_X13_blockOf) (ci := 11) (q := (RX13, TX13, 24)) (As := [.int x1]) (rest := []) (T_X13_blockOf eq5) eu4 rfl lV_X13_72 ⟨rfl, oky_X13_blockOf⟩ (by decide) (by decide) rfl C1_0 (Nat.le_of_ble_eq_true rfl) dX13_cell_58 ?_
      obtain rfl := Option.some.inj hf
      exact R_iretI rfl dX13_cell_61
    · rw [if_neg hc0] at hf
      by_cases hc1 : x2 = 1
      · rw [if_pos hc1] at hf
        refine R_tswIn (tgt := 62) dX13_cell_16 (by rw [hc1]; decide) (by rw [hc1]; decide) (by rw [hc1]; rfl) (by decide) ?_
        refine R_aload_n 0 dX13_cell_62 rfl rfl ?_
        refine R_iload_n 1 dX13_cell_63 rfl rfl ?_
        obtain ⟨u6, eu6, hf⟩ := Option.bind_eq_some_iff.mp hf
        obtain ⟨q7, eq7, hf⟩ := Option.bind_eq_some_iff.mp hf
        refine R_callV (mj := mi_X13_numberOf) (ci := 11) (q := (RX13, TX13, 24)) (As := [.int x1]) (rest := []) (T_X13_numberOf eq7) eu6 rfl lV_X13_99 ⟨rfl, oky_X13_numberOf⟩ (by decide) (by decide) rfl C1_0 (Nat.le_of_ble_eq_true rfl) dX13_cell_64 ?_
        obtain rfl := Option.some.inj hf
        exact R_iretI rfl dX13_cell_67
      · rw [if_neg hc1] at hf
        by_cases hc2 : x2 = 2
        · rw [if_pos hc2] at hf
          refine R_tswIn (tgt := 68) dX13_cell_16 (by rw [hc2]; decide) (by rw [hc2]; decide) (by rw [hc2]; rfl) (by decide) ?_
          refine R_aload_n 0 dX13_cell_68 rfl rfl ?_
          obtain ⟨t8, et8, hf⟩ := Option.bind_eq_some_iff.mp hf
          refine R_getr lg_X13_7 et8 dX13_cell_69 ?_
          refine R_bipush dX13_cell_72 k_bipush_58 ?_
          refine R_iload_n 1 dX13_cell_74 rfl rfl ?_
          refine R_iadd dX13_cell_75 ?_
          obtain ⟨t9, et9, hf⟩ := Option.bind_eq_some_iff.mp hf
          refine R_iaload et9 dX13_cell_76 ?_
          obtain rfl := Option.some.inj hf
          exact R_iretI rfl dX13_cell_77
        · rw [if_neg hc2] at hf
          by_cases hc3 : x2 = 3
          · rw [if_pos hc3] at hf
            refine R_tswIn (tgt := 78) dX13_cell_16 (by rw [hc3]; decide) (by rw [hc3]; decide) (by rw [hc3]; rfl) (by decide) ?_
            refine R_aload_n 0 dX13_cell_78 rfl rfl ?_
            obtain ⟨t10, et10, hf⟩ := Option.bind_eq_some_iff.mp hf
            refine R_getr lg_X13_7 et10 dX13_cell_79 ?_
            refine R_bipush dX13_cell_82 k_bipush_93 ?_
            refine R_iload_n 1 dX13_cell_84 rfl rfl ?_
            refine R_iadd dX13_cell_85 ?_
            obtain ⟨t11, et11, hf⟩ := Option.bind_eq_some_iff.mp hf
            refine R_iaload et11 dX13_cell_86 ?_
            obtain ⟨q12, eq12, hf⟩ := Option.bind_eq_some_iff.mp hf
            refine R_callS (mj := mi_X13_ones) (As := [.int t11]) (rest := []) (T_X13_ones eq12) lS_X13_142 oky_X13_ones (by decide) (by decide) rfl C1_0 (Nat.le_of_ble_eq_true rfl) dX13_cell_87 ?_
            obtain rfl := Option.some.inj hf
            exact R_iretI rfl dX13_cell_90
          · rw [if_neg hc3] at hf
            by_cases hc4 : x2 = 4
            · rw [if_pos hc4] at hf
              refine R_tswIn (tgt := 91) dX13_cell_16 (by rw [hc4]; decide) (by rw [hc4]; decide) (by rw [hc4]; rfl) (by decide) ?_
              refine R_aload_n 0 dX13_cell_91 rfl rfl ?_
              obtain ⟨t13, et13, hf⟩ := Option.bind_eq_some_iff.mp hf
              refine R_getr lg_X13_7 et13 dX13_cell_92 ?_
              refine R_bipush dX13_cell_95 k_bipush_93 ?_
              refine R_iload_n 1 dX13_cell_97 rfl rfl ?_
              refine R_iadd dX13_cell_98 ?_
              obtain ⟨t14, et14, hf⟩ := Option.bind_eq_some_iff.mp hf
              refine R_iaload et14 dX13_cell_99 ?_
              obtain ⟨q15, eq15, hf⟩ := Option.bind_eq_some_iff.mp hf
              refine R_callS (mj := mi_X13_ones) (As := [.int t14]) (rest := []) (T_X13_ones eq15) lS_X13_142 oky_X13_ones (by decide) (by decide) rfl C1_0 (Nat.le_of_ble_eq_true rfl) dX13_cell_100 ?_
              refine R_iconst dX13_cell_103 k_iconst_1 ?_
              refine R_icne (tgt := 122) dX13_cell_104 (by decide) (fun hc => ?_) (fun hc => ?_)
              · rw [if_pos hc] at hf
                refine R_aload_n 0 dX13_cell_107 rfl rfl ?_
                obtain ⟨t16, et16, hf⟩ := Option.bind_eq_some_iff.mp hf
                refine R_getr lg_X13_7 et16 dX13_cell_108 ?_
                refine R_bipush dX13_cell_111 k_bipush_93 ?_
                refine R_iload_n 1 dX13_cell_113 rfl rfl ?_
                refine R_iadd dX13_cell_114 ?_
                obtain ⟨t17, et17, hf⟩ := Option.bind_eq_some_iff.mp hf
                refine R_iaload et17 dX13_cell_115 ?_
                obtain ⟨q18, eq18, hf⟩ := Option.bind_eq_some_iff.mp hf
                refine R_callS (mj := mi_X13_lowest) (As := [.int t17]) (rest := []) (T_X13_lowest eq18) lS_X13_152 oky_X13_lowest (by decide) (by decide) rfl C1_0 (Nat.le_of_ble_eq_true rfl) dX13_cell_116 ?_
                refine R_goto (tgt := 124) dX13_cell_119 (by decide) ?_
                obtain rfl := Option.some.inj hf
                exact R_iretI rfl dX13_cell_124
              · rw [if_neg hc] at hf
                refine R_bipush dX13_cell_122 k_bipush_m99 ?_
                obtain rfl := Option.some.inj hf
                exact R_iretI rfl dX13_cell_124
            · rw [if_neg hc4] at hf
              by_cases hc5 : x2 = 5
              · rw [if_pos hc5] at hf
                refine R_tswIn (tgt := 125) dX13_cell_16 (by rw [hc5]; decide) (by rw [hc5]; decide) (by rw [hc5]; rfl) (by decide) ?_
                refine R_aload_n 0 dX13_cell_125 rfl rfl ?_
                refine R_iload_n 1 dX13_cell_126 rfl rfl ?_
                obtain ⟨u19, eu19, hf⟩ := Option.bind_eq_some_iff.mp hf
                obtain ⟨q20, eq20, hf⟩ := Option.bind_eq_some_iff.mp hf
                refine R_callV (mj := mi_X13_strangers) (ci := 11) (q := (RX13, TX13, 24)) (As := [.int x1]) (rest := []) (T_X13_strangers eq20) eu19 rfl lV_X13_320 ⟨rfl, oky_X13_strangers⟩ (by decide) (by decide) rfl C1_0 (Nat.le_of_ble_eq_true rfl) dX13_cell_127 ?_
                obtain rfl := Option.some.inj hf
                exact R_iretI rfl dX13_cell_130
              · rw [if_neg hc5] at hf
                refine R_tswOut (tgt := 131) dX13_cell_16 (by have := (⟨i32_ne hc0, i32_ne hc1, i32_ne hc2, i32_ne hc3, i32_ne hc4, i32_ne hc5, trivial⟩ : x2.toInt ≠ 0 ∧ x2.toInt ≠ 1 ∧ x2.toInt ≠ 2 ∧ x2.toInt ≠ 3 ∧ x2.toInt ≠ 4 ∧ x2.toInt ≠ 5 ∧ True); omega) (by decide) ?_
                refine R_iconst dX13_cell_131 k_iconst_m1 ?_
                obtain rfl := Option.some.inj hf
                exact R_iretI rfl dX13_cell_132
abbrev mi_X13_line : MI := (RX13, yX13_line, cX13_line, 4, (some FieldType.int), 3)
noncomputable def f_X13_line (x0 : Option Nat) (x1 : Int32) (x2 : Int32) (h : PH) : Option (Int32 × PH) := (pf 11 0 x0 (.int 0) h).bind (fun h1 => (rcv 11 x0 h1).bind (fun u2 => (f_X13_isLine x0 x1 h1).bind (fun q3 => if q3.1 = 0 then (some ((-1), q3.2)) else ((f_X13_in x2 0 4 q3.2).bind (fun q4 => if q4.1 = 0 then (some ((-1), q4.2)) else (if 2 ≤ x2 then ((rcv 11 x0 q4.2).bind (fun u5 => (f_X13_layPlayers x0 q4.2).bind (fun h6 => (rcv 11 x0 h6).bind (fun u7 => (f_X13_sumsOf x0 x1 (-1) h6).bind (fun q8 => if q8.1 = 0 then (if x2 = 4 then (some (0, q8.2)) else (some ((-99), q8.2))) else (if x2 = 2 then ((f_X13_lowest q8.1 q8.2).bind (fun q9 => some (q9.1, q9.2))) else (if x2 = 3 then ((f_X13_highest q8.1 q8.2).bind (fun q10 => some (q10.1, q10.2))) else ((f_X13_ones q8.1 q8.2).bind (fun q11 => some (q11.1, q11.2)))))))))) else (if x2 = 0 then ((rcv 11 x0 q4.2).bind (fun u12 => (f_X13_sumOf x0 x1 q4.2).bind (fun q13 => some (q13.1, q13.2)))) else ((gfr 11 1 x0 q4.2).bind (fun t14 => (ald 0 t14 (83 + x1) q4.2).bind (fun t15 => some (t15, q4.2)))))))))))
theorem T_X13_line {K : KT} {x0 : Option Nat} {x1 : Int32} {x2 : Int32} {h : PH} {q : (Int32 × PH)} (hf : f_X13_line x0 x1 x2 h = some q) : T K mi_X13_line [va_rf x0, .int x1, .int x2] h (.inl (some (.int q.1))) q.2 := by
  unfold f_X13_line at hf
  refine T_of (by decide +kernel) rfl (C1_r (C1_i (C1_i C1_0))) (Nat.le_of_ble_eq_true rfl) ?_
  show R K mi_X13_line h [va_rf x0, .int x1, .int x2] _ _ 0 [(0, va_rf x0), (1, .int x1), (2, .int x2)] [] h
  refine R_aload_n 0 dX13_line_0 rfl rfl ?_
  refine R_iconst dX13_line_1 k_iconst_0 ?_
  obtain ⟨h1, eh1, hf⟩ := Option.bind_eq_some_iff.mp hf
  refine R_putI (fp_X13_43 rfl) eh1 dX13_line_2 ?_
  refine R_aload_n 0 dX13_line_5 rfl rfl ?_
  refine R_iload_n 1 dX13_line_6 rfl rfl ?_
  obtain ⟨u2, eu2, hf⟩ := Option.bind_eq_some_iff.mp hf
  obtain ⟨q3, eq3, hf⟩ := Option.bind_eq_some_iff.mp hf
  refine R_callV (mj := mi_X13_isLine) (ci := 11) (q := (RX13, TX13, 24)) (As := [.int x1]) (rest := []) (T_X13_isLine eq3) eu2 rfl lV_X13_216 ⟨rfl, oky_X13_isLine⟩ (by decide) (by decide) rfl C1_0 (Nat.le_of_ble_eq_true rfl) dX13_line_7 ?_
  refine R_ifeq (tgt := 22) dX13_line_10 (by decide) (fun hc => ?_) (fun hc => ?_)
  · rw [if_pos hc] at hf
    refine R_iconst dX13_line_22 k_iconst_m1 ?_
    obtain rfl := Option.some.inj hf
    exact R_iretI rfl dX13_line_23
  · rw [if_neg hc] at hf
    refine R_iload_n 2 dX13_line_13 rfl rfl ?_
    refine R_iconst dX13_line_14 k_iconst_0 ?_
    refine R_iconst dX13_line_15 k_iconst_4 ?_
    obtain ⟨q4, eq4, hf⟩ := Option.bind_eq_some_iff.mp hf
    refine R_callS (mj := mi_X13_in) (As := [.int x2, .int 0, .int 4]) (rest := []) (T_X13_in eq4) lS_X13_65 oky_X13_in (by decide) (by decide) rfl C1_0 (Nat.le_of_ble_eq_true rfl) dX13_line_16 ?_
    refine R_ifne (tgt := 24) dX13_line_19 (by decide) (fun hc => ?_) (fun hc => ?_)
    · rw [if_pos hc] at hf
      refine R_iconst dX13_line_22 k_iconst_m1 ?_
      obtain rfl := Option.some.inj hf
      exact R_iretI rfl dX13_line_23
    · rw [if_neg hc] at hf
      refine R_iload_n 2 dX13_line_24 rfl rfl ?_
      refine R_iconst dX13_line_25 k_iconst_2 ?_
      refine R_icge (tgt := 51) dX13_line_26 (by decide) (fun hc => ?_) (fun hc => ?_)
      · rw [if_pos hc] at hf
        refine R_aload_n 0 dX13_line_51 rfl rfl ?_
        obtain ⟨u5, eu5, hf⟩ := Option.bind_eq_some_iff.mp hf
        obtain ⟨h6, eh6, hf⟩ := Option.bind_eq_some_iff.mp hf
        refine R_callV (mj := mi_X13_layPlayers) (ci := 11) (q := (RX13, TX13, 24)) (As := []) (rest := []) (T_X13_layPlayers eh6) eu5 rfl lV_X13_237 ⟨rfl, oky_X13_layPlayers⟩ (by decide) (by decide) rfl C1_0 (Nat.le_of_ble_eq_true rfl) dX13_line_52 ?_
        refine R_aload_n 0 dX13_line_55 rfl rfl ?_
        refine R_iload_n 1 dX13_line_56 rfl rfl ?_
        refine R_iconst dX13_line_57 k_iconst_m1 ?_
        obtain ⟨u7, eu7, hf⟩ := Option.bind_eq_some_iff.mp hf
        obtain ⟨q8, eq8, hf⟩ := Option.bind_eq_some_iff.mp hf
        refine R_callV (mj := mi_X13_sumsOf) (ci := 11) (q := (RX13, TX13, 24)) (As := [.int x1, .int (-1)]) (rest := []) (T_X13_sumsOf eq8) eu7 rfl lV_X13_161 ⟨rfl, oky_X13_sumsOf⟩ (by decide) (by decide) rfl C1_0 (Nat.le_of_ble_eq_true rfl) dX13_line_58 ?_
        refine R_istore_n (L' := [(3, .int q8.1), (0, va_rf x0), (1, .int x1), (2, .int x2)]) dX13_line_61 rfl (by decide) rfl ?_
        refine R_iload_n 0 dX13_line_62 rfl rfl ?_
        refine R_ifne (tgt := 78) dX13_line_63 (by decide) (fun hc => ?_) (fun hc => ?_)
        · rw [if_pos hc] at hf
          refine R_iload_n 3 dX13_line_66 rfl rfl ?_
          refine R_iconst dX13_line_67 k_iconst_4 ?_
          refine R_icne (tgt := 75) dX13_line_68 (by decide) (fun hc => ?_) (fun hc => ?_)
          · rw [if_pos hc] at hf
            refine R_iconst dX13_line_71 k_iconst_0 ?_
            refine R_goto (tgt := 77) dX13_line_72 (by decide) ?_
            obtain rfl := Option.some.inj hf
            exact R_iretI rfl dX13_line_77
          · rw [if_neg hc] at hf
            refine R_bipush dX13_line_75 k_bipush_m99 ?_
            obtain rfl := Option.some.inj hf
            exact R_iretI rfl dX13_line_77
        · rw [if_neg hc] at hf
          refine R_iload_n 3 dX13_line_78 rfl rfl ?_
          refine R_iconst dX13_line_79 k_iconst_2 ?_
          refine R_icne (tgt := 90) dX13_line_80 (by decide) (fun hc => ?_) (fun hc => ?_)
          · rw [if_pos hc] at hf
            refine R_iload_n 0 dX13_line_83 rfl rfl ?_
            obtain ⟨q9, eq9, hf⟩ := Option.bind_eq_some_iff.mp hf
            refine R_callS (mj := mi_X13_lowest) (As := [.int q8.1]) (rest := []) (T_X13_lowest eq9) lS_X13_152 oky_X13_lowest (by decide) (by decide) rfl C1_0 (Nat.le_of_ble_eq_true rfl) dX13_line_84 ?_
            refine R_goto (tgt := 106) dX13_line_87 (by decide) ?_
            obtain rfl := Option.some.inj hf
            exact R_iretI rfl dX13_line_106
          · rw [if_neg hc] at hf
            refine R_iload_n 3 dX13_line_90 rfl rfl ?_
            refine R_iconst dX13_line_91 k_iconst_3 ?_
            refine R_icne (tgt := 102) dX13_line_92 (by decide) (fun hc => ?_) (fun hc => ?_)
            · rw [if_pos hc] at hf
              refine R_iload_n 0 dX13_line_95 rfl rfl ?_
              obtain ⟨q10, eq10, hf⟩ := Option.bind_eq_some_iff.mp hf
              refine R_callS (mj := mi_X13_highest) (As := [.int q8.1]) (rest := []) (T_X13_highest eq10) lS_X13_155 oky_X13_highest (by decide) (by decide) rfl C1_0 (Nat.le_of_ble_eq_true rfl) dX13_line_96 ?_
              refine R_goto (tgt := 106) dX13_line_99 (by decide) ?_
              obtain rfl := Option.some.inj hf
              exact R_iretI rfl dX13_line_106
            · rw [if_neg hc] at hf
              refine R_iload_n 0 dX13_line_102 rfl rfl ?_
              obtain ⟨q11, eq11, hf⟩ := Option.bind_eq_some_iff.mp hf
              refine R_callS (mj := mi_X13_ones) (As := [.int q8.1]) (rest := []) (T_X13_ones eq11) lS_X13_142 oky_X13_ones (by decide) (by decide) rfl C1_0 (Nat.le_of_ble_eq_true rfl) dX13_line_103 ?_
              obtain rfl := Option.some.inj hf
              exact R_iretI rfl dX13_line_106
      · rw [if_neg hc] at hf
        refine R_iload_n 2 dX13_line_29 rfl rfl ?_
        refine R_ifne (tgt := 41) dX13_line_30 (by decide) (fun hc => ?_) (fun hc => ?_)
        · rw [if_pos hc] at hf
          refine R_aload_n 0 dX13_line_33 rfl rfl ?_
          refine R_iload_n 1 dX13_line_34 rfl rfl ?_
          obtain ⟨u12, eu12, hf⟩ := Option.bind_eq_some_iff.mp hf
          obtain ⟨q13, eq13, hf⟩ := Option.bind_eq_some_iff.mp hf
          refine R_callV (mj := mi_X13_sumOf) (ci := 11) (q := (RX13, TX13, 24)) (As := [.int x1]) (rest := []) (T_X13_sumOf eq13) eu12 rfl lV_X13_158 ⟨rfl, oky_X13_sumOf⟩ (by decide) (by decide) rfl C1_0 (Nat.le_of_ble_eq_true rfl) dX13_line_35 ?_
          refine R_goto (tgt := 50) dX13_line_38 (by decide) ?_
          obtain rfl := Option.some.inj hf
          exact R_iretI rfl dX13_line_50
        · rw [if_neg hc] at hf
          refine R_aload_n 0 dX13_line_41 rfl rfl ?_
          obtain ⟨t14, et14, hf⟩ := Option.bind_eq_some_iff.mp hf
          refine R_getr lg_X13_7 et14 dX13_line_42 ?_
          refine R_bipush dX13_line_45 k_bipush_83 ?_
          refine R_iload_n 1 dX13_line_47 rfl rfl ?_
          refine R_iadd dX13_line_48 ?_
          obtain ⟨t15, et15, hf⟩ := Option.bind_eq_some_iff.mp hf
          refine R_iaload et15 dX13_line_49 ?_
          obtain rfl := Option.some.inj hf
          exact R_iretI rfl dX13_line_50
abbrev mi_X13_borders : MI := (RX13, yX13_borders, cX13_borders, 5, (some FieldType.int), 2)
noncomputable def f_X13_borders_L15 (r4 : Option Nat → Int32 → Int32 → Int32 → PH → Option (Int32 × PH)) : Nat → Option Nat → Int32 → Int32 → Int32 → Int32 → PH → Option (Int32 × PH)
  | 0, _, _, _, _, _, _ => none
  | k + 1, x0, x1, x2, x3, x4, h => (rcv 11 x0 h).bind (fun u1 => (f_X13_cells x0 h).bind (fun q2 => if q2.1 ≤ x4 then (r4 x0 x1 x2 (x3 + 1) q2.2) else ((rcv 11 x0 q2.2).bind (fun u3 => (f_X13_blockOf x0 x3 q2.2).bind (fun q4 => if q4.1 = x1 then ((rcv 11 x0 q4.2).bind (fun u5 => (f_X13_areNeighbors x0 x3 x4 q4.2).bind (fun q6 => if q6.1 = 0 then ((f_X13_borders_L15 r4 k) x0 x1 (x2 ||| 0) x3 (x4 + 1) q6.2) else ((rcv 11 x0 q6.2).bind (fun u7 => (f_X13_blockOf x0 x4 q6.2).bind (fun q8 => if q8.1 = x1 then ((f_X13_borders_L15 r4 k) x0 x1 (x2 ||| 0) x3 (x4 + 1) q8.2) else ((rcv 11 x0 q8.2).bind (fun u9 => (f_X13_blockOf x0 x4 q8.2).bind (fun q10 => (f_X13_borders_L15 r4 k) x0 x1 (x2 ||| ((1 : Int32) <<< (q10.1 &&& 31))) x3 (x4 + 1) q10.2))))))))) else (r4 x0 x1 x2 (x3 + 1) q4.2))))))
theorem f_X13_borders_L15_ok {K : KT} {h0 : PH} {a0 : List Value} {q : (Int32 × PH)} {r4 : Option Nat → Int32 → Int32 → Int32 → PH → Option (Int32 × PH)} (hr4 : ∀ (y0 : Option Nat) (y1 : Int32) (y2 : Int32) (y3 : Int32) (h : PH), r4 y0 y1 y2 y3 h = some q → R K mi_X13_borders h0 a0 (.inl (some (.int q.1))) q.2 4 [(0, va_rf y0), (1, .int y1), (2, .int y2), (3, .int y3)] [] h) : ∀ (k : Nat) (x0 : Option Nat) (x1 : Int32) (x2 : Int32) (x3 : Int32) (x4 : Int32) (h : PH), f_X13_borders_L15 r4 k x0 x1 x2 x3 x4 h = some q → R K mi_X13_borders h0 a0 (.inl (some (.int q.1))) q.2 15 [(0, va_rf x0), (1, .int x1), (2, .int x2), (3, .int x3), (4, .int x4)] [] h := by
  intro k
  induction k with
  | zero => intro _ _ _ _ _ _ hf; cases hf
  | succ k ih =>
    intro x0 x1 x2 x3 x4 h hf
    unfold f_X13_borders_L15 at hf
    refine R_iload 4 dX13_borders_15 rfl ?_
    refine R_aload_n 0 dX13_borders_17 rfl rfl ?_
    obtain ⟨u1, eu1, hf⟩ := Option.bind_eq_some_iff.mp hf
    obtain ⟨q2, eq2, hf⟩ := Option.bind_eq_some_iff.mp hf
    refine R_callV (mj := mi_X13_cells) (ci := 11) (q := (RX13, TX13, 24)) (As := []) (rest := [.int x4]) (T_X13_cells eq2) eu1 rfl lV_X13_61 ⟨rfl, oky_X13_cells⟩ (by decide) (by decide) rfl (C1_i C1_0) (Nat.le_of_ble_eq_true rfl) dX13_borders_18 ?_
    refine R_icge (tgt := 74) dX13_borders_21 (by decide) (fun hc => ?_) (fun hc => ?_)
    · rw [if_pos hc] at hf
      refine R_iinc (L' := [(3, .int (x3 + 1)), (0, va_rf x0), (1, .int x1), (2, .int x2), (4, .int x4)]) 3 dX13_borders_74 rfl (k_inc_1 _) (by decide) rfl ?_
      refine R_goto (tgt := 4) dX13_borders_77 (by decide) ?_
      refine R.sub [1, 2, 3, 0] (L' := [(0, va_rf x0), (1, .int x1), (2, .int x2), (3, .int (x3 + 1))]) rfl ?_
      exact hr4 x0 x1 x2 (x3 + 1) q2.2 hf
    · rw [if_neg hc] at hf
      refine R_aload_n 0 dX13_borders_24 rfl rfl ?_
      refine R_iload_n 3 dX13_borders_25 rfl rfl ?_
      obtain ⟨u3, eu3, hf⟩ := Option.bind_eq_some_iff.mp hf
      obtain ⟨q4, eq4, hf⟩ := Option.bind_eq_some_iff.mp hf
      refine R_callV (mj := mi_X13_blockOf) (ci := 11) (q := (RX13, TX13, 24)) (As := [.int x3]) (rest := []) (T_X13_blockOf eq4) eu3 rfl lV_X13_72 ⟨rfl, oky_X13_blockOf⟩ (by decide) (by decide) rfl C1_0 (Nat.le_of_ble_eq_true rfl) dX13_borders_26 ?_
      refine R_iload_n 1 dX13_borders_29 rfl rfl ?_
      refine R_icne (tgt := 74) dX13_borders_30 (by decide) (fun hc => ?_) (fun hc => ?_)
      · rw [if_pos hc] at hf
        refine R_iload_n 2 dX13_borders_33 rfl rfl ?_
        refine R_aload_n 0 dX13_borders_34 rfl rfl ?_
        refine R_iload_n 3 dX13_borders_35 rfl rfl ?_
        refine R_iload 4 dX13_borders_36 rfl ?_
        obtain ⟨u5, eu5, hf⟩ := Option.bind_eq_some_iff.mp hf
        obtain ⟨q6, eq6, hf⟩ := Option.bind_eq_some_iff.mp hf
        refine R_callV (mj := mi_X13_areNeighbors) (ci := 11) (q := (RX13, TX13, 24)) (As := [.int x3, .int x4]) (rest := [.int x2]) (T_X13_areNeighbors eq6) eu5 rfl lV_X13_83 ⟨rfl, oky_X13_areNeighbors⟩ (by decide) (by decide) rfl (C1_i C1_0) (Nat.le_of_ble_eq_true rfl) dX13_borders_38 ?_
        refine R_ifeq (tgt := 65) dX13_borders_41 (by decide) (fun hc => ?_) (fun hc => ?_)
        · rw [if_pos hc] at hf
          refine R_iconst dX13_borders_65 k_iconst_0 ?_
          refine R_ior dX13_borders_66 ?_
          refine R_istore_n (L' := [(2, .int (x2 ||| 0)), (0, va_rf x0), (1, .int x1), (3, .int x3), (4, .int x4)]) dX13_borders_67 rfl (by decide) rfl ?_
          refine R_iinc (L' := [(4, .int (x4 + 1)), (2, .int (x2 ||| 0)), (0, va_rf x0), (1, .int x1), (3, .int x3)]) 4 dX13_borders_68 rfl (k_inc_1 _) (by decide) rfl ?_
          refine R_goto (tgt := 15) dX13_borders_71 (by decide) ?_
          refine R.sub [2, 3, 1, 4, 0] (L' := [(0, va_rf x0), (1, .int x1), (2, .int (x2 ||| 0)), (3, .int x3), (4, .int (x4 + 1))]) rfl ?_
          exact ih x0 x1 (x2 ||| 0) x3 (x4 + 1) q6.2 hf
        · rw [if_neg hc] at hf
          refine R_aload_n 0 dX13_borders_44 rfl rfl ?_
          refine R_iload 4 dX13_borders_45 rfl ?_
          obtain ⟨u7, eu7, hf⟩ := Option.bind_eq_some_iff.mp hf
          obtain ⟨q8, eq8, hf⟩ := Option.bind_eq_some_iff.mp hf
          refine R_callV (mj := mi_X13_blockOf) (ci := 11) (q := (RX13, TX13, 24)) (As := [.int x4]) (rest := [.int x2]) (T_X13_blockOf eq8) eu7 rfl lV_X13_72 ⟨rfl, oky_X13_blockOf⟩ (by decide) (by decide) rfl (C1_i C1_0) (Nat.le_of_ble_eq_true rfl) dX13_borders_47 ?_
          refine R_iload_n 1 dX13_borders_50 rfl rfl ?_
          refine R_iceq (tgt := 65) dX13_borders_51 (by decide) (fun hc => ?_) (fun hc => ?_)
          · rw [if_pos hc] at hf
            refine R_iconst dX13_borders_65 k_iconst_0 ?_
            refine R_ior dX13_borders_66 ?_
            refine R_istore_n (L' := [(2, .int (x2 ||| 0)), (0, va_rf x0), (1, .int x1), (3, .int x3), (4, .int x4)]) dX13_borders_67 rfl (by decide) rfl ?_
            refine R_iinc (L' := [(4, .int (x4 + 1)), (2, .int (x2 ||| 0)), (0, va_rf x0), (1, .int x1), (3, .int x3)]) 4 dX13_borders_68 rfl (k_inc_1 _) (by decide) rfl ?_
            refine R_goto (tgt := 15) dX13_borders_71 (by decide) ?_
            refine R.sub [2, 3, 1, 4, 0] (L' := [(0, va_rf x0), (1, .int x1), (2, .int (x2 ||| 0)), (3, .int x3), (4, .int (x4 + 1))]) rfl ?_
            exact ih x0 x1 (x2 ||| 0) x3 (x4 + 1) q8.2 hf
          · rw [if_neg hc] at hf
            refine R_iconst dX13_borders_54 k_iconst_1 ?_
            refine R_aload_n 0 dX13_borders_55 rfl rfl ?_
            refine R_iload 4 dX13_borders_56 rfl ?_
            obtain ⟨u9, eu9, hf⟩ := Option.bind_eq_some_iff.mp hf
            obtain ⟨q10, eq10, hf⟩ := Option.bind_eq_some_iff.mp hf
            refine R_callV (mj := mi_X13_blockOf) (ci := 11) (q := (RX13, TX13, 24)) (As := [.int x4]) (rest := [.int 1, .int x2]) (T_X13_blockOf eq10) eu9 rfl lV_X13_72 ⟨rfl, oky_X13_blockOf⟩ (by decide) (by decide) rfl (C1_i (C1_i C1_0)) (Nat.le_of_ble_eq_true rfl) dX13_borders_58 ?_
            refine R_ishl dX13_borders_61 ?_
            refine R_goto (tgt := 66) dX13_borders_62 (by decide) ?_
            refine R_ior dX13_borders_66 ?_
            refine R_istore_n (L' := [(2, .int (x2 ||| ((1 : Int32) <<< (q10.1 &&& 31)))), (0, va_rf x0), (1, .int x1), (3, .int x3), (4, .int x4)]) dX13_borders_67 rfl (by decide) rfl ?_
            refine R_iinc (L' := [(4, .int (x4 + 1)), (2, .int (x2 ||| ((1 : Int32) <<< (q10.1 &&& 31)))), (0, va_rf x0), (1, .int x1), (3, .int x3)]) 4 dX13_borders_68 rfl (k_inc_1 _) (by decide) rfl ?_
            refine R_goto (tgt := 15) dX13_borders_71 (by decide) ?_
            refine R.sub [2, 3, 1, 4, 0] (L' := [(0, va_rf x0), (1, .int x1), (2, .int (x2 ||| ((1 : Int32) <<< (q10.1 &&& 31)))), (3, .int x3), (4, .int (x4 + 1))]) rfl ?_
            exact ih x0 x1 (x2 ||| ((1 : Int32) <<< (q10.1 &&& 31))) x3 (x4 + 1) q10.2 hf
      · rw [if_neg hc] at hf
        refine R_iinc (L' := [(3, .int (x3 + 1)), (0, va_rf x0), (1, .int x1), (2, .int x2), (4, .int x4)]) 3 dX13_borders_74 rfl (k_inc_1 _) (by decide) rfl ?_
        refine R_goto (tgt := 4) dX13_borders_77 (by decide) ?_
        refine R.sub [1, 2, 3, 0] (L' := [(0, va_rf x0), (1, .int x1), (2, .int x2), (3, .int (x3 + 1))]) rfl ?_
        exact hr4 x0 x1 x2 (x3 + 1) q4.2 hf
noncomputable def f_X13_borders_L4  : Nat → Option Nat → Int32 → Int32 → Int32 → PH → Option (Int32 × PH)
  | 0, _, _, _, _, _ => none
  | k + 1, x0, x1, x2, x3, h => (rcv 11 x0 h).bind (fun u1 => (f_X13_cells x0 h).bind (fun q2 => if q2.1 ≤ x3 then ((f_X13_ones x2 q2.2).bind (fun q3 => some (q3.1, q3.2))) else (f_X13_borders_L15 (f_X13_borders_L4 k) FU x0 x1 x2 x3 0 q2.2)))
theorem f_X13_borders_L4_ok {K : KT} {h0 : PH} {a0 : List Value} {q : (Int32 × PH)}  : ∀ (k : Nat) (x0 : Option Nat) (x1 : Int32) (x2 : Int32) (x3 : Int32) (h : PH), f_X13_borders_L4  k x0 x1 x2 x3 h = some q → R K mi_X13_borders h0 a0 (.inl (some (.int q.1))) q.2 4 [(0, va_rf x0), (1, .int x1), (2, .int x2), (3, .int x3)] [] h := by
  intro k
  induction k with
  | zero => intro _ _ _ _ _ hf; cases hf
  | succ k ih =>
    intro x0 x1 x2 x3 h hf
    unfold f_X13_borders_L4 at hf
    refine R_iload_n 3 dX13_borders_4 rfl rfl ?_
    refine R_aload_n 0 dX13_borders_5 rfl rfl ?_
    obtain ⟨u1, eu1, hf⟩ := Option.bind_eq_some_iff.mp hf
    obtain ⟨q2, eq2, hf⟩ := Option.bind_eq_some_iff.mp hf
    refine R_callV (mj := mi_X13_cells) (ci := 11) (q := (RX13, TX13, 24)) (As := []) (rest := [.int x3]) (T_X13_cells eq2) eu1 rfl lV_X13_61 ⟨rfl, oky_X13_cells⟩ (by decide) (by decide) rfl (C1_i C1_0) (Nat.le_of_ble_eq_true rfl) dX13_borders_6 ?_
    refine R_icge (tgt := 80) dX13_borders_9 (by decide) (fun hc => ?_) (fun hc => ?_)
    · rw [if_pos hc] at hf
      refine R_iload_n 2 dX13_borders_80 rfl rfl ?_
      obtain ⟨q3, eq3, hf⟩ := Option.bind_eq_some_iff.mp hf
      refine R_callS (mj := mi_X13_ones) (As := [.int x2]) (rest := []) (T_X13_ones eq3) lS_X13_142 oky_X13_ones (by decide) (by decide) rfl C1_0 (Nat.le_of_ble_eq_true rfl) dX13_borders_81 ?_
      obtain rfl := Option.some.inj hf
      exact R_iretI rfl dX13_borders_84
    · rw [if_neg hc] at hf
      refine R_iconst dX13_borders_12 k_iconst_0 ?_
      refine R_istore (L' := [(4, .int 0), (0, va_rf x0), (1, .int x1), (2, .int x2), (3, .int x3)]) dX13_borders_13 (by decide) rfl ?_
      refine R.sub [1, 2, 3, 4, 0] (L' := [(0, va_rf x0), (1, .int x1), (2, .int x2), (3, .int x3), (4, .int 0)]) rfl ?_
      exact f_X13_borders_L15_ok ih FU x0 x1 x2 x3 0 q2.2 hf
noncomputable def f_X13_borders (x0 : Option Nat) (x1 : Int32) (h : PH) : Option (Int32 × PH) := f_X13_borders_L4  FU x0 x1 0 0 h
theorem T_X13_borders {K : KT} {x0 : Option Nat} {x1 : Int32} {h : PH} {q : (Int32 × PH)} (hf : f_X13_borders x0 x1 h = some q) : T K mi_X13_borders [va_rf x0, .int x1] h (.inl (some (.int q.1))) q.2 := by
  unfold f_X13_borders at hf
  refine T_of (by decide +kernel) rfl (C1_r (C1_i C1_0)) (Nat.le_of_ble_eq_true rfl) ?_
  show R K mi_X13_borders h [va_rf x0, .int x1] _ _ 0 [(0, va_rf x0), (1, .int x1)] [] h
  refine R_iconst dX13_borders_0 k_iconst_0 ?_
  refine R_istore_n (L' := [(2, .int 0), (0, va_rf x0), (1, .int x1)]) dX13_borders_1 rfl (by decide) rfl ?_
  refine R_iconst dX13_borders_2 k_iconst_0 ?_
  refine R_istore_n (L' := [(3, .int 0), (2, .int 0), (0, va_rf x0), (1, .int x1)]) dX13_borders_3 rfl (by decide) rfl ?_
  refine R.sub [2, 3, 1, 0] (L' := [(0, va_rf x0), (1, .int x1), (2, .int 0), (3, .int 0)]) rfl ?_
  exact f_X13_borders_L4_ok  FU x0 x1 0 0 h hf
theorem lV_X13_323 : GoodIn lw_all (wsV "EdgeSumsModel" 323 "EdgeSumsModel" yX13_borders (ws_ yX13_borders cX13_borders 5 (some FieldType.int))) := lw_V q3095 q3097 qs116 q158 q3098
theorem oky_X13_borders : okY yX13_borders 1 := ⟨by decide +kernel, by decide +kernel, by decide +kernel⟩
abbrev mi_X13_block : MI := (RX13, yX13_block, cX13_block, 8, (some FieldType.int), 3)
noncomputable def f_X13_block_B87 (r56 : Option Nat → Int32 → Int32 → Int32 → Int32 → Int32 → Int32 → Int32 → PH → Option (Int32 × PH)) (x0 : Option Nat) (x1 : Int32) (x2 : Int32) (x4 : Int32) (x5 : Int32) (x6 : Int32) (x7 : Int32) (s0 : Int32) (h : PH) : Option (Int32 × PH) := (gfr 11 1 x0 h).bind (fun t1 => (ald 0 t1 (58 + x7) h).bind (fun t2 => (gfr 11 1 x0 h).bind (fun t3 => (ald 0 t3 (93 + x7) h).bind (fun t4 => (f_X13_ones t4 h).bind (fun q5 => if q5.1 = 1 then (r56 x0 x1 x2 s0 (x4 + 1) (x5 + t2) (x6 + 1) (x7 + 1) q5.2) else (r56 x0 x1 x2 s0 (x4 + 1) (x5 + t2) (x6 + 0) (x7 + 1) q5.2))))))
theorem f_X13_block_B87_ok {K : KT} {h0 : PH} {a0 : List Value} {q : (Int32 × PH)} {r56 : Option Nat → Int32 → Int32 → Int32 → Int32 → Int32 → Int32 → Int32 → PH → Option (Int32 × PH)} (hr56 : ∀ (y0 : Option Nat) (y1 : Int32) (y2 : Int32) (y3 : Int32) (y4 : Int32) (y5 : Int32) (y6 : Int32) (y7 : Int32) (h : PH), r56 y0 y1 y2 y3 y4 y5 y6 y7 h = some q → R K mi_X13_block h0 a0 (.inl (some (.int q.1))) q.2 56 [(0, va_rf y0), (1, .int y1), (2, .int y2), (3, .int y3), (4, .int y4), (5, .int y5), (6, .int y6), (7, .int y7)] [] h) (x0 : Option Nat) (x1 : Int32) (x2 : Int32) (x4 : Int32) (x5 : Int32) (x6 : Int32) (x7 : Int32) (s0 : Int32) (h : PH) (hf : f_X13_block_B87 r56 x0 x1 x2 x4 x5 x6 x7 s0 h = some q) : R K mi_X13_block h0 a0 (.inl (some (.int q.1))) q.2 87 [(0, va_rf x0), (1, .int x1), (2, .int x2), (4, .int x4), (5, .int x5), (6, .int x6), (7, .int x7)] [.int s0] h := by
  unfold f_X13_block_B87 at hf
  refine R_istore_n (L' := [(3, .int s0), (0, va_rf x0), (1, .int x1), (2, .int x2), (4, .int x4), (5, .int x5), (6, .int x6), (7, .int x7)]) dX13_block_87 rfl (by decide) rfl ?_
  refine R_iinc (L' := [(4, .int (x4 + 1)), (3, .int s0), (0, va_rf x0), (1, .int x1), (2, .int x2), (5, .int x5), (6, .int x6), (7, .int x7)]) 4 dX13_block_88 rfl (k_inc_1 _) (by decide) rfl ?_
  refine R_iload 5 dX13_block_91 rfl ?_
  refine R_aload_n 2 dX13_block_93 rfl rfl ?_
  obtain ⟨t1, et1, hf⟩ := Option.bind_eq_some_iff.mp hf
  refine R_getr lg_X13_7 et1 dX13_block_94 ?_
  refine R_bipush dX13_block_97 k_bipush_58 ?_
  refine R_iload 7 dX13_block_99 rfl ?_
  refine R_iadd dX13_block_101 ?_
  obtain ⟨t2, et2, hf⟩ := Option.bind_eq_some_iff.mp hf
  refine R_iaload et2 dX13_block_102 ?_
  refine R_iadd dX13_block_103 ?_
  refine R_istore (L' := [(5, .int (x5 + t2)), (4, .int (x4 + 1)), (3, .int s0), (0, va_rf x0), (1, .int x1), (2, .int x2), (6, .int x6), (7, .int x7)]) dX13_block_104 (by decide) rfl ?_
  refine R_iload 6 dX13_block_106 rfl ?_
  refine R_aload_n 3 dX13_block_108 rfl rfl ?_
  obtain ⟨t3, et3, hf⟩ := Option.bind_eq_some_iff.mp hf
  refine R_getr lg_X13_7 et3 dX13_block_109 ?_
  refine R_bipush dX13_block_112 k_bipush_93 ?_
  refine R_iload 7 dX13_block_114 rfl ?_
  refine R_iadd dX13_block_116 ?_
  obtain ⟨t4, et4, hf⟩ := Option.bind_eq_some_iff.mp hf
  refine R_iaload et4 dX13_block_117 ?_
  obtain ⟨q5, eq5, hf⟩ := Option.bind_eq_some_iff.mp hf
  refine R_callS (mj := mi_X13_ones) (As := [.int t4]) (rest := [.int x6]) (T_X13_ones eq5) lS_X13_142 oky_X13_ones (by decide) (by decide) rfl (C1_i C1_0) (Nat.le_of_ble_eq_true rfl) dX13_block_118 ?_
  refine R_iconst dX13_block_121 k_iconst_1 ?_
  refine R_icne (tgt := 129) dX13_block_122 (by decide) (fun hc => ?_) (fun hc => ?_)
  · rw [if_pos hc] at hf
    refine R_iconst dX13_block_125 k_iconst_1 ?_
    refine R_goto (tgt := 130) dX13_block_126 (by decide) ?_
    refine R_iadd dX13_block_130 ?_
    refine R_istore (L' := [(6, .int (x6 + 1)), (5, .int (x5 + t2)), (4, .int (x4 + 1)), (3, .int s0), (0, va_rf x0), (1, .int x1), (2, .int x2), (7, .int x7)]) dX13_block_131 (by decide) rfl ?_
    refine R_iinc (L' := [(7, .int (x7 + 1)), (6, .int (x6 + 1)), (5, .int (x5 + t2)), (4, .int (x4 + 1)), (3, .int s0), (0, va_rf x0), (1, .int x1), (2, .int x2)]) 7 dX13_block_133 rfl (k_inc_1 _) (by decide) rfl ?_
    refine R_goto (tgt := 56) dX13_block_136 (by decide) ?_
    refine R.sub [5, 6, 7, 4, 3, 2, 1, 0] (L' := [(0, va_rf x0), (1, .int x1), (2, .int x2), (3, .int s0), (4, .int (x4 + 1)), (5, .int (x5 + t2)), (6, .int (x6 + 1)), (7, .int (x7 + 1))]) rfl ?_
    exact hr56 x0 x1 x2 s0 (x4 + 1) (x5 + t2) (x6 + 1) (x7 + 1) q5.2 hf
  · rw [if_neg hc] at hf
    refine R_iconst dX13_block_129 k_iconst_0 ?_
    refine R_iadd dX13_block_130 ?_
    refine R_istore (L' := [(6, .int (x6 + 0)), (5, .int (x5 + t2)), (4, .int (x4 + 1)), (3, .int s0), (0, va_rf x0), (1, .int x1), (2, .int x2), (7, .int x7)]) dX13_block_131 (by decide) rfl ?_
    refine R_iinc (L' := [(7, .int (x7 + 1)), (6, .int (x6 + 0)), (5, .int (x5 + t2)), (4, .int (x4 + 1)), (3, .int s0), (0, va_rf x0), (1, .int x1), (2, .int x2)]) 7 dX13_block_133 rfl (k_inc_1 _) (by decide) rfl ?_
    refine R_goto (tgt := 56) dX13_block_136 (by decide) ?_
    refine R.sub [5, 6, 7, 4, 3, 2, 1, 0] (L' := [(0, va_rf x0), (1, .int x1), (2, .int x2), (3, .int s0), (4, .int (x4 + 1)), (5, .int (x5 + t2)), (6, .int (x6 + 0)), (7, .int (x7 + 1))]) rfl ?_
    exact hr56 x0 x1 x2 s0 (x4 + 1) (x5 + t2) (x6 + 0) (x7 + 1) q5.2 hf
noncomputable def f_X13_block_L56  : Nat → Option Nat → Int32 → Int32 → Int32 → Int32 → Int32 → Int32 → Int32 → PH → Option (Int32 × PH)
  | 0, _, _, _, _, _, _, _, _, _ => none
  | k + 1, x0, x1, x2, x3, x4, x5, x6, x7, h => (rcv 11 x0 h).bind (fun u1 => (f_X13_cells x0 h).bind (fun q2 => if q2.1 ≤ x7 then (if x2 = 0 then (some (x4, q2.2)) else (if x2 = 1 then (some (x3, q2.2)) else (if x2 = 2 then (some (x5, q2.2)) else (some (x6, q2.2))))) else ((rcv 11 x0 q2.2).bind (fun u3 => (f_X13_blockOf x0 x7 q2.2).bind (fun q4 => if q4.1 = x1 then (if x3 = (-99) then (f_X13_block_B87 (f_X13_block_L56 k) x0 x1 x2 x4 x5 x6 x7 x7 q4.2) else (f_X13_block_B87 (f_X13_block_L56 k) x0 x1 x2 x4 x5 x6 x7 x3 q4.2)) else ((f_X13_block_L56 k) x0 x1 x2 x3 x4 x5 x6 (x7 + 1) q4.2))))))
theorem f_X13_block_L56_ok {K : KT} {h0 : PH} {a0 : List Value} {q : (Int32 × PH)}  : ∀ (k : Nat) (x0 : Option Nat) (x1 : Int32) (x2 : Int32) (x3 : Int32) (x4 : Int32) (x5 : Int32) (x6 : Int32) (x7 : Int32) (h : PH), f_X13_block_L56  k x0 x1 x2 x3 x4 x5 x6 x7 h = some q → R K mi_X13_block h0 a0 (.inl (some (.int q.1))) q.2 56 [(0, va_rf x0), (1, .int x1), (2, .int x2), (3, .int x3), (4, .int x4), (5, .int x5), (6, .int x6), (7, .int x7)] [] h := by
  intro k
  induction k with
  | zero => intro _ _ _ _ _ _ _ _ _ hf; cases hf
  | succ k ih =>
    intro x0 x1 x2 x3 x4 x5 x6 x7 h hf
    unfold f_X13_block_L56 at hf
    refine R_iload 7 dX13_block_56 rfl ?_
    refine R_aload_n 0 dX13_block_58 rfl rfl ?_
    obtain ⟨u1, eu1, hf⟩ := Option.bind_eq_some_iff.mp hf
    obtain ⟨q2, eq2, hf⟩ := Option.bind_eq_some_iff.mp hf
    refine R_callV (mj := mi_X13_cells) (ci := 11) (q := (RX13, TX13, 24)) (As := []) (rest := [.int x7]) (T_X13_cells eq2) eu1 rfl lV_X13_61 ⟨rfl, oky_X13_cells⟩ (by decide) (by decide) rfl (C1_i C1_0) (Nat.le_of_ble_eq_true rfl) dX13_block_59 ?_
    refine R_icge (tgt := 139) dX13_block_62 (by decide) (fun hc => ?_) (fun hc => ?_)
    · rw [if_pos hc] at hf
      refine R_iload_n 2 dX13_block_139 rfl rfl ?_
      refine R_ifne (tgt := 148) dX13_block_140 (by decide) (fun hc => ?_) (fun hc => ?_)
      · rw [if_pos hc] at hf
        refine R_iload 4 dX13_block_143 rfl ?_
        refine R_goto (tgt := 169) dX13_block_145 (by decide) ?_
        obtain rfl := Option.some.inj hf
        exact R_iretI rfl dX13_block_169
      · rw [if_neg hc] at hf
        refine R_iload_n 2 dX13_block_148 rfl rfl ?_
        refine R_iconst dX13_block_149 k_iconst_1 ?_
        refine R_icne (tgt := 157) dX13_block_150 (by decide) (fun hc => ?_) (fun hc => ?_)
        · rw [if_pos hc] at hf
          refine R_iload_n 3 dX13_block_153 rfl rfl ?_
          refine R_goto (tgt := 169) dX13_block_154 (by decide) ?_
          obtain rfl := Option.some.inj hf
          exact R_iretI rfl dX13_block_169
        · rw [if_neg hc] at hf
          refine R_iload_n 2 dX13_block_157 rfl rfl ?_
          refine R_iconst dX13_block_158 k_iconst_2 ?_
          refine R_icne (tgt := 167) dX13_block_159 (by decide) (fun hc => ?_) (fun hc => ?_)
          · rw [if_pos hc] at hf
            refine R_iload 5 dX13_block_162 rfl ?_
            refine R_goto (tgt := 169) dX13_block_164 (by decide) ?_
            obtain rfl := Option.some.inj hf
            exact R_iretI rfl dX13_block_169
          · rw [if_neg hc] at hf
            refine R_iload 6 dX13_block_167 rfl ?_
            obtain rfl := Option.some.inj hf
            exact R_iretI rfl dX13_block_169
    · rw [if_neg hc] at hf
      refine R_aload_n 0 dX13_block_65 rfl rfl ?_
      refine R_iload 7 dX13_block_66 rfl ?_
      obtain ⟨u3, eu3, hf⟩ := Option.bind_eq_some_iff.mp hf
      obtain ⟨q4, eq4, hf⟩ := Option.bind_eq_some_iff.mp hf
      refine R_callV (mj := mi_X13_blockOf) (ci := 11) (q := (RX13, TX13, 24)) (As := [.int x7]) (rest := []) (T_X13_blockOf eq4) eu3 rfl lV_X13_72 ⟨rfl, oky_X13_blockOf⟩ (by decide) (by decide) rfl C1_0 (Nat.le_of_ble_eq_true rfl) dX13_block_68 ?_
      refine R_iload_n 1 dX13_block_71 rfl rfl ?_
      refine R_icne (tgt := 133) dX13_block_72 (by decide) (fun hc => ?_) (fun hc => ?_)
      · rw [if_pos hc] at hf
        refine R_iload_n 3 dX13_block_75 rfl rfl ?_
        refine R_bipush dX13_block_76 k_bipush_m99 ?_
        refine R_icne (tgt := 86) dX13_block_78 (by decide) (fun hc => ?_) (fun hc => ?_)
        · rw [if_pos hc] at hf
          refine R_iload 7 dX13_block_81 rfl ?_
          refine R_goto (tgt := 87) dX13_block_83 (by decide) ?_
          refine R.sub [0, 1, 2, 4, 5, 6, 7] (L' := [(0, va_rf x0), (1, .int x1), (2, .int x2), (4, .int x4), (5, .int x5), (6, .int x6), (7, .int x7)]) rfl ?_
          exact f_X13_block_B87_ok ih x0 x1 x2 x4 x5 x6 x7 x7 q4.2 hf
        · rw [if_neg hc] at hf
          refine R_iload_n 3 dX13_block_86 rfl rfl ?_
          refine R.sub [0, 1, 2, 4, 5, 6, 7] (L' := [(0, va_rf x0), (1, .int x1), (2, .int x2), (4, .int x4), (5, .int x5), (6, .int x6), (7, .int x7)]) rfl ?_
          exact f_X13_block_B87_ok ih x0 x1 x2 x4 x5 x6 x7 x3 q4.2 hf
      · rw [if_neg hc] at hf
        refine R_iinc (L' := [(7, .int (x7 + 1)), (0, va_rf x0), (1, .int x1), (2, .int x2), (3, .int x3), (4, .int x4), (5, .int x5), (6, .int x6)]) 7 dX13_block_133 rfl (k_inc_1 _) (by decide) rfl ?_
        refine R_goto (tgt := 56) dX13_block_136 (by decide) ?_
        refine R.sub [1, 2, 3, 4, 5, 6, 7, 0] (L' := [(0, va_rf x0), (1, .int x1), (2, .int x2), (3, .int x3), (4, .int x4), (5, .int x5), (6, .int x6), (7, .int (x7 + 1))]) rfl ?_
        exact ih x0 x1 x2 x3 x4 x5 x6 (x7 + 1) q4.2 hf
noncomputable def f_X13_block (x0 : Option Nat) (x1 : Int32) (x2 : Int32) (h : PH) : Option (Int32 × PH) := (pf 11 0 x0 (.int 0) h).bind (fun h1 => (rcv 11 x0 h1).bind (fun u2 => (f_X13_blocks x0 h1).bind (fun q3 => (f_X13_in x1 0 (q3.1 - 1) q3.2).bind (fun q4 => if q4.1 = 0 then (some ((-1), q4.2)) else ((f_X13_in x2 0 4 q4.2).bind (fun q5 => if q5.1 = 0 then (some ((-1), q5.2)) else (if x2 = 4 then ((rcv 11 x0 q5.2).bind (fun u6 => (f_X13_borders x0 x1 q5.2).bind (fun q7 => some (q7.1, q7.2)))) else (f_X13_block_L56  FU x0 x1 x2 (-99) 0 0 0 0 q5.2))))))))
theorem T_X13_block {K : KT} {x0 : Option Nat} {x1 : Int32} {x2 : Int32} {h : PH} {q : (Int32 × PH)} (hf : f_X13_block x0 x1 x2 h = some q) : T K mi_X13_block [va_rf x0, .int x1, .int x2] h (.inl (some (.int q.1))) q.2 := by
  unfold f_X13_block at hf
  refine T_of (by decide +kernel) rfl (C1_r (C1_i (C1_i C1_0))) (Nat.le_of_ble_eq_true rfl) ?_
  show R K mi_X13_block h [va_rf x0, .int x1, .int x2] _ _ 0 [(0, va_rf x0), (1, .int x1), (2, .int x2)] [] h
  refine R_aload_n 0 dX13_block_0 rfl rfl ?_
  refine R_iconst dX13_block_1 k_iconst_0 ?_
  obtain ⟨h1, eh1, hf⟩ := Option.bind_eq_some_iff.mp hf
  refine R_putI (fp_X13_43 rfl) eh1 dX13_block_2 ?_
  refine R_iload_n 1 dX13_block_5 rfl rfl ?_
  refine R_iconst dX13_block_6 k_iconst_0 ?_
  refine R_aload_n 0 dX13_block_7 rfl rfl ?_
  obtain ⟨u2, eu2, hf⟩ := Option.bind_eq_some_iff.mp hf
  obtain ⟨q3, eq3, hf⟩ := Option.bind_eq_some_iff.mp hf
  refine R_callV (mj := mi_X13_blocks) (ci := 11) (q := (RX13, TX13, 24)) (As := []) (rest := [.int 0, .int x1]) (T_X13_blocks eq3) eu2 rfl lV_X13_105 ⟨rfl, oky_X13_blocks⟩ (by decide) (by decide) rfl (C1_i (C1_i C1_0)) (Nat.le_of_ble_eq_true rfl) dX13_block_8 ?_
  refine R_iconst dX13_block_11 k_iconst_1 ?_
  refine R_isub dX13_block_12 ?_
  obtain ⟨q4, eq4, hf⟩ := Option.bind_eq_some_iff.mp hf
  refine R_callS (mj := mi_X13_in) (As := [.int x1, .int 0, .int (q3.1 - 1)]) (rest := []) (T_X13_in eq4) lS_X13_65 oky_X13_in (by decide) (by decide) rfl C1_0 (Nat.le_of_ble_eq_true rfl) dX13_block_13 ?_
  refine R_ifeq (tgt := 28) dX13_block_16 (by decide) (fun hc => ?_) (fun hc => ?_)
  · rw [if_pos hc] at hf
    refine R_iconst dX13_block_28 k_iconst_m1 ?_
    obtain rfl := Option.some.inj hf
    exact R_iretI rfl dX13_block_29
  · rw [if_neg hc] at hf
    refine R_iload_n 2 dX13_block_19 rfl rfl ?_
    refine R_iconst dX13_block_20 k_iconst_0 ?_
    refine R_iconst dX13_block_21 k_iconst_4 ?_
    obtain ⟨q5, eq5, hf⟩ := Option.bind_eq_some_iff.mp hf
    refine R_callS (mj := mi_X13_in) (As := [.int x2, .int 0, .int 4]) (rest := []) (T_X13_in eq5) lS_X13_65 oky_X13_in (by decide) (by decide) rfl C1_0 (Nat.le_of_ble_eq_true rfl) dX13_block_22 ?_
    refine R_ifne (tgt := 30) dX13_block_25 (by decide) (fun hc => ?_) (fun hc => ?_)
    · rw [if_pos hc] at hf
      refine R_iconst dX13_block_28 k_iconst_m1 ?_
      obtain rfl := Option.some.inj hf
      exact R_iretI rfl dX13_block_29
    · rw [if_neg hc] at hf
      refine R_iload_n 2 dX13_block_30 rfl rfl ?_
      refine R_iconst dX13_block_31 k_iconst_4 ?_
      refine R_icne (tgt := 41) dX13_block_32 (by decide) (fun hc => ?_) (fun hc => ?_)
      · rw [if_pos hc] at hf
        refine R_aload_n 0 dX13_block_35 rfl rfl ?_
        refine R_iload_n 1 dX13_block_36 rfl rfl ?_
        obtain ⟨u6, eu6, hf⟩ := Option.bind_eq_some_iff.mp hf
        obtain ⟨q7, eq7, hf⟩ := Option.bind_eq_some_iff.mp hf
        refine R_callV (mj := mi_X13_borders) (ci := 11) (q := (RX13, TX13, 24)) (As := [.int x1]) (rest := []) (T_X13_borders eq7) eu6 rfl lV_X13_323 ⟨rfl, oky_X13_borders⟩ (by decide) (by decide) rfl C1_0 (Nat.le_of_ble_eq_true rfl) dX13_block_37 ?_
        obtain rfl := Option.some.inj hf
        exact R_iretI rfl dX13_block_40
      · rw [if_neg hc] at hf
        refine R_bipush dX13_block_41 k_bipush_m99 ?_
        refine R_istore_n (L' := [(3, .int (-99)), (0, va_rf x0), (1, .int x1), (2, .int x2)]) dX13_block_43 rfl (by decide) rfl ?_
        refine R_iconst dX13_block_44 k_iconst_0 ?_
        refine R_istore (L' := [(4, .int 0), (3, .int (-99)), (0, va_rf x0), (1, .int x1), (2, .int x2)]) dX13_block_45 (by decide) rfl ?_
        refine R_iconst dX13_block_47 k_iconst_0 ?_
        refine R_istore (L' := [(5, .int 0), (4, .int 0), (3, .int (-99)), (0, va_rf x0), (1, .int x1), (2, .int x2)]) dX13_block_48 (by decide) rfl ?_
        refine R_iconst dX13_block_50 k_iconst_0 ?_
        refine R_istore (L' := [(6, .int 0), (5, .int 0), (4, .int 0), (3, .int (-99)), (0, va_rf x0), (1, .int x1), (2, .int x2)]) dX13_block_51 (by decide) rfl ?_
        refine R_iconst dX13_block_53 k_iconst_0 ?_
        refine R_istore (L' := [(7, .int 0), (6, .int 0), (5, .int 0), (4, .int 0), (3, .int (-99)), (0, va_rf x0), (1, .int x1), (2, .int x2)]) dX13_block_54 (by decide) rfl ?_
        refine R.sub [5, 6, 7, 4, 3, 2, 1, 0] (L' := [(0, va_rf x0), (1, .int x1), (2, .int x2), (3, .int (-99)), (4, .int 0), (5, .int 0), (6, .int 0), (7, .int 0)]) rfl ?_
        exact f_X13_block_L56_ok  FU x0 x1 x2 (-99) 0 0 0 0 q5.2 hf
abbrev mi_X13_strikesBy : MI := (RX13, yX13_strikesBy, cX13_strikesBy, 5, (some FieldType.int), 6)
noncomputable def f_X13_strikesBy_L26 (r8 : Option Nat → Int32 → Int32 → Int32 → PH → Option (Int32 × PH)) : Nat → Option Nat → Int32 → Int32 → Int32 → Int32 → PH → Option (Int32 × PH)
  | 0, _, _, _, _, _, _ => none
  | k + 1, x0, x1, x2, x3, x4, h => if 6 < x4 then (r8 x0 x1 x2 (x3 + 1) h) else ((gfr 11 7 x0 h).bind (fun t1 => (ald 0 t1 x3 h).bind (fun t2 => (f_X13_has t2 x4 h).bind (fun q3 => if q3.1 = 0 then ((f_X13_strikesBy_L26 r8 k) x0 x1 (x2 + 0) x3 (x4 + 1) q3.2) else ((rcv 11 x0 q3.2).bind (fun u4 => (f_X13_causeOf x0 x1 x3 x4 q3.2).bind (fun q5 => if q5.1 = (-99) then ((f_X13_strikesBy_L26 r8 k) x0 x1 (x2 + 0) x3 (x4 + 1) q5.2) else ((f_X13_strikesBy_L26 r8 k) x0 x1 (x2 + 1) x3 (x4 + 1) q5.2))))))))
theorem f_X13_strikesBy_L26_ok {K : KT} {h0 : PH} {a0 : List Value} {q : (Int32 × PH)} {r8 : Option Nat → Int32 → Int32 → Int32 → PH → Option (Int32 × PH)} (hr8 : ∀ (y0 : Option Nat) (y1 : Int32) (y2 : Int32) (y3 : Int32) (h : PH), r8 y0 y1 y2 y3 h = some q → R K mi_X13_strikesBy h0 a0 (.inl (some (.int q.1))) q.2 8 [(0, va_rf y0), (1, .int y1), (2, .int y2), (3, .int y3)] [] h) : ∀ (k : Nat) (x0 : Option Nat) (x1 : Int32) (x2 : Int32) (x3 : Int32) (x4 : Int32) (h : PH), f_X13_strikesBy_L26 r8 k x0 x1 x2 x3 x4 h = some q → R K mi_X13_strikesBy h0 a0 (.inl (some (.int q.1))) q.2 26 [(0, va_rf x0), (1, .int x1), (2, .int x2), (3, .int x3), (4, .int x4)] [] h := by
  intro k
  induction k with
  | zero => intro _ _ _ _ _ _ hf; cases hf
  | succ k ih =>
    intro x0 x1 x2 x3 x4 h hf
    unfold f_X13_strikesBy_L26 at hf
    refine R_iload 4 dX13_strikesBy_26 rfl ?_
    refine R_bipush dX13_strikesBy_28 k_bipush_6 ?_
    refine R_icgt (tgt := 74) dX13_strikesBy_30 (by decide) (fun hc => ?_) (fun hc => ?_)
    · rw [if_pos hc] at hf
      refine R_iinc (L' := [(3, .int (x3 + 1)), (0, va_rf x0), (1, .int x1), (2, .int x2), (4, .int x4)]) 3 dX13_strikesBy_74 rfl (k_inc_1 _) (by decide) rfl ?_
      refine R_goto (tgt := 8) dX13_strikesBy_77 (by decide) ?_
      refine R.sub [1, 2, 3, 0] (L' := [(0, va_rf x0), (1, .int x1), (2, .int x2), (3, .int (x3 + 1))]) rfl ?_
      exact hr8 x0 x1 x2 (x3 + 1) h hf
    · rw [if_neg hc] at hf
      refine R_iload_n 2 dX13_strikesBy_33 rfl rfl ?_
      refine R_aload_n 0 dX13_strikesBy_34 rfl rfl ?_
      obtain ⟨t1, et1, hf⟩ := Option.bind_eq_some_iff.mp hf
      refine R_getr lg_X13_22 et1 dX13_strikesBy_35 ?_
      refine R_iload_n 3 dX13_strikesBy_38 rfl rfl ?_
      obtain ⟨t2, et2, hf⟩ := Option.bind_eq_some_iff.mp hf
      refine R_iaload et2 dX13_strikesBy_39 ?_
      refine R_iload 4 dX13_strikesBy_40 rfl ?_
      obtain ⟨q3, eq3, hf⟩ := Option.bind_eq_some_iff.mp hf
      refine R_callS (mj := mi_X13_has) (As := [.int t2, .int x4]) (rest := [.int x2]) (T_X13_has eq3) lS_X13_54 oky_X13_has (by decide) (by decide) rfl (C1_i C1_0) (Nat.le_of_ble_eq_true rfl) dX13_strikesBy_42 ?_
      refine R_ifeq (tgt := 65) dX13_strikesBy_45 (by decide) (fun hc => ?_) (fun hc => ?_)
      · rw [if_pos hc] at hf
        refine R_iconst dX13_strikesBy_65 k_iconst_0 ?_
        refine R_iadd dX13_strikesBy_66 ?_
        refine R_istore_n (L' := [(2, .int (x2 + 0)), (0, va_rf x0), (1, .int x1), (3, .int x3), (4, .int x4)]) dX13_strikesBy_67 rfl (by decide) rfl ?_
        refine R_iinc (L' := [(4, .int (x4 + 1)), (2, .int (x2 + 0)), (0, va_rf x0), (1, .int x1), (3, .int x3)]) 4 dX13_strikesBy_68 rfl (k_inc_1 _) (by decide) rfl ?_
        refine R_goto (tgt := 26) dX13_strikesBy_71 (by decide) ?_
        refine R.sub [2, 3, 1, 4, 0] (L' := [(0, va_rf x0), (1, .int x1), (2, .int (x2 + 0)), (3, .int x3), (4, .int (x4 + 1))]) rfl ?_
        exact ih x0 x1 (x2 + 0) x3 (x4 + 1) q3.2 hf
      · rw [if_neg hc] at hf
        refine R_aload_n 0 dX13_strikesBy_48 rfl rfl ?_
        refine R_iload_n 1 dX13_strikesBy_49 rfl rfl ?_
        refine R_iload_n 3 dX13_strikesBy_50 rfl rfl ?_
        refine R_iload 4 dX13_strikesBy_51 rfl ?_
        obtain ⟨u4, eu4, hf⟩ := Option.bind_eq_some_iff.mp hf
        obtain ⟨q5, eq5, hf⟩ := Option.bind_eq_some_iff.mp hf
        refine R_callV (mj := mi_X13_causeOf) (ci := 11) (q := (RX13, TX13, 24)) (As := [.int x1, .int x3, .int x4]) (rest := [.int x2]) (T_X13_causeOf eq5) eu4 rfl lV_X13_183 ⟨rfl, oky_X13_causeOf⟩ (by decide) (by decide) rfl (C1_i C1_0) (Nat.le_of_ble_eq_true rfl) dX13_strikesBy_53 ?_
        refine R_bipush dX13_strikesBy_56 k_bipush_m99 ?_
        refine R_iceq (tgt := 65) dX13_strikesBy_58 (by decide) (fun hc => ?_) (fun hc => ?_)
        · rw [if_pos hc] at hf
          refine R_iconst dX13_strikesBy_65 k_iconst_0 ?_
          refine R_iadd dX13_strikesBy_66 ?_
          refine R_istore_n (L' := [(2, .int (x2 + 0)), (0, va_rf x0), (1, .int x1), (3, .int x3), (4, .int x4)]) dX13_strikesBy_67 rfl (by decide) rfl ?_
          refine R_iinc (L' := [(4, .int (x4 + 1)), (2, .int (x2 + 0)), (0, va_rf x0), (1, .int x1), (3, .int x3)]) 4 dX13_strikesBy_68 rfl (k_inc_1 _) (by decide) rfl ?_
          refine R_goto (tgt := 26) dX13_strikesBy_71 (by decide) ?_
          refine R.sub [2, 3, 1, 4, 0] (L' := [(0, va_rf x0), (1, .int x1), (2, .int (x2 + 0)), (3, .int x3), (4, .int (x4 + 1))]) rfl ?_
          exact ih x0 x1 (x2 + 0) x3 (x4 + 1) q5.2 hf
        · rw [if_neg hc] at hf
          refine R_iconst dX13_strikesBy_61 k_iconst_1 ?_
          refine R_goto (tgt := 66) dX13_strikesBy_62 (by decide) ?_
          refine R_iadd dX13_strikesBy_66 ?_
          refine R_istore_n (L' := [(2, .int (x2 + 1)), (0, va_rf x0), (1, .int x1), (3, .int x3), (4, .int x4)]) dX13_strikesBy_67 rfl (by decide) rfl ?_
          refine R_iinc (L' := [(4, .int (x4 + 1)), (2, .int (x2 + 1)), (0, va_rf x0), (1, .int x1), (3, .int x3)]) 4 dX13_strikesBy_68 rfl (k_inc_1 _) (by decide) rfl ?_
          refine R_goto (tgt := 26) dX13_strikesBy_71 (by decide) ?_
          refine R.sub [2, 3, 1, 4, 0] (L' := [(0, va_rf x0), (1, .int x1), (2, .int (x2 + 1)), (3, .int x3), (4, .int (x4 + 1))]) rfl ?_
          exact ih x0 x1 (x2 + 1) x3 (x4 + 1) q5.2 hf
noncomputable def f_X13_strikesBy_L8  : Nat → Option Nat → Int32 → Int32 → Int32 → PH → Option (Int32 × PH)
  | 0, _, _, _, _, _ => none
  | k + 1, x0, x1, x2, x3, h => (rcv 11 x0 h).bind (fun u1 => (f_X13_cells x0 h).bind (fun q2 => if q2.1 ≤ x3 then (some (x2, q2.2)) else ((rcv 11 x0 q2.2).bind (fun u3 => (f_X13_isBroken x0 q2.2).bind (fun q4 => if q4.1 = 0 then (f_X13_strikesBy_L26 (f_X13_strikesBy_L8 k) FU x0 x1 x2 x3 1 q4.2) else (some (x2, q4.2)))))))
theorem f_X13_strikesBy_L8_ok {K : KT} {h0 : PH} {a0 : List Value} {q : (Int32 × PH)}  : ∀ (k : Nat) (x0 : Option Nat) (x1 : Int32) (x2 : Int32) (x3 : Int32) (h : PH), f_X13_strikesBy_L8  k x0 x1 x2 x3 h = some q → R K mi_X13_strikesBy h0 a0 (.inl (some (.int q.1))) q.2 8 [(0, va_rf x0), (1, .int x1), (2, .int x2), (3, .int x3)] [] h := by
  intro k
  induction k with
  | zero => intro _ _ _ _ _ hf; cases hf
  | succ k ih =>
    intro x0 x1 x2 x3 h hf
    unfold f_X13_strikesBy_L8 at hf
    refine R_iload_n 3 dX13_strikesBy_8 rfl rfl ?_
    refine R_aload_n 0 dX13_strikesBy_9 rfl rfl ?_
    obtain ⟨u1, eu1, hf⟩ := Option.bind_eq_some_iff.mp hf
    obtain ⟨q2, eq2, hf⟩ := Option.bind_eq_some_iff.mp hf
    refine R_callV (mj := mi_X13_cells) (ci := 11) (q := (RX13, TX13, 24)) (As := []) (rest := [.int x3]) (T_X13_cells eq2) eu1 rfl lV_X13_61 ⟨rfl, oky_X13_cells⟩ (by decide) (by decide) rfl (C1_i C1_0) (Nat.le_of_ble_eq_true rfl) dX13_strikesBy_10 ?_
    refine R_icge (tgt := 80) dX13_strikesBy_13 (by decide) (fun hc => ?_) (fun hc => ?_)
    · rw [if_pos hc] at hf
      refine R_iload_n 2 dX13_strikesBy_80 rfl rfl ?_
      obtain rfl := Option.some.inj hf
      exact R_iretI rfl dX13_strikesBy_81
    · rw [if_neg hc] at hf
      refine R_aload_n 0 dX13_strikesBy_16 rfl rfl ?_
      obtain ⟨u3, eu3, hf⟩ := Option.bind_eq_some_iff.mp hf
      obtain ⟨q4, eq4, hf⟩ := Option.bind_eq_some_iff.mp hf
      refine R_callV (mj := mi_X13_isBroken) (ci := 11) (q := (RX13, TX13, 24)) (As := []) (rest := []) (T_X13_isBroken eq4) eu3 rfl lV_X13_145 ⟨rfl, oky_X13_isBroken⟩ (by decide) (by decide) rfl C1_0 (Nat.le_of_ble_eq_true rfl) dX13_strikesBy_17 ?_
      refine R_ifne (tgt := 80) dX13_strikesBy_20 (by decide) (fun hc => ?_) (fun hc => ?_)
      · rw [if_pos hc] at hf
        refine R_iconst dX13_strikesBy_23 k_iconst_1 ?_
        refine R_istore (L' := [(4, .int 1), (0, va_rf x0), (1, .int x1), (2, .int x2), (3, .int x3)]) dX13_strikesBy_24 (by decide) rfl ?_
        refine R.sub [1, 2, 3, 4, 0] (L' := [(0, va_rf x0), (1, .int x1), (2, .int x2), (3, .int x3), (4, .int 1)]) rfl ?_
        exact f_X13_strikesBy_L26_ok ih FU x0 x1 x2 x3 1 q4.2 hf
      · rw [if_neg hc] at hf
        refine R_iload_n 2 dX13_strikesBy_80 rfl rfl ?_
        obtain rfl := Option.some.inj hf
        exact R_iretI rfl dX13_strikesBy_81
noncomputable def f_X13_strikesBy (x0 : Option Nat) (x1 : Int32) (h : PH) : Option (Int32 × PH) := (rcv 11 x0 h).bind (fun u1 => (f_X13_layPlayers x0 h).bind (fun h2 => f_X13_strikesBy_L8  FU x0 x1 0 0 h2))
theorem T_X13_strikesBy {K : KT} {x0 : Option Nat} {x1 : Int32} {h : PH} {q : (Int32 × PH)} (hf : f_X13_strikesBy x0 x1 h = some q) : T K mi_X13_strikesBy [va_rf x0, .int x1] h (.inl (some (.int q.1))) q.2 := by
  unfold f_X13_strikesBy at hf
  refine T_of (by decide +kernel) rfl (C1_r (C1_i C1_0)) (Nat.le_of_ble_eq_true rfl) ?_
  show R K mi_X13_strikesBy h [va_rf x0, .int x1] _ _ 0 [(0, va_rf x0), (1, .int x1)] [] h
  refine R_aload_n 0 dX13_strikesBy_0 rfl rfl ?_
  obtain ⟨u1, eu1, hf⟩ := Option.bind_eq_some_iff.mp hf
  obtain ⟨h2, eh2, hf⟩ := Option.bind_eq_some_iff.mp hf
  refine R_callV (mj := mi_X13_layPlayers) (ci := 11) (q := (RX13, TX13, 24)) (As := []) (rest := []) (T_X13_layPlayers eh2) eu1 rfl lV_X13_237 ⟨rfl, oky_X13_layPlayers⟩ (by decide) (by decide) rfl C1_0 (Nat.le_of_ble_eq_true rfl) dX13_strikesBy_1 ?_
  refine R_iconst dX13_strikesBy_4 k_iconst_0 ?_
  refine R_istore_n (L' := [(2, .int 0), (0, va_rf x0), (1, .int x1)]) dX13_strikesBy_5 rfl (by decide) rfl ?_
  refine R_iconst dX13_strikesBy_6 k_iconst_0 ?_
  refine R_istore_n (L' := [(3, .int 0), (2, .int 0), (0, va_rf x0), (1, .int x1)]) dX13_strikesBy_7 rfl (by decide) rfl ?_
  refine R.sub [2, 3, 1, 0] (L' := [(0, va_rf x0), (1, .int x1), (2, .int 0), (3, .int 0)]) rfl ?_
  exact f_X13_strikesBy_L8_ok  FU x0 x1 0 0 h2 hf
abbrev mi_X13_goThrough : MI := (RX13, yX13_goThrough, cX13_goThrough, 1, none, 8)
noncomputable def f_X13_goThrough (x0 : Option Nat) (h : PH) : Option PH := (rcv 11 x0 h).bind (fun u1 => (f_X13_layFirst x0 h).bind (fun h2 => (gfr 11 1 x0 h2).bind (fun t3 => (ald 0 t3 2 h2).bind (fun t4 => (rcv 11 x0 h2).bind (fun u5 => (f_X13_goToEnd x0 t4 h2).bind (fun h6 => some h6))))))
theorem T_X13_goThrough {K : KT} {x0 : Option Nat} {h : PH} {q : PH} (hf : f_X13_goThrough x0 h = some q) : T K mi_X13_goThrough [va_rf x0] h (.inl none) q := by
  unfold f_X13_goThrough at hf
  refine T_of (by decide +kernel) rfl (C1_r C1_0) (Nat.le_of_ble_eq_true rfl) ?_
  show R K mi_X13_goThrough h [va_rf x0] _ _ 0 [(0, va_rf x0)] [] h
  refine R_aload_n 0 dX13_goThrough_0 rfl rfl ?_
  obtain ⟨u1, eu1, hf⟩ := Option.bind_eq_some_iff.mp hf
  obtain ⟨h2, eh2, hf⟩ := Option.bind_eq_some_iff.mp hf
  refine R_callV (mj := mi_X13_layFirst) (ci := 11) (q := (RX13, TX13, 24)) (As := []) (rest := []) (T_X13_layFirst eh2) eu1 rfl lV_X13_139 ⟨rfl, oky_X13_layFirst⟩ (by decide) (by decide) rfl C1_0 (Nat.le_of_ble_eq_true rfl) dX13_goThrough_1 ?_
  refine R_aload_n 0 dX13_goThrough_4 rfl rfl ?_
  refine R_aload_n 0 dX13_goThrough_5 rfl rfl ?_
  obtain ⟨t3, et3, hf⟩ := Option.bind_eq_some_iff.mp hf
  refine R_getr lg_X13_7 et3 dX13_goThrough_6 ?_
  refine R_iconst dX13_goThrough_9 k_iconst_2 ?_
  obtain ⟨t4, et4, hf⟩ := Option.bind_eq_some_iff.mp hf
  refine R_iaload et4 dX13_goThrough_10 ?_
  obtain ⟨u5, eu5, hf⟩ := Option.bind_eq_some_iff.mp hf
  obtain ⟨h6, eh6, hf⟩ := Option.bind_eq_some_iff.mp hf
  refine R_callV (mj := mi_X13_goToEnd) (ci := 11) (q := (RX13, TX13, 24)) (As := [.int t4]) (rest := []) (T_X13_goToEnd eh6) eu5 rfl lV_X13_204 ⟨rfl, oky_X13_goToEnd⟩ (by decide) (by decide) rfl C1_0 (Nat.le_of_ble_eq_true rfl) dX13_goThrough_11 ?_
  obtain rfl := Option.some.inj hf
  exact R_return rfl dX13_goThrough_14
theorem lV_X13_326 : GoodIn lw_all (wsV "EdgeSumsModel" 326 "EdgeSumsModel" yX13_strikesBy (ws_ yX13_strikesBy cX13_strikesBy 5 (some FieldType.int))) := lw_V q3103 q3105 qs117 q158 q3106
theorem oky_X13_strikesBy : okY yX13_strikesBy 1 := ⟨by decide +kernel, by decide +kernel, by decide +kernel⟩
theorem lV_X13_329 : GoodIn lw_all (wsV "EdgeSumsModel" 329 "EdgeSumsModel" yX13_goThrough (ws_ yX13_goThrough cX13_goThrough 1 none)) := lw_V q3107 q3109 qs118 q158 q3110
theorem oky_X13_goThrough : okY yX13_goThrough 0 := ⟨by decide +kernel, by decide +kernel, by decide +kernel⟩
abbrev mi_X13_rule : MI := (RX13, yX13_rule, cX13_rule, 5, (some FieldType.int), 9)
noncomputable def f_X13_rule_L76  : Nat → Option Nat → Int32 → Int32 → Int32 → PH → Option (Int32 × PH)
  | 0, _, _, _, _, _ => none
  | k + 1, x0, x1, x3, x4, h => (gfi 11 13 x0 h).bind (fun t1 => if t1 ≤ x4 then (some (x3, h)) else ((gfr 11 12 x0 h).bind (fun t2 => (ald 0 t2 (4 * x4) h).bind (fun t3 => if t3 = x1 then ((f_X13_rule_L76 k) x0 x1 (x3 + 1) (x4 + 1) h) else ((f_X13_rule_L76 k) x0 x1 (x3 + 0) (x4 + 1) h)))))
theorem f_X13_rule_L76_ok {K : KT} {h0 : PH} {a0 : List Value} {q : (Int32 × PH)}  : ∀ (k : Nat) (x0 : Option Nat) (x1 : Int32) (x3 : Int32) (x4 : Int32) (h : PH), f_X13_rule_L76  k x0 x1 x3 x4 h = some q → R K mi_X13_rule h0 a0 (.inl (some (.int q.1))) q.2 76 [(0, va_rf x0), (1, .int x1), (3, .int x3), (4, .int x4)] [] h := by
  intro k
  induction k with
  | zero => intro _ _ _ _ _ hf; cases hf
  | succ k ih =>
    intro x0 x1 x3 x4 h hf
    unfold f_X13_rule_L76 at hf
    refine R_iload 3 dX13_rule_76 rfl ?_
    refine R_aload_n 0 dX13_rule_78 rfl rfl ?_
    obtain ⟨t1, et1, hf⟩ := Option.bind_eq_some_iff.mp hf
    refine R_geti lg_X13_198 et1 dX13_rule_79 ?_
    refine R_icge (tgt := 112) dX13_rule_82 (by decide) (fun hc => ?_) (fun hc => ?_)
    · rw [if_pos hc] at hf
      refine R_iload_n 2 dX13_rule_112 rfl rfl ?_
      obtain rfl := Option.some.inj hf
      exact R_iretI rfl dX13_rule_113
    · rw [if_neg hc] at hf
      refine R_iload_n 2 dX13_rule_85 rfl rfl ?_
      refine R_aload_n 0 dX13_rule_86 rfl rfl ?_
      obtain ⟨t2, et2, hf⟩ := Option.bind_eq_some_iff.mp hf
      refine R_getr lg_X13_25 et2 dX13_rule_87 ?_
      refine R_iconst dX13_rule_90 k_iconst_4 ?_
      refine R_iload 3 dX13_rule_91 rfl ?_
      refine R_imul dX13_rule_93 ?_
      obtain ⟨t3, et3, hf⟩ := Option.bind_eq_some_iff.mp hf
      refine R_iaload et3 dX13_rule_94 ?_
      refine R_iload_n 1 dX13_rule_95 rfl rfl ?_
      refine R_icne (tgt := 103) dX13_rule_96 (by decide) (fun hc => ?_) (fun hc => ?_)
      · rw [if_pos hc] at hf
        refine R_iconst dX13_rule_99 k_iconst_1 ?_
        refine R_goto (tgt := 104) dX13_rule_100 (by decide) ?_
        refine R_iadd dX13_rule_104 ?_
        refine R_istore_n (L' := [(3, .int (x3 + 1)), (0, va_rf x0), (1, .int x1), (4, .int x4)]) dX13_rule_105 rfl (by decide) rfl ?_
        refine R_iinc (L' := [(4, .int (x4 + 1)), (3, .int (x3 + 1)), (0, va_rf x0), (1, .int x1)]) 3 dX13_rule_106 rfl (k_inc_1 _) (by decide) rfl ?_
        refine R_goto (tgt := 76) dX13_rule_109 (by decide) ?_
        refine R.sub [2, 3, 1, 0] (L' := [(0, va_rf x0), (1, .int x1), (3, .int (x3 + 1)), (4, .int (x4 + 1))]) rfl ?_
        exact ih x0 x1 (x3 + 1) (x4 + 1) h hf
      · rw [if_neg hc] at hf
        refine R_iconst dX13_rule_103 k_iconst_0 ?_
        refine R_iadd dX13_rule_104 ?_
        refine R_istore_n (L' := [(3, .int (x3 + 0)), (0, va_rf x0), (1, .int x1), (4, .int x4)]) dX13_rule_105 rfl (by decide) rfl ?_
        refine R_iinc (L' := [(4, .int (x4 + 1)), (3, .int (x3 + 0)), (0, va_rf x0), (1, .int x1)]) 3 dX13_rule_106 rfl (k_inc_1 _) (by decide) rfl ?_
        refine R_goto (tgt := 76) dX13_rule_109 (by decide) ?_
        refine R.sub [2, 3, 1, 0] (L' := [(0, va_rf x0), (1, .int x1), (3, .int (x3 + 0)), (4, .int (x4 + 1))]) rfl ?_
        exact ih x0 x1 (x3 + 0) (x4 + 1) h hf
noncomputable def f_X13_rule (x0 : Option Nat) (x1 : Int32) (x2 : Int32) (h : PH) : Option (Int32 × PH) := (pf 11 0 x0 (.int 0) h).bind (fun h1 => (f_X13_in x1 0 4 h1).bind (fun q2 => if q2.1 = 0 then (some ((-1), q2.2)) else ((f_X13_in x2 0 3 q2.2).bind (fun q3 => if q3.1 = 0 then (some ((-1), q3.2)) else (if 2 ≤ x2 then (if x2 = 3 then ((rcv 11 x0 q3.2).bind (fun u4 => (f_X13_strikesBy x0 x1 q3.2).bind (fun q5 => some (q5.1, q5.2)))) else ((rcv 11 x0 q3.2).bind (fun u6 => (f_X13_goThrough x0 q3.2).bind (fun h7 => f_X13_rule_L76  FU x0 x1 0 0 h7)))) else (if x2 = 0 then ((gfr 11 1 x0 q3.2).bind (fun t8 => (ald 0 t8 2 q3.2).bind (fun t9 => some ((t9 >>> (x1 &&& 31)) &&& 1, q3.2)))) else ((gfr 11 1 x0 q3.2).bind (fun t10 => (ald 0 t10 (3 + x1) q3.2).bind (fun t11 => some (t11, q3.2))))))))))
theorem T_X13_rule {K : KT} {x0 : Option Nat} {x1 : Int32} {x2 : Int32} {h : PH} {q : (Int32 × PH)} (hf : f_X13_rule x0 x1 x2 h = some q) : T K mi_X13_rule [va_rf x0, .int x1, .int x2] h (.inl (some (.int q.1))) q.2 := by
  unfold f_X13_rule at hf
  refine T_of (by decide +kernel) rfl (C1_r (C1_i (C1_i C1_0))) (Nat.le_of_ble_eq_true rfl) ?_
  show R K mi_X13_rule h [va_rf x0, .int x1, .int x2] _ _ 0 [(0, va_rf x0), (1, .int x1), (2, .int x2)] [] h
  refine R_aload_n 0 dX13_rule_0 rfl rfl ?_
  refine R_iconst dX13_rule_1 k_iconst_0 ?_
  obtain ⟨h1, eh1, hf⟩ := Option.bind_eq_some_iff.mp hf
  refine R_putI (fp_X13_43 rfl) eh1 dX13_rule_2 ?_
  refine R_iload_n 1 dX13_rule_5 rfl rfl ?_
  refine R_iconst dX13_rule_6 k_iconst_0 ?_
  refine R_iconst dX13_rule_7 k_iconst_4 ?_
  obtain ⟨q2, eq2, hf⟩ := Option.bind_eq_some_iff.mp hf
  refine R_callS (mj := mi_X13_in) (As := [.int x1, .int 0, .int 4]) (rest := []) (T_X13_in eq2) lS_X13_65 oky_X13_in (by decide) (by decide) rfl C1_0 (Nat.le_of_ble_eq_true rfl) dX13_rule_8 ?_
  refine R_ifeq (tgt := 23) dX13_rule_11 (by decide) (fun hc => ?_) (fun hc => ?_)
  · rw [if_pos hc] at hf
    refine R_iconst dX13_rule_23 k_iconst_m1 ?_
    obtain rfl := Option.some.inj hf
    exact R_iretI rfl dX13_rule_24
  · rw [if_neg hc] at hf
    refine R_iload_n 2 dX13_rule_14 rfl rfl ?_
    refine R_iconst dX13_rule_15 k_iconst_0 ?_
    refine R_iconst dX13_rule_16 k_iconst_3 ?_
    obtain ⟨q3, eq3, hf⟩ := Option.bind_eq_some_iff.mp hf
    refine R_callS (mj := mi_X13_in) (As := [.int x2, .int 0, .int 3]) (rest := []) (T_X13_in eq3) lS_X13_65 oky_X13_in (by decide) (by decide) rfl C1_0 (Nat.le_of_ble_eq_true rfl) dX13_rule_17 ?_
    refine R_ifne (tgt := 25) dX13_rule_20 (by decide) (fun hc => ?_) (fun hc => ?_)
    · rw [if_pos hc] at hf
      refine R_iconst dX13_rule_23 k_iconst_m1 ?_
      obtain rfl := Option.some.inj hf
      exact R_iretI rfl dX13_rule_24
    · rw [if_neg hc] at hf
      refine R_iload_n 2 dX13_rule_25 rfl rfl ?_
      refine R_iconst dX13_rule_26 k_iconst_2 ?_
      refine R_icge (tgt := 56) dX13_rule_27 (by decide) (fun hc => ?_) (fun hc => ?_)
      · rw [if_pos hc] at hf
        refine R_iload_n 2 dX13_rule_56 rfl rfl ?_
        refine R_iconst dX13_rule_57 k_iconst_3 ?_
        refine R_icne (tgt := 67) dX13_rule_58 (by decide) (fun hc => ?_) (fun hc => ?_)
        · rw [if_pos hc] at hf
          refine R_aload_n 0 dX13_rule_61 rfl rfl ?_
          refine R_iload_n 1 dX13_rule_62 rfl rfl ?_
          obtain ⟨u4, eu4, hf⟩ := Option.bind_eq_some_iff.mp hf
          obtain ⟨q5, eq5, hf⟩ := Option.bind_eq_some_iff.mp hf
          refine R_callV (mj := mi_X13_strikesBy) (ci := 11) (q := (RX13, TX13, 24)) (As := [.int x1]) (rest := []) (T_X13_strikesBy eq5) eu4 rfl lV_X13_326 ⟨rfl, oky_X13_strikesBy⟩ (by decide) (by decide) rfl C1_0 (Nat.le_of_ble_eq_true rfl) dX13_rule_63 ?_
          obtain rfl := Option.some.inj hf
          exact R_iretI rfl dX13_rule_66
        · rw [if_neg hc] at hf
          refine R_aload_n 0 dX13_rule_67 rfl rfl ?_
          obtain ⟨u6, eu6, hf⟩ := Option.bind_eq_some_iff.mp hf
          obtain ⟨h7, eh7, hf⟩ := Option.bind_eq_some_iff.mp hf
          refine R_callV (mj := mi_X13_goThrough) (ci := 11) (q := (RX13, TX13, 24)) (As := []) (rest := []) (T_X13_goThrough eh7) eu6 rfl lV_X13_329 ⟨rfl, oky_X13_goThrough⟩ (by decide) (by decide) rfl C1_0 (Nat.le_of_ble_eq_true rfl) dX13_rule_68 ?_
          refine R_iconst dX13_rule_71 k_iconst_0 ?_
          refine R_istore_n (L' := [(3, .int 0), (0, va_rf x0), (1, .int x1), (2, .int x2)]) dX13_rule_72 rfl (by decide) rfl ?_
          refine R_iconst dX13_rule_73 k_iconst_0 ?_
          refine R_istore (L' := [(4, .int 0), (3, .int 0), (0, va_rf x0), (1, .int x1), (2, .int x2)]) dX13_rule_74 (by decide) rfl ?_
          refine R.sub [2, 3, 1, 0] (L' := [(0, va_rf x0), (1, .int x1), (3, .int 0), (4, .int 0)]) rfl ?_
          exact f_X13_rule_L76_ok  FU x0 x1 0 0 h7 hf
      · rw [if_neg hc] at hf
        refine R_iload_n 2 dX13_rule_30 rfl rfl ?_
        refine R_ifne (tgt := 47) dX13_rule_31 (by decide) (fun hc => ?_) (fun hc => ?_)
        · rw [if_pos hc] at hf
          refine R_aload_n 0 dX13_rule_34 rfl rfl ?_
          obtain ⟨t8, et8, hf⟩ := Option.bind_eq_some_iff.mp hf
          refine R_getr lg_X13_7 et8 dX13_rule_35 ?_
          refine R_iconst dX13_rule_38 k_iconst_2 ?_
          obtain ⟨t9, et9, hf⟩ := Option.bind_eq_some_iff.mp hf
          refine R_iaload et9 dX13_rule_39 ?_
          refine R_iload_n 1 dX13_rule_40 rfl rfl ?_
          refine R_ishr dX13_rule_41 ?_
          refine R_iconst dX13_rule_42 k_iconst_1 ?_
          refine R_iand dX13_rule_43 ?_
          refine R_goto (tgt := 55) dX13_rule_44 (by decide) ?_
          obtain rfl := Option.some.inj hf
          exact R_iretI rfl dX13_rule_55
        · rw [if_neg hc] at hf
          refine R_aload_n 0 dX13_rule_47 rfl rfl ?_
          obtain ⟨t10, et10, hf⟩ := Option.bind_eq_some_iff.mp hf
          refine R_getr lg_X13_7 et10 dX13_rule_48 ?_
          refine R_iconst dX13_rule_51 k_iconst_3 ?_
          refine R_iload_n 1 dX13_rule_52 rfl rfl ?_
          refine R_iadd dX13_rule_53 ?_
          obtain ⟨t11, et11, hf⟩ := Option.bind_eq_some_iff.mp hf
          refine R_iaload et11 dX13_rule_54 ?_
          obtain rfl := Option.some.inj hf
          exact R_iretI rfl dX13_rule_55
abbrev mi_X13_possible : MI := (RX13, yX13_possible, cX13_possible, 3, (some FieldType.int), 5)
noncomputable def f_X13_possible (x0 : Option Nat) (x1 : Int32) (x2 : Int32) (h : PH) : Option (Int32 × PH) := (pf 11 0 x0 (.int 0) h).bind (fun h1 => (rcv 11 x0 h1).bind (fun u2 => (f_X13_isNumber x0 x1 x2 h1).bind (fun q3 => if q3.1 = 0 then (some ((-1), q3.2)) else ((gfr 11 1 x0 q3.2).bind (fun t4 => (ald 0 t4 (93 + x1) q3.2).bind (fun t5 => some ((t5 >>> (x2 &&& 31)) &&& 1, q3.2)))))))
theorem T_X13_possible {K : KT} {x0 : Option Nat} {x1 : Int32} {x2 : Int32} {h : PH} {q : (Int32 × PH)} (hf : f_X13_possible x0 x1 x2 h = some q) : T K mi_X13_possible [va_rf x0, .int x1, .int x2] h (.inl (some (.int q.1))) q.2 := by
  unfold f_X13_possible at hf
  refine T_of (by decide +kernel) rfl (C1_r (C1_i (C1_i C1_0))) (Nat.le_of_ble_eq_true rfl) ?_
  show R K mi_X13_possible h [va_rf x0, .int x1, .int x2] _ _ 0 [(0, va_rf x0), (1, .int x1), (2, .int x2)] [] h
  refine R_aload_n 0 dX13_possible_0 rfl rfl ?_
  refine R_iconst dX13_possible_1 k_iconst_0 ?_
  obtain ⟨h1, eh1, hf⟩ := Option.bind_eq_some_iff.mp hf
  refine R_putI (fp_X13_43 rfl) eh1 dX13_possible_2 ?_
  refine R_aload_n 0 dX13_possible_5 rfl rfl ?_
  refine R_iload_n 1 dX13_possible_6 rfl rfl ?_
  refine R_iload_n 2 dX13_possible_7 rfl rfl ?_
  obtain ⟨u2, eu2, hf⟩ := Option.bind_eq_some_iff.mp hf
  obtain ⟨q3, eq3, hf⟩ := Option.bind_eq_some_iff.mp hf
  refine R_callV (mj := mi_X13_isNumber) (ci := 11) (q := (RX13, TX13, 24)) (As := [.int x1, .int x2]) (rest := []) (T_X13_isNumber eq3) eu2 rfl lV_X13_234 ⟨rfl, oky_X13_isNumber⟩ (by decide) (by decide) rfl C1_0 (Nat.le_of_ble_eq_true rfl) dX13_possible_8 ?_
  refine R_ifeq (tgt := 30) dX13_possible_11 (by decide) (fun hc => ?_) (fun hc => ?_)
  · rw [if_pos hc] at hf
    refine R_iconst dX13_possible_30 k_iconst_m1 ?_
    obtain rfl := Option.some.inj hf
    exact R_iretI rfl dX13_possible_31
  · rw [if_neg hc] at hf
    refine R_aload_n 0 dX13_possible_14 rfl rfl ?_
    obtain ⟨t4, et4, hf⟩ := Option.bind_eq_some_iff.mp hf
    refine R_getr lg_X13_7 et4 dX13_possible_15 ?_
    refine R_bipush dX13_possible_18 k_bipush_93 ?_
    refine R_iload_n 1 dX13_possible_20 rfl rfl ?_
    refine R_iadd dX13_possible_21 ?_
    obtain ⟨t5, et5, hf⟩ := Option.bind_eq_some_iff.mp hf
    refine R_iaload et5 dX13_possible_22 ?_
    refine R_iload_n 2 dX13_possible_23 rfl rfl ?_
    refine R_ishr dX13_possible_24 ?_
    refine R_iconst dX13_possible_25 k_iconst_1 ?_
    refine R_iand dX13_possible_26 ?_
    refine R_goto (tgt := 31) dX13_possible_27 (by decide) ?_
    obtain rfl := Option.some.inj hf
    exact R_iretI rfl dX13_possible_31
abbrev mi_X13_why : MI := (RX13, yX13_why, cX13_why, 5, (some FieldType.int), 7)
noncomputable def f_X13_why (x0 : Option Nat) (x1 : Int32) (x2 : Int32) (x3 : Int32) (h : PH) : Option (Int32 × PH) := (pf 11 0 x0 (.int 0) h).bind (fun h1 => (rcv 11 x0 h1).bind (fun u2 => (f_X13_isNumber x0 x1 x2 h1).bind (fun q3 => if q3.1 = 0 then (some ((-1), q3.2)) else ((f_X13_in x3 0 1 q3.2).bind (fun q4 => if q4.1 = 0 then (some ((-1), q4.2)) else ((rcv 11 x0 q4.2).bind (fun u5 => (f_X13_layPlayers x0 q4.2).bind (fun h6 => (rcv 11 x0 h6).bind (fun u7 => (f_X13_strikerOf x0 x1 x2 h6).bind (fun q8 => if q8.1 = (-99) then (some (q8.1, q8.2)) else (if x3 = 0 then (some (q8.1, q8.2)) else ((gfi 11 11 x0 q8.2).bind (fun t9 => some (t9, q8.2))))))))))))))
theorem T_X13_why {K : KT} {x0 : Option Nat} {x1 : Int32} {x2 : Int32} {x3 : Int32} {h : PH} {q : (Int32 × PH)} (hf : f_X13_why x0 x1 x2 x3 h = some q) : T K mi_X13_why [va_rf x0, .int x1, .int x2, .int x3] h (.inl (some (.int q.1))) q.2 := by
  unfold f_X13_why at hf
  refine T_of (by decide +kernel) rfl (C1_r (C1_i (C1_i (C1_i C1_0)))) (Nat.le_of_ble_eq_true rfl) ?_
  show R K mi_X13_why h [va_rf x0, .int x1, .int x2, .int x3] _ _ 0 [(0, va_rf x0), (1, .int x1), (2, .int x2), (3, .int x3)] [] h
  refine R_aload_n 0 dX13_why_0 rfl rfl ?_
  refine R_iconst dX13_why_1 k_iconst_0 ?_
  obtain ⟨h1, eh1, hf⟩ := Option.bind_eq_some_iff.mp hf
  refine R_putI (fp_X13_43 rfl) eh1 dX13_why_2 ?_
  refine R_aload_n 0 dX13_why_5 rfl rfl ?_
  refine R_iload_n 1 dX13_why_6 rfl rfl ?_
  refine R_iload_n 2 dX13_why_7 rfl rfl ?_
  obtain ⟨u2, eu2, hf⟩ := Option.bind_eq_some_iff.mp hf
  obtain ⟨q3, eq3, hf⟩ := Option.bind_eq_some_iff.mp hf
  refine R_callV (mj := mi_X13_isNumber) (ci := 11) (q := (RX13, TX13, 24)) (As := [.int x1, .int x2]) (rest := []) (T_X13_isNumber eq3) eu2 rfl lV_X13_234 ⟨rfl, oky_X13_isNumber⟩ (by decide) (by decide) rfl C1_0 (Nat.le_of_ble_eq_true rfl) dX13_why_8 ?_
  refine R_ifeq (tgt := 23) dX13_why_11 (by decide) (fun hc => ?_) (fun hc => ?_)
  · rw [if_pos hc] at hf
    refine R_iconst dX13_why_23 k_iconst_m1 ?_
    obtain rfl := Option.some.inj hf
    exact R_iretI rfl dX13_why_24
  · rw [if_neg hc] at hf
    refine R_iload_n 3 dX13_why_14 rfl rfl ?_
    refine R_iconst dX13_why_15 k_iconst_0 ?_
    refine R_iconst dX13_why_16 k_iconst_1 ?_
    obtain ⟨q4, eq4, hf⟩ := Option.bind_eq_some_iff.mp hf
    refine R_callS (mj := mi_X13_in) (As := [.int x3, .int 0, .int 1]) (rest := []) (T_X13_in eq4) lS_X13_65 oky_X13_in (by decide) (by decide) rfl C1_0 (Nat.le_of_ble_eq_true rfl) dX13_why_17 ?_
    refine R_ifne (tgt := 25) dX13_why_20 (by decide) (fun hc => ?_) (fun hc => ?_)
    · rw [if_pos hc] at hf
      refine R_iconst dX13_why_23 k_iconst_m1 ?_
      obtain rfl := Option.some.inj hf
      exact R_iretI rfl dX13_why_24
    · rw [if_neg hc] at hf
      refine R_aload_n 0 dX13_why_25 rfl rfl ?_
      obtain ⟨u5, eu5, hf⟩ := Option.bind_eq_some_iff.mp hf
      obtain ⟨h6, eh6, hf⟩ := Option.bind_eq_some_iff.mp hf
      refine R_callV (mj := mi_X13_layPlayers) (ci := 11) (q := (RX13, TX13, 24)) (As := []) (rest := []) (T_X13_layPlayers eh6) eu5 rfl lV_X13_237 ⟨rfl, oky_X13_layPlayers⟩ (by decide) (by decide) rfl C1_0 (Nat.le_of_ble_eq_true rfl) dX13_why_26 ?_
      refine R_aload_n 0 dX13_why_29 rfl rfl ?_
      refine R_iload_n 1 dX13_why_30 rfl rfl ?_
      refine R_iload_n 2 dX13_why_31 rfl rfl ?_
      obtain ⟨u7, eu7, hf⟩ := Option.bind_eq_some_iff.mp hf
      obtain ⟨q8, eq8, hf⟩ := Option.bind_eq_some_iff.mp hf
      refine R_callV (mj := mi_X13_strikerOf) (ci := 11) (q := (RX13, TX13, 24)) (As := [.int x1, .int x2]) (rest := []) (T_X13_strikerOf eq8) eu7 rfl lV_X13_240 ⟨rfl, oky_X13_strikerOf⟩ (by decide) (by decide) rfl C1_0 (Nat.le_of_ble_eq_true rfl) dX13_why_32 ?_
      refine R_istore (L' := [(4, .int q8.1), (0, va_rf x0), (1, .int x1), (2, .int x2), (3, .int x3)]) dX13_why_35 (by decide) rfl ?_
      refine R_iload 0 dX13_why_37 rfl ?_
      refine R_bipush dX13_why_39 k_bipush_m99 ?_
      refine R_iceq (tgt := 48) dX13_why_41 (by decide) (fun hc => ?_) (fun hc => ?_)
      · rw [if_pos hc] at hf
        refine R_iload 0 dX13_why_48 rfl ?_
        refine R_goto (tgt := 57) dX13_why_50 (by decide) ?_
        obtain rfl := Option.some.inj hf
        exact R_iretI rfl dX13_why_57
      · rw [if_neg hc] at hf
        refine R_iload_n 4 dX13_why_44 rfl rfl ?_
        refine R_ifne (tgt := 53) dX13_why_45 (by decide) (fun hc => ?_) (fun hc => ?_)
        · rw [if_pos hc] at hf
          refine R_iload 0 dX13_why_48 rfl ?_
          refine R_goto (tgt := 57) dX13_why_50 (by decide) ?_
          obtain rfl := Option.some.inj hf
          exact R_iretI rfl dX13_why_57
        · rw [if_neg hc] at hf
          refine R_aload_n 1 dX13_why_53 rfl rfl ?_
          obtain ⟨t9, et9, hf⟩ := Option.bind_eq_some_iff.mp hf
          refine R_geti lg_X13_195 et9 dX13_why_54 ?_
          obtain rfl := Option.some.inj hf
          exact R_iretI rfl dX13_why_57
abbrev mi_X13_partOf : MI := (RX13, yX13_partOf, cX13_partOf, 2, (some FieldType.int), 1)
noncomputable def f_X13_partOf (x0 : Option Nat) (x1 : Int32) (h : PH) : Option (Int32 × PH) := if x1 = 0 then ((gfi 11 8 x0 h).bind (fun t1 => some (t1, h))) else (if x1 = 1 then ((gfi 11 9 x0 h).bind (fun t2 => some (t2, h))) else (if x1 = 2 then ((gfi 11 10 x0 h).bind (fun t3 => some (t3, h))) else ((gfi 11 11 x0 h).bind (fun t4 => some (t4, h)))))
theorem T_X13_partOf {K : KT} {x0 : Option Nat} {x1 : Int32} {h : PH} {q : (Int32 × PH)} (hf : f_X13_partOf x0 x1 h = some q) : T K mi_X13_partOf [va_rf x0, .int x1] h (.inl (some (.int q.1))) q.2 := by
  unfold f_X13_partOf at hf
  refine T_of (by decide +kernel) rfl (C1_r (C1_i C1_0)) (Nat.le_of_ble_eq_true rfl) ?_
  show R K mi_X13_partOf h [va_rf x0, .int x1] _ _ 0 [(0, va_rf x0), (1, .int x1)] [] h
  refine R_iload_n 1 dX13_partOf_0 rfl rfl ?_
  refine R_ifne (tgt := 11) dX13_partOf_1 (by decide) (fun hc => ?_) (fun hc => ?_)
  · rw [if_pos hc] at hf
    refine R_aload_n 0 dX13_partOf_4 rfl rfl ?_
    obtain ⟨t1, et1, hf⟩ := Option.bind_eq_some_iff.mp hf
    refine R_geti lg_X13_186 et1 dX13_partOf_5 ?_
    refine R_goto (tgt := 39) dX13_partOf_8 (by decide) ?_
    obtain rfl := Option.some.inj hf
    exact R_iretI rfl dX13_partOf_39
  · rw [if_neg hc] at hf
    refine R_iload_n 1 dX13_partOf_11 rfl rfl ?_
    refine R_iconst dX13_partOf_12 k_iconst_1 ?_
    refine R_icne (tgt := 23) dX13_partOf_13 (by decide) (fun hc => ?_) (fun hc => ?_)
    · rw [if_pos hc] at hf
      refine R_aload_n 0 dX13_partOf_16 rfl rfl ?_
      obtain ⟨t2, et2, hf⟩ := Option.bind_eq_some_iff.mp hf
      refine R_geti lg_X13_189 et2 dX13_partOf_17 ?_
      refine R_goto (tgt := 39) dX13_partOf_20 (by decide) ?_
      obtain rfl := Option.some.inj hf
      exact R_iretI rfl dX13_partOf_39
    · rw [if_neg hc] at hf
      refine R_iload_n 1 dX13_partOf_23 rfl rfl ?_
      refine R_iconst dX13_partOf_24 k_iconst_2 ?_
      refine R_icne (tgt := 35) dX13_partOf_25 (by decide) (fun hc => ?_) (fun hc => ?_)
      · rw [if_pos hc] at hf
        refine R_aload_n 0 dX13_partOf_28 rfl rfl ?_
        obtain ⟨t3, et3, hf⟩ := Option.bind_eq_some_iff.mp hf
        refine R_geti lg_X13_192 et3 dX13_partOf_29 ?_
        refine R_goto (tgt := 39) dX13_partOf_32 (by decide) ?_
        obtain rfl := Option.some.inj hf
        exact R_iretI rfl dX13_partOf_39
      · rw [if_neg hc] at hf
        refine R_aload_n 0 dX13_partOf_35 rfl rfl ?_
        obtain ⟨t4, et4, hf⟩ := Option.bind_eq_some_iff.mp hf
        refine R_geti lg_X13_195 et4 dX13_partOf_36 ?_
        obtain rfl := Option.some.inj hf
        exact R_iretI rfl dX13_partOf_39
theorem lV_X13_332 : GoodIn lw_all (wsV "EdgeSumsModel" 332 "EdgeSumsModel" yX13_partOf (ws_ yX13_partOf cX13_partOf 2 (some FieldType.int))) := lw_V q3123 q3125 qs119 q158 q3126
theorem oky_X13_partOf : okY yX13_partOf 1 := ⟨by decide +kernel, by decide +kernel, by decide +kernel⟩
abbrev mi_X13_next : MI := (RX13, yX13_next, cX13_next, 2, (some FieldType.int), 7)
noncomputable def f_X13_next (x0 : Option Nat) (x1 : Int32) (h : PH) : Option (Int32 × PH) := (pf 11 0 x0 (.int 0) h).bind (fun h1 => (f_X13_in x1 0 3 h1).bind (fun q2 => if q2.1 = 0 then (some ((-1), q2.2)) else ((rcv 11 x0 q2.2).bind (fun u3 => (f_X13_layPlayers x0 q2.2).bind (fun h4 => (gfr 11 1 x0 h4).bind (fun t5 => (ald 0 t5 2 h4).bind (fun t6 => (rcv 11 x0 h4).bind (fun u7 => (f_X13_findStep x0 t6 h4).bind (fun q8 => if q8.1 = 0 then (some ((-99), q8.2)) else ((rcv 11 x0 q8.2).bind (fun u9 => (f_X13_partOf x0 x1 q8.2).bind (fun q10 => some (q10.1, q10.2)))))))))))))
theorem T_X13_next {K : KT} {x0 : Option Nat} {x1 : Int32} {h : PH} {q : (Int32 × PH)} (hf : f_X13_next x0 x1 h = some q) : T K mi_X13_next [va_rf x0, .int x1] h (.inl (some (.int q.1))) q.2 := by
  unfold f_X13_next at hf
  refine T_of (by decide +kernel) rfl (C1_r (C1_i C1_0)) (Nat.le_of_ble_eq_true rfl) ?_
  show R K mi_X13_next h [va_rf x0, .int x1] _ _ 0 [(0, va_rf x0), (1, .int x1)] [] h
  refine R_aload_n 0 dX13_next_0 rfl rfl ?_
  refine R_iconst dX13_next_1 k_iconst_0 ?_
  obtain ⟨h1, eh1, hf⟩ := Option.bind_eq_some_iff.mp hf
  refine R_putI (fp_X13_43 rfl) eh1 dX13_next_2 ?_
  refine R_iload_n 1 dX13_next_5 rfl rfl ?_
  refine R_iconst dX13_next_6 k_iconst_0 ?_
  refine R_iconst dX13_next_7 k_iconst_3 ?_
  obtain ⟨q2, eq2, hf⟩ := Option.bind_eq_some_iff.mp hf
  refine R_callS (mj := mi_X13_in) (As := [.int x1, .int 0, .int 3]) (rest := []) (T_X13_in eq2) lS_X13_65 oky_X13_in (by decide) (by decide) rfl C1_0 (Nat.le_of_ble_eq_true rfl) dX13_next_8 ?_
  refine R_ifne (tgt := 16) dX13_next_11 (by decide) (fun hc => ?_) (fun hc => ?_)
  · rw [if_pos hc] at hf
    refine R_iconst dX13_next_14 k_iconst_m1 ?_
    obtain rfl := Option.some.inj hf
    exact R_iretI rfl dX13_next_15
  · rw [if_neg hc] at hf
    refine R_aload_n 0 dX13_next_16 rfl rfl ?_
    obtain ⟨u3, eu3, hf⟩ := Option.bind_eq_some_iff.mp hf
    obtain ⟨h4, eh4, hf⟩ := Option.bind_eq_some_iff.mp hf
    refine R_callV (mj := mi_X13_layPlayers) (ci := 11) (q := (RX13, TX13, 24)) (As := []) (rest := []) (T_X13_layPlayers eh4) eu3 rfl lV_X13_237 ⟨rfl, oky_X13_layPlayers⟩ (by decide) (by decide) rfl C1_0 (Nat.le_of_ble_eq_true rfl) dX13_next_17 ?_
    refine R_aload_n 0 dX13_next_20 rfl rfl ?_
    refine R_aload_n 0 dX13_next_21 rfl rfl ?_
    obtain ⟨t5, et5, hf⟩ := Option.bind_eq_some_iff.mp hf
    refine R_getr lg_X13_7 et5 dX13_next_22 ?_
    refine R_iconst dX13_next_25 k_iconst_2 ?_
    obtain ⟨t6, et6, hf⟩ := Option.bind_eq_some_iff.mp hf
    refine R_iaload et6 dX13_next_26 ?_
    obtain ⟨u7, eu7, hf⟩ := Option.bind_eq_some_iff.mp hf
    obtain ⟨q8, eq8, hf⟩ := Option.bind_eq_some_iff.mp hf
    refine R_callV (mj := mi_X13_findStep) (ci := 11) (q := (RX13, TX13, 24)) (As := [.int t6]) (rest := []) (T_X13_findStep eq8) eu7 rfl lV_X13_201 ⟨rfl, oky_X13_findStep⟩ (by decide) (by decide) rfl C1_0 (Nat.le_of_ble_eq_true rfl) dX13_next_27 ?_
    refine R_ifeq (tgt := 41) dX13_next_30 (by decide) (fun hc => ?_) (fun hc => ?_)
    · rw [if_pos hc] at hf
      refine R_bipush dX13_next_41 k_bipush_m99 ?_
      obtain rfl := Option.some.inj hf
      exact R_iretI rfl dX13_next_43
    · rw [if_neg hc] at hf
      refine R_aload_n 0 dX13_next_33 rfl rfl ?_
      refine R_iload_n 1 dX13_next_34 rfl rfl ?_
      obtain ⟨u9, eu9, hf⟩ := Option.bind_eq_some_iff.mp hf
      obtain ⟨q10, eq10, hf⟩ := Option.bind_eq_some_iff.mp hf
      refine R_callV (mj := mi_X13_partOf) (ci := 11) (q := (RX13, TX13, 24)) (As := [.int x1]) (rest := []) (T_X13_partOf eq10) eu9 rfl lV_X13_332 ⟨rfl, oky_X13_partOf⟩ (by decide) (by decide) rfl C1_0 (Nat.le_of_ble_eq_true rfl) dX13_next_35 ?_
      refine R_goto (tgt := 43) dX13_next_38 (by decide) ?_
      obtain rfl := Option.some.inj hf
      exact R_iretI rfl dX13_next_43
abbrev mi_X13_greatestRule : MI := (RX13, yX13_greatestRule, cX13_greatestRule, 3, (some FieldType.int), 2)
noncomputable def f_X13_greatestRule_L4  : Nat → Option Nat → Int32 → Int32 → PH → Option (Int32 × PH)
  | 0, _, _, _, _ => none
  | k + 1, x0, x1, x2, h => (gfi 11 13 x0 h).bind (fun t1 => if t1 ≤ x2 then (some (x1, h)) else ((gfr 11 12 x0 h).bind (fun t2 => (ald 0 t2 (4 * x2) h).bind (fun t3 => (f_X13_more x1 t3 h).bind (fun q4 => (f_X13_greatestRule_L4 k) x0 q4.1 (x2 + 1) q4.2)))))
theorem f_X13_greatestRule_L4_ok {K : KT} {h0 : PH} {a0 : List Value} {q : (Int32 × PH)}  : ∀ (k : Nat) (x0 : Option Nat) (x1 : Int32) (x2 : Int32) (h : PH), f_X13_greatestRule_L4  k x0 x1 x2 h = some q → R K mi_X13_greatestRule h0 a0 (.inl (some (.int q.1))) q.2 4 [(0, va_rf x0), (1, .int x1), (2, .int x2)] [] h := by
  intro k
  induction k with
  | zero => intro _ _ _ _ hf; cases hf
  | succ k ih =>
    intro x0 x1 x2 h hf
    unfold f_X13_greatestRule_L4 at hf
    refine R_iload_n 2 dX13_greatestRule_4 rfl rfl ?_
    refine R_aload_n 0 dX13_greatestRule_5 rfl rfl ?_
    obtain ⟨t1, et1, hf⟩ := Option.bind_eq_some_iff.mp hf
    refine R_geti lg_X13_198 et1 dX13_greatestRule_6 ?_
    refine R_icge (tgt := 31) dX13_greatestRule_9 (by decide) (fun hc => ?_) (fun hc => ?_)
    · rw [if_pos hc] at hf
      refine R_iload_n 1 dX13_greatestRule_31 rfl rfl ?_
      obtain rfl := Option.some.inj hf
      exact R_iretI rfl dX13_greatestRule_32
    · rw [if_neg hc] at hf
      refine R_iload_n 1 dX13_greatestRule_12 rfl rfl ?_
      refine R_aload_n 0 dX13_greatestRule_13 rfl rfl ?_
      obtain ⟨t2, et2, hf⟩ := Option.bind_eq_some_iff.mp hf
      refine R_getr lg_X13_25 et2 dX13_greatestRule_14 ?_
      refine R_iconst dX13_greatestRule_17 k_iconst_4 ?_
      refine R_iload_n 2 dX13_greatestRule_18 rfl rfl ?_
      refine R_imul dX13_greatestRule_19 ?_
      obtain ⟨t3, et3, hf⟩ := Option.bind_eq_some_iff.mp hf
      refine R_iaload et3 dX13_greatestRule_20 ?_
      obtain ⟨q4, eq4, hf⟩ := Option.bind_eq_some_iff.mp hf
      refine R_callS (mj := mi_X13_more) (As := [.int x1, .int t3]) (rest := []) (T_X13_more eq4) lS_X13_79 oky_X13_more (by decide) (by decide) rfl C1_0 (Nat.le_of_ble_eq_true rfl) dX13_greatestRule_21 ?_
      refine R_istore_n (L' := [(1, .int q4.1), (0, va_rf x0), (2, .int x2)]) dX13_greatestRule_24 rfl (by decide) rfl ?_
      refine R_iinc (L' := [(2, .int (x2 + 1)), (1, .int q4.1), (0, va_rf x0)]) 2 dX13_greatestRule_25 rfl (k_inc_1 _) (by decide) rfl ?_
      refine R_goto (tgt := 4) dX13_greatestRule_28 (by decide) ?_
      refine R.sub [2, 1, 0] (L' := [(0, va_rf x0), (1, .int q4.1), (2, .int (x2 + 1))]) rfl ?_
      exact ih x0 q4.1 (x2 + 1) q4.2 hf
noncomputable def f_X13_greatestRule (x0 : Option Nat) (h : PH) : Option (Int32 × PH) := f_X13_greatestRule_L4  FU x0 (-1) 0 h
theorem T_X13_greatestRule {K : KT} {x0 : Option Nat} {h : PH} {q : (Int32 × PH)} (hf : f_X13_greatestRule x0 h = some q) : T K mi_X13_greatestRule [va_rf x0] h (.inl (some (.int q.1))) q.2 := by
  unfold f_X13_greatestRule at hf
  refine T_of (by decide +kernel) rfl (C1_r C1_0) (Nat.le_of_ble_eq_true rfl) ?_
  show R K mi_X13_greatestRule h [va_rf x0] _ _ 0 [(0, va_rf x0)] [] h
  refine R_iconst dX13_greatestRule_0 k_iconst_m1 ?_
  refine R_istore_n (L' := [(1, .int (-1)), (0, va_rf x0)]) dX13_greatestRule_1 rfl (by decide) rfl ?_
  refine R_iconst dX13_greatestRule_2 k_iconst_0 ?_
  refine R_istore_n (L' := [(2, .int 0), (1, .int (-1)), (0, va_rf x0)]) dX13_greatestRule_3 rfl (by decide) rfl ?_
  refine R.sub [2, 1, 0] (L' := [(0, va_rf x0), (1, .int (-1)), (2, .int 0)]) rfl ?_
  exact f_X13_greatestRule_L4_ok  FU x0 (-1) 0 h hf
theorem lV_X13_335 : GoodIn lw_all (wsV "EdgeSumsModel" 335 "EdgeSumsModel" yX13_greatestRule (ws_ yX13_greatestRule cX13_greatestRule 3 (some FieldType.int))) := lw_V q3131 q3133 qs120 q158 q3134
theorem oky_X13_greatestRule : okY yX13_greatestRule 0 := ⟨by decide +kernel, by decide +kernel, by decide +kernel⟩
abbrev mi_X13_run : MI := (RX13, yX13_run, cX13_run, 5, (some FieldType.int), 9)
noncomputable def f_X13_run_L33  : Nat → Option Nat → Int32 → Int32 → Int32 → Int32 → PH → Option (Int32 × PH)
  | 0, _, _, _, _, _, _ => none
  | k + 1, x0, x1, x2, x3, x4, h => if x4 < 0 then (if x1 = 0 then ((rcv 11 x0 h).bind (fun u1 => (f_X13_how x0 h).bind (fun q2 => some (q2.1, q2.2)))) else (if x1 = 1 then ((gfi 11 13 x0 h).bind (fun t3 => some (t3, h))) else (if x1 = 2 then ((rcv 11 x0 h).bind (fun u4 => (f_X13_greatestRule x0 h).bind (fun q5 => some (q5.1 + 1, q5.2)))) else (if x1 = 3 then (some (x2, h)) else (if x1 = 4 then ((rcv 11 x0 h).bind (fun u6 => (f_X13_possibleMany x0 h).bind (fun q7 => some (q7.1, q7.2)))) else (some (x3, h))))))) else ((gfr 11 1 x0 h).bind (fun t8 => (gfr 11 12 x0 h).bind (fun t9 => (ald 0 t9 (4 * x4) h).bind (fun t10 => (ald 0 t8 (3 + t10) h).bind (fun t11 => (gfr 11 12 x0 h).bind (fun t12 => (ald 0 t12 (4 * x4) h).bind (fun t13 => (rcv 11 x0 h).bind (fun u14 => (f_X13_greatestRule x0 h).bind (fun q15 => if t13 = q15.1 then ((f_X13_run_L33 k) x0 x1 (x2 + t11) x4 (x4 + (-1)) q15.2) else ((f_X13_run_L33 k) x0 x1 (x2 + t11) x3 (x4 + (-1)) q15.2))))))))))
theorem f_X13_run_L33_ok {K : KT} {h0 : PH} {a0 : List Value} {q : (Int32 × PH)}  : ∀ (k : Nat) (x0 : Option Nat) (x1 : Int32) (x2 : Int32) (x3 : Int32) (x4 : Int32) (h : PH), f_X13_run_L33  k x0 x1 x2 x3 x4 h = some q → R K mi_X13_run h0 a0 (.inl (some (.int q.1))) q.2 33 [(0, va_rf x0), (1, .int x1), (2, .int x2), (3, .int x3), (4, .int x4)] [] h := by
  intro k
  induction k with
  | zero => intro _ _ _ _ _ _ hf; cases hf
  | succ k ih =>
    intro x0 x1 x2 x3 x4 h hf
    unfold f_X13_run_L33 at hf
    refine R_iload 4 dX13_run_33 rfl ?_
    refine R_iflt (tgt := 86) dX13_run_35 (by decide) (fun hc => ?_) (fun hc => ?_)
    · rw [if_pos hc] at hf
      refine R_iload_n 1 dX13_run_86 rfl rfl ?_
      refine R_ifne (tgt := 97) dX13_run_87 (by decide) (fun hc => ?_) (fun hc => ?_)
      · rw [if_pos hc] at hf
        refine R_aload_n 0 dX13_run_90 rfl rfl ?_
        obtain ⟨u1, eu1, hf⟩ := Option.bind_eq_some_iff.mp hf
        obtain ⟨q2, eq2, hf⟩ := Option.bind_eq_some_iff.mp hf
        refine R_callV (mj := mi_X13_how) (ci := 11) (q := (RX13, TX13, 24)) (As := []) (rest := []) (T_X13_how eq2) eu1 rfl lV_X13_207 ⟨rfl, oky_X13_how⟩ (by decide) (by decide) rfl C1_0 (Nat.le_of_ble_eq_true rfl) dX13_run_91 ?_
        refine R_goto (tgt := 145) dX13_run_94 (by decide) ?_
        obtain rfl := Option.some.inj hf
        exact R_iretI rfl dX13_run_145
      · rw [if_neg hc] at hf
        refine R_iload_n 1 dX13_run_97 rfl rfl ?_
        refine R_iconst dX13_run_98 k_iconst_1 ?_
        refine R_icne (tgt := 109) dX13_run_99 (by decide) (fun hc => ?_) (fun hc => ?_)
        · rw [if_pos hc] at hf
          refine R_aload_n 0 dX13_run_102 rfl rfl ?_
          obtain ⟨t3, et3, hf⟩ := Option.bind_eq_some_iff.mp hf
          refine R_geti lg_X13_198 et3 dX13_run_103 ?_
          refine R_goto (tgt := 145) dX13_run_106 (by decide) ?_
          obtain rfl := Option.some.inj hf
          exact R_iretI rfl dX13_run_145
        · rw [if_neg hc] at hf
          refine R_iload_n 1 dX13_run_109 rfl rfl ?_
          refine R_iconst dX13_run_110 k_iconst_2 ?_
          refine R_icne (tgt := 123) dX13_run_111 (by decide) (fun hc => ?_) (fun hc => ?_)
          · rw [if_pos hc] at hf
            refine R_aload_n 0 dX13_run_114 rfl rfl ?_
            obtain ⟨u4, eu4, hf⟩ := Option.bind_eq_some_iff.mp hf
            obtain ⟨q5, eq5, hf⟩ := Option.bind_eq_some_iff.mp hf
            refine R_callV (mj := mi_X13_greatestRule) (ci := 11) (q := (RX13, TX13, 24)) (As := []) (rest := []) (T_X13_greatestRule eq5) eu4 rfl lV_X13_335 ⟨rfl, oky_X13_greatestRule⟩ (by decide) (by decide) rfl C1_0 (Nat.le_of_ble_eq_true rfl) dX13_run_115 ?_
            refine R_iconst dX13_run_118 k_iconst_1 ?_
            refine R_iadd dX13_run_119 ?_
            refine R_goto (tgt := 145) dX13_run_120 (by decide) ?_
            obtain rfl := Option.some.inj hf
            exact R_iretI rfl dX13_run_145
          · rw [if_neg hc] at hf
            refine R_iload_n 1 dX13_run_123 rfl rfl ?_
            refine R_iconst dX13_run_124 k_iconst_3 ?_
            refine R_icne (tgt := 132) dX13_run_125 (by decide) (fun hc => ?_) (fun hc => ?_)
            · rw [if_pos hc] at hf
              refine R_iload_n 2 dX13_run_128 rfl rfl ?_
              refine R_goto (tgt := 145) dX13_run_129 (by decide) ?_
              obtain rfl := Option.some.inj hf
              exact R_iretI rfl dX13_run_145
            · rw [if_neg hc] at hf
              refine R_iload_n 1 dX13_run_132 rfl rfl ?_
              refine R_iconst dX13_run_133 k_iconst_4 ?_
              refine R_icne (tgt := 144) dX13_run_134 (by decide) (fun hc => ?_) (fun hc => ?_)
              · rw [if_pos hc] at hf
                refine R_aload_n 0 dX13_run_137 rfl rfl ?_
                obtain ⟨u6, eu6, hf⟩ := Option.bind_eq_some_iff.mp hf
                obtain ⟨q7, eq7, hf⟩ := Option.bind_eq_some_iff.mp hf
                refine R_callV (mj := mi_X13_possibleMany) (ci := 11) (q := (RX13, TX13, 24)) (As := []) (rest := []) (T_X13_possibleMany eq7) eu6 rfl lV_X13_243 ⟨rfl, oky_X13_possibleMany⟩ (by decide) (by decide) rfl C1_0 (Nat.le_of_ble_eq_true rfl) dX13_run_138 ?_
                refine R_goto (tgt := 145) dX13_run_141 (by decide) ?_
                obtain rfl := Option.some.inj hf
                exact R_iretI rfl dX13_run_145
              · rw [if_neg hc] at hf
                refine R_iload_n 3 dX13_run_144 rfl rfl ?_
                obtain rfl := Option.some.inj hf
                exact R_iretI rfl dX13_run_145
    · rw [if_neg hc] at hf
      refine R_iload_n 2 dX13_run_38 rfl rfl ?_
      refine R_aload_n 0 dX13_run_39 rfl rfl ?_
      obtain ⟨t8, et8, hf⟩ := Option.bind_eq_some_iff.mp hf
      refine R_getr lg_X13_7 et8 dX13_run_40 ?_
      refine R_iconst dX13_run_43 k_iconst_3 ?_
      refine R_aload_n 0 dX13_run_44 rfl rfl ?_
      obtain ⟨t9, et9, hf⟩ := Option.bind_eq_some_iff.mp hf
      refine R_getr lg_X13_25 et9 dX13_run_45 ?_
      refine R_iconst dX13_run_48 k_iconst_4 ?_
      refine R_iload 4 dX13_run_49 rfl ?_
      refine R_imul dX13_run_51 ?_
      obtain ⟨t10, et10, hf⟩ := Option.bind_eq_some_iff.mp hf
      refine R_iaload et10 dX13_run_52 ?_
      refine R_iadd dX13_run_53 ?_
      obtain ⟨t11, et11, hf⟩ := Option.bind_eq_some_iff.mp hf
      refine R_iaload et11 dX13_run_54 ?_
      refine R_iadd dX13_run_55 ?_
      refine R_istore_n (L' := [(2, .int (x2 + t11)), (0, va_rf x0), (1, .int x1), (3, .int x3), (4, .int x4)]) dX13_run_56 rfl (by decide) rfl ?_
      refine R_aload_n 1 dX13_run_57 rfl rfl ?_
      obtain ⟨t12, et12, hf⟩ := Option.bind_eq_some_iff.mp hf
      refine R_getr lg_X13_25 et12 dX13_run_58 ?_
      refine R_iconst dX13_run_61 k_iconst_4 ?_
      refine R_iload 4 dX13_run_62 rfl ?_
      refine R_imul dX13_run_64 ?_
      obtain ⟨t13, et13, hf⟩ := Option.bind_eq_some_iff.mp hf
      refine R_iaload et13 dX13_run_65 ?_
      refine R_aload_n 1 dX13_run_66 rfl rfl ?_
      obtain ⟨u14, eu14, hf⟩ := Option.bind_eq_some_iff.mp hf
      obtain ⟨q15, eq15, hf⟩ := Option.bind_eq_some_iff.mp hf
      refine R_callV (mj := mi_X13_greatestRule) (ci := 11) (q := (RX13, TX13, 24)) (As := []) (rest := [.int t13]) (T_X13_greatestRule eq15) eu14 rfl lV_X13_335 ⟨rfl, oky_X13_greatestRule⟩ (by decide) (by decide) rfl (C1_i C1_0) (Nat.le_of_ble_eq_true rfl) dX13_run_67 ?_
      refine R_icne (tgt := 78) dX13_run_70 (by decide) (fun hc => ?_) (fun hc => ?_)
      · rw [if_pos hc] at hf
        refine R_iload 4 dX13_run_73 rfl ?_
        refine R_goto (tgt := 79) dX13_run_75 (by decide) ?_
        refine R_istore_n (L' := [(3, .int x4), (2, .int (x2 + t11)), (0, va_rf x0), (1, .int x1), (4, .int x4)]) dX13_run_79 rfl (by decide) rfl ?_
        refine R_iinc (L' := [(4, .int (x4 + (-1))), (3, .int x4), (2, .int (x2 + t11)), (0, va_rf x0), (1, .int x1)]) 4 dX13_run_80 rfl (k_inc_m1 _) (by decide) rfl ?_
        refine R_goto (tgt := 33) dX13_run_83 (by decide) ?_
        refine R.sub [3, 4, 2, 1, 0] (L' := [(0, va_rf x0), (1, .int x1), (2, .int (x2 + t11)), (3, .int x4), (4, .int (x4 + (-1)))]) rfl ?_
        exact ih x0 x1 (x2 + t11) x4 (x4 + (-1)) q15.2 hf
      · rw [if_neg hc] at hf
        refine R_iload_n 3 dX13_run_78 rfl rfl ?_
        refine R_istore_n (L' := [(3, .int x3), (2, .int (x2 + t11)), (0, va_rf x0), (1, .int x1), (4, .int x4)]) dX13_run_79 rfl (by decide) rfl ?_
        refine R_iinc (L' := [(4, .int (x4 + (-1))), (3, .int x3), (2, .int (x2 + t11)), (0, va_rf x0), (1, .int x1)]) 4 dX13_run_80 rfl (k_inc_m1 _) (by decide) rfl ?_
        refine R_goto (tgt := 33) dX13_run_83 (by decide) ?_
        refine R.sub [3, 4, 2, 1, 0] (L' := [(0, va_rf x0), (1, .int x1), (2, .int (x2 + t11)), (3, .int x3), (4, .int (x4 + (-1)))]) rfl ?_
        exact ih x0 x1 (x2 + t11) x3 (x4 + (-1)) q15.2 hf
noncomputable def f_X13_run (x0 : Option Nat) (x1 : Int32) (h : PH) : Option (Int32 × PH) := (pf 11 0 x0 (.int 0) h).bind (fun h1 => (f_X13_in x1 0 5 h1).bind (fun q2 => if q2.1 = 0 then (some ((-1), q2.2)) else ((rcv 11 x0 q2.2).bind (fun u3 => (f_X13_goThrough x0 q2.2).bind (fun h4 => (gfi 11 13 x0 h4).bind (fun t5 => f_X13_run_L33  FU x0 x1 0 (-99) (t5 - 1) h4))))))
theorem T_X13_run {K : KT} {x0 : Option Nat} {x1 : Int32} {h : PH} {q : (Int32 × PH)} (hf : f_X13_run x0 x1 h = some q) : T K mi_X13_run [va_rf x0, .int x1] h (.inl (some (.int q.1))) q.2 := by
  unfold f_X13_run at hf
  refine T_of (by decide +kernel) rfl (C1_r (C1_i C1_0)) (Nat.le_of_ble_eq_true rfl) ?_
  show R K mi_X13_run h [va_rf x0, .int x1] _ _ 0 [(0, va_rf x0), (1, .int x1)] [] h
  refine R_aload_n 0 dX13_run_0 rfl rfl ?_
  refine R_iconst dX13_run_1 k_iconst_0 ?_
  obtain ⟨h1, eh1, hf⟩ := Option.bind_eq_some_iff.mp hf
  refine R_putI (fp_X13_43 rfl) eh1 dX13_run_2 ?_
  refine R_iload_n 1 dX13_run_5 rfl rfl ?_
  refine R_iconst dX13_run_6 k_iconst_0 ?_
  refine R_iconst dX13_run_7 k_iconst_5 ?_
  obtain ⟨q2, eq2, hf⟩ := Option.bind_eq_some_iff.mp hf
  refine R_callS (mj := mi_X13_in) (As := [.int x1, .int 0, .int 5]) (rest := []) (T_X13_in eq2) lS_X13_65 oky_X13_in (by decide) (by decide) rfl C1_0 (Nat.le_of_ble_eq_true rfl) dX13_run_8 ?_
  refine R_ifne (tgt := 16) dX13_run_11 (by decide) (fun hc => ?_) (fun hc => ?_)
  · rw [if_pos hc] at hf
    refine R_iconst dX13_run_14 k_iconst_m1 ?_
    obtain rfl := Option.some.inj hf
    exact R_iretI rfl dX13_run_15
  · rw [if_neg hc] at hf
    refine R_aload_n 0 dX13_run_16 rfl rfl ?_
    obtain ⟨u3, eu3, hf⟩ := Option.bind_eq_some_iff.mp hf
    obtain ⟨h4, eh4, hf⟩ := Option.bind_eq_some_iff.mp hf
    refine R_callV (mj := mi_X13_goThrough) (ci := 11) (q := (RX13, TX13, 24)) (As := []) (rest := []) (T_X13_goThrough eh4) eu3 rfl lV_X13_329 ⟨rfl, oky_X13_goThrough⟩ (by decide) (by decide) rfl C1_0 (Nat.le_of_ble_eq_true rfl) dX13_run_17 ?_
    refine R_iconst dX13_run_20 k_iconst_0 ?_
    refine R_istore_n (L' := [(2, .int 0), (0, va_rf x0), (1, .int x1)]) dX13_run_21 rfl (by decide) rfl ?_
    refine R_bipush dX13_run_22 k_bipush_m99 ?_
    refine R_istore_n (L' := [(3, .int (-99)), (2, .int 0), (0, va_rf x0), (1, .int x1)]) dX13_run_24 rfl (by decide) rfl ?_
    refine R_aload_n 2 dX13_run_25 rfl rfl ?_
    obtain ⟨t5, et5, hf⟩ := Option.bind_eq_some_iff.mp hf
    refine R_geti lg_X13_198 et5 dX13_run_26 ?_
    refine R_iconst dX13_run_29 k_iconst_1 ?_
    refine R_isub dX13_run_30 ?_
    refine R_istore (L' := [(4, .int (t5 - 1)), (3, .int (-99)), (2, .int 0), (0, va_rf x0), (1, .int x1)]) dX13_run_31 (by decide) rfl ?_
    refine R.sub [3, 4, 2, 1, 0] (L' := [(0, va_rf x0), (1, .int x1), (2, .int 0), (3, .int (-99)), (4, .int (t5 - 1))]) rfl ?_
    exact f_X13_run_L33_ok  FU x0 x1 0 (-99) (t5 - 1) h4 hf
abbrev mi_X13_step : MI := (RX13, yX13_step, cX13_step, 3, (some FieldType.int), 9)
noncomputable def f_X13_step (x0 : Option Nat) (x1 : Int32) (x2 : Int32) (h : PH) : Option (Int32 × PH) := (pf 11 0 x0 (.int 0) h).bind (fun h1 => if x1 < 0 then (some ((-1), h1)) else ((f_X13_in x2 0 3 h1).bind (fun q2 => if q2.1 = 0 then (some ((-1), q2.2)) else ((rcv 11 x0 q2.2).bind (fun u3 => (f_X13_goThrough x0 q2.2).bind (fun h4 => (gfi 11 13 x0 h4).bind (fun t5 => if t5 ≤ x1 then (some ((-99), h4)) else ((gfr 11 12 x0 h4).bind (fun t6 => (ald 0 t6 ((4 * x1) + x2) h4).bind (fun t7 => some (t7, h4)))))))))))
theorem T_X13_step {K : KT} {x0 : Option Nat} {x1 : Int32} {x2 : Int32} {h : PH} {q : (Int32 × PH)} (hf : f_X13_step x0 x1 x2 h = some q) : T K mi_X13_step [va_rf x0, .int x1, .int x2] h (.inl (some (.int q.1))) q.2 := by
  unfold f_X13_step at hf
  refine T_of (by decide +kernel) rfl (C1_r (C1_i (C1_i C1_0))) (Nat.le_of_ble_eq_true rfl) ?_
  show R K mi_X13_step h [va_rf x0, .int x1, .int x2] _ _ 0 [(0, va_rf x0), (1, .int x1), (2, .int x2)] [] h
  refine R_aload_n 0 dX13_step_0 rfl rfl ?_
  refine R_iconst dX13_step_1 k_iconst_0 ?_
  obtain ⟨h1, eh1, hf⟩ := Option.bind_eq_some_iff.mp hf
  refine R_putI (fp_X13_43 rfl) eh1 dX13_step_2 ?_
  refine R_iload_n 1 dX13_step_5 rfl rfl ?_
  refine R_iflt (tgt := 18) dX13_step_6 (by decide) (fun hc => ?_) (fun hc => ?_)
  · rw [if_pos hc] at hf
    refine R_iconst dX13_step_18 k_iconst_m1 ?_
    obtain rfl := Option.some.inj hf
    exact R_iretI rfl dX13_step_19
  · rw [if_neg hc] at hf
    refine R_iload_n 2 dX13_step_9 rfl rfl ?_
    refine R_iconst dX13_step_10 k_iconst_0 ?_
    refine R_iconst dX13_step_11 k_iconst_3 ?_
    obtain ⟨q2, eq2, hf⟩ := Option.bind_eq_some_iff.mp hf
    refine R_callS (mj := mi_X13_in) (As := [.int x2, .int 0, .int 3]) (rest := []) (T_X13_in eq2) lS_X13_65 oky_X13_in (by decide) (by decide) rfl C1_0 (Nat.le_of_ble_eq_true rfl) dX13_step_12 ?_
    refine R_ifne (tgt := 20) dX13_step_15 (by decide) (fun hc => ?_) (fun hc => ?_)
    · rw [if_pos hc] at hf
      refine R_iconst dX13_step_18 k_iconst_m1 ?_
      obtain rfl := Option.some.inj hf
      exact R_iretI rfl dX13_step_19
    · rw [if_neg hc] at hf
      refine R_aload_n 0 dX13_step_20 rfl rfl ?_
      obtain ⟨u3, eu3, hf⟩ := Option.bind_eq_some_iff.mp hf
      obtain ⟨h4, eh4, hf⟩ := Option.bind_eq_some_iff.mp hf
      refine R_callV (mj := mi_X13_goThrough) (ci := 11) (q := (RX13, TX13, 24)) (As := []) (rest := []) (T_X13_goThrough eh4) eu3 rfl lV_X13_329 ⟨rfl, oky_X13_goThrough⟩ (by decide) (by decide) rfl C1_0 (Nat.le_of_ble_eq_true rfl) dX13_step_21 ?_
      refine R_iload_n 1 dX13_step_24 rfl rfl ?_
      refine R_aload_n 0 dX13_step_25 rfl rfl ?_
      obtain ⟨t5, et5, hf⟩ := Option.bind_eq_some_iff.mp hf
      refine R_geti lg_X13_198 et5 dX13_step_26 ?_
      refine R_icge (tgt := 45) dX13_step_29 (by decide) (fun hc => ?_) (fun hc => ?_)
      · rw [if_pos hc] at hf
        refine R_bipush dX13_step_45 k_bipush_m99 ?_
        obtain rfl := Option.some.inj hf
        exact R_iretI rfl dX13_step_47
      · rw [if_neg hc] at hf
        refine R_aload_n 0 dX13_step_32 rfl rfl ?_
        obtain ⟨t6, et6, hf⟩ := Option.bind_eq_some_iff.mp hf
        refine R_getr lg_X13_25 et6 dX13_step_33 ?_
        refine R_iconst dX13_step_36 k_iconst_4 ?_
        refine R_iload_n 1 dX13_step_37 rfl rfl ?_
        refine R_imul dX13_step_38 ?_
        refine R_iload_n 2 dX13_step_39 rfl rfl ?_
        refine R_iadd dX13_step_40 ?_
        obtain ⟨t7, et7, hf⟩ := Option.bind_eq_some_iff.mp hf
        refine R_iaload et7 dX13_step_41 ?_
        refine R_goto (tgt := 47) dX13_step_42 (by decide) ?_
        obtain rfl := Option.some.inj hf
        exact R_iretI rfl dX13_step_47
abbrev mi_X13_rank : MI := (RX13, yX13_rank, cX13_rank, 5, (some FieldType.int), 9)
noncomputable def f_X13_rank_L62  : Nat → Option Nat → Int32 → Int32 → Int32 → PH → Option (Int32 × PH)
  | 0, _, _, _, _, _ => none
  | k + 1, x0, x1, x2, x3, h => (gfi 11 13 x0 h).bind (fun t1 => if t1 ≤ x3 then (if x2 ≤ x1 then (some ((-99), h)) else ((gfr 11 16 x0 h).bind (fun t2 => (ald 0 t2 x1 h).bind (fun t3 => some (t3, h))))) else ((gfr 11 12 x0 h).bind (fun t4 => (ald 0 t4 ((4 * x3) + 1) h).bind (fun t5 => (gfr 11 7 x0 h).bind (fun t6 => (ald 0 t6 t5 h).bind (fun t7 => (gfr 11 12 x0 h).bind (fun t8 => (ald 0 t8 ((4 * x3) + 2) h).bind (fun t9 => (asi 0 t6 t5 (t7 &&& (((1 : Int32) <<< (t9 &&& 31)) ^^^ (-1))) h).bind (fun h10 => (gfr 11 7 x0 h10).bind (fun t11 => (ald 0 t11 t5 h10).bind (fun t12 => (f_X13_ones t12 h10).bind (fun q13 => if q13.1 = 1 then ((gfr 11 16 x0 q13.2).bind (fun t14 => (asi 0 t14 x2 t5 q13.2).bind (fun h15 => (f_X13_rank_L62 k) x0 x1 (x2 + 1) (x3 + 1) h15))) else ((f_X13_rank_L62 k) x0 x1 x2 (x3 + 1) q13.2)))))))))))))
theorem f_X13_rank_L62_ok {K : KT} {h0 : PH} {a0 : List Value} {q : (Int32 × PH)}  : ∀ (k : Nat) (x0 : Option Nat) (x1 : Int32) (x2 : Int32) (x3 : Int32) (h : PH), f_X13_rank_L62  k x0 x1 x2 x3 h = some q → R K mi_X13_rank h0 a0 (.inl (some (.int q.1))) q.2 62 [(0, va_rf x0), (1, .int x1), (2, .int x2), (3, .int x3)] [] h := by
  intro k
  induction k with
  | zero => intro _ _ _ _ _ hf; cases hf
  | succ k ih =>
    intro x0 x1 x2 x3 h hf
    unfold f_X13_rank_L62 at hf
    refine R_iload_n 3 dX13_rank_62 rfl rfl ?_
    refine R_aload_n 0 dX13_rank_63 rfl rfl ?_
    obtain ⟨t1, et1, hf⟩ := Option.bind_eq_some_iff.mp hf
    refine R_geti lg_X13_198 et1 dX13_rank_64 ?_
    refine R_icge (tgt := 137) dX13_rank_67 (by decide) (fun hc => ?_) (fun hc => ?_)
    · rw [if_pos hc] at hf
      refine R_iload_n 1 dX13_rank_137 rfl rfl ?_
      refine R_iload_n 2 dX13_rank_138 rfl rfl ?_
      refine R_icge (tgt := 151) dX13_rank_139 (by decide) (fun hc => ?_) (fun hc => ?_)
      · rw [if_pos hc] at hf
        refine R_bipush dX13_rank_151 k_bipush_m99 ?_
        obtain rfl := Option.some.inj hf
        exact R_iretI rfl dX13_rank_153
      · rw [if_neg hc] at hf
        refine R_aload_n 0 dX13_rank_142 rfl rfl ?_
        obtain ⟨t2, et2, hf⟩ := Option.bind_eq_some_iff.mp hf
        refine R_getr lg_X13_34 et2 dX13_rank_143 ?_
        refine R_iload_n 1 dX13_rank_146 rfl rfl ?_
        obtain ⟨t3, et3, hf⟩ := Option.bind_eq_some_iff.mp hf
        refine R_iaload et3 dX13_rank_147 ?_
        refine R_goto (tgt := 153) dX13_rank_148 (by decide) ?_
        obtain rfl := Option.some.inj hf
        exact R_iretI rfl dX13_rank_153
    · rw [if_neg hc] at hf
      refine R_aload_n 0 dX13_rank_70 rfl rfl ?_
      obtain ⟨t4, et4, hf⟩ := Option.bind_eq_some_iff.mp hf
      refine R_getr lg_X13_25 et4 dX13_rank_71 ?_
      refine R_iconst dX13_rank_74 k_iconst_4 ?_
      refine R_iload_n 3 dX13_rank_75 rfl rfl ?_
      refine R_imul dX13_rank_76 ?_
      refine R_iconst dX13_rank_77 k_iconst_1 ?_
      refine R_iadd dX13_rank_78 ?_
      obtain ⟨t5, et5, hf⟩ := Option.bind_eq_some_iff.mp hf
      refine R_iaload et5 dX13_rank_79 ?_
      refine R_istore (L' := [(4, .int t5), (0, va_rf x0), (1, .int x1), (2, .int x2), (3, .int x3)]) dX13_rank_80 (by decide) rfl ?_
      refine R_aload_n 1 dX13_rank_82 rfl rfl ?_
      obtain ⟨t6, et6, hf⟩ := Option.bind_eq_some_iff.mp hf
      refine R_getr lg_X13_22 et6 dX13_rank_83 ?_
      refine R_iload 0 dX13_rank_86 rfl ?_
      refine R_dup2 dX13_rank_88 rfl (rf_cat _) ?_
      obtain ⟨t7, et7, hf⟩ := Option.bind_eq_some_iff.mp hf
      refine R_iaload et7 dX13_rank_89 ?_
      refine R_iconst dX13_rank_90 k_iconst_1 ?_
      refine R_aload_n 1 dX13_rank_91 rfl rfl ?_
      obtain ⟨t8, et8, hf⟩ := Option.bind_eq_some_iff.mp hf
      refine R_getr lg_X13_25 et8 dX13_rank_92 ?_
      refine R_iconst dX13_rank_95 k_iconst_4 ?_
      refine R_iload_n 4 dX13_rank_96 rfl rfl ?_
      refine R_imul dX13_rank_97 ?_
      refine R_iconst dX13_rank_98 k_iconst_2 ?_
      refine R_iadd dX13_rank_99 ?_
      obtain ⟨t9, et9, hf⟩ := Option.bind_eq_some_iff.mp hf
      refine R_iaload et9 dX13_rank_100 ?_
      refine R_ishl dX13_rank_101 ?_
      refine R_iconst dX13_rank_102 k_iconst_m1 ?_
      refine R_ixor dX13_rank_103 ?_
      refine R_iand dX13_rank_104 ?_
      obtain ⟨h10, eh10, hf⟩ := Option.bind_eq_some_iff.mp hf
      refine R_iastore eh10 dX13_rank_105 ?_
      refine R_aload_n 1 dX13_rank_106 rfl rfl ?_
      obtain ⟨t11, et11, hf⟩ := Option.bind_eq_some_iff.mp hf
      refine R_getr lg_X13_22 et11 dX13_rank_107 ?_
      refine R_iload 0 dX13_rank_110 rfl ?_
      obtain ⟨t12, et12, hf⟩ := Option.bind_eq_some_iff.mp hf
      refine R_iaload et12 dX13_rank_112 ?_
      obtain ⟨q13, eq13, hf⟩ := Option.bind_eq_some_iff.mp hf
      refine R_callS (mj := mi_X13_ones) (As := [.int t12]) (rest := []) (T_X13_ones eq13) lS_X13_142 oky_X13_ones (by decide) (by decide) rfl C1_0 (Nat.le_of_ble_eq_true rfl) dX13_rank_113 ?_
      refine R_iconst dX13_rank_116 k_iconst_1 ?_
      refine R_icne (tgt := 131) dX13_rank_117 (by decide) (fun hc => ?_) (fun hc => ?_)
      · rw [if_pos hc] at hf
        refine R_aload_n 1 dX13_rank_120 rfl rfl ?_
        obtain ⟨t14, et14, hf⟩ := Option.bind_eq_some_iff.mp hf
        refine R_getr lg_X13_34 et14 dX13_rank_121 ?_
        refine R_iload_n 3 dX13_rank_124 rfl rfl ?_
        refine R_iload 0 dX13_rank_125 rfl ?_
        obtain ⟨h15, eh15, hf⟩ := Option.bind_eq_some_iff.mp hf
        refine R_iastore eh15 dX13_rank_127 ?_
        refine R_iinc (L' := [(2, .int (x2 + 1)), (4, .int t5), (0, va_rf x0), (1, .int x1), (3, .int x3)]) 3 dX13_rank_128 rfl (k_inc_1 _) (by decide) rfl ?_
        refine R_iinc (L' := [(3, .int (x3 + 1)), (2, .int (x2 + 1)), (4, .int t5), (0, va_rf x0), (1, .int x1)]) 4 dX13_rank_131 rfl (k_inc_1 _) (by decide) rfl ?_
        refine R_goto (tgt := 62) dX13_rank_134 (by decide) ?_
        refine R.sub [3, 4, 1, 0] (L' := [(0, va_rf x0), (1, .int x1), (2, .int (x2 + 1)), (3, .int (x3 + 1))]) rfl ?_
        exact ih x0 x1 (x2 + 1) (x3 + 1) h15 hf
      · rw [if_neg hc] at hf
        refine R_iinc (L' := [(3, .int (x3 + 1)), (4, .int t5), (0, va_rf x0), (1, .int x1), (2, .int x2)]) 4 dX13_rank_131 rfl (k_inc_1 _) (by decide) rfl ?_
        refine R_goto (tgt := 62) dX13_rank_134 (by decide) ?_
        refine R.sub [2, 3, 4, 0] (L' := [(0, va_rf x0), (1, .int x1), (2, .int x2), (3, .int (x3 + 1))]) rfl ?_
        exact ih x0 x1 x2 (x3 + 1) q13.2 hf
noncomputable def f_X13_rank_L23  : Nat → Option Nat → Int32 → Int32 → Int32 → PH → Option (Int32 × PH)
  | 0, _, _, _, _, _ => none
  | k + 1, x0, x1, x2, x3, h => (rcv 11 x0 h).bind (fun u1 => (f_X13_cells x0 h).bind (fun q2 => if q2.1 ≤ x3 then (f_X13_rank_L62  FU x0 x1 x2 0 q2.2) else ((gfr 11 7 x0 q2.2).bind (fun t3 => (ald 0 t3 x3 q2.2).bind (fun t4 => (f_X13_ones t4 q2.2).bind (fun q5 => if q5.1 = 1 then ((gfr 11 16 x0 q5.2).bind (fun t6 => (asi 0 t6 x2 x3 q5.2).bind (fun h7 => (f_X13_rank_L23 k) x0 x1 (x2 + 1) (x3 + 1) h7))) else ((f_X13_rank_L23 k) x0 x1 x2 (x3 + 1) q5.2)))))))
theorem f_X13_rank_L23_ok {K : KT} {h0 : PH} {a0 : List Value} {q : (Int32 × PH)}  : ∀ (k : Nat) (x0 : Option Nat) (x1 : Int32) (x2 : Int32) (x3 : Int32) (h : PH), f_X13_rank_L23  k x0 x1 x2 x3 h = some q → R K mi_X13_rank h0 a0 (.inl (some (.int q.1))) q.2 23 [(0, va_rf x0), (1, .int x1), (2, .int x2), (3, .int x3)] [] h := by
  intro k
  induction k with
  | zero => intro _ _ _ _ _ hf; cases hf
  | succ k ih =>
    intro x0 x1 x2 x3 h hf
    unfold f_X13_rank_L23 at hf
    refine R_iload_n 3 dX13_rank_23 rfl rfl ?_
    refine R_aload_n 0 dX13_rank_24 rfl rfl ?_
    obtain ⟨u1, eu1, hf⟩ := Option.bind_eq_some_iff.mp hf
    obtain ⟨q2, eq2, hf⟩ := Option.bind_eq_some_iff.mp hf
    refine R_callV (mj := mi_X13_cells) (ci := 11) (q := (RX13, TX13, 24)) (As := []) (rest := [.int x3]) (T_X13_cells eq2) eu1 rfl lV_X13_61 ⟨rfl, oky_X13_cells⟩ (by decide) (by decide) rfl (C1_i C1_0) (Nat.le_of_ble_eq_true rfl) dX13_rank_25 ?_
    refine R_icge (tgt := 60) dX13_rank_28 (by decide) (fun hc => ?_) (fun hc => ?_)
    · rw [if_pos hc] at hf
      refine R_iconst dX13_rank_60 k_iconst_0 ?_
      refine R_istore_n (L' := [(3, .int 0), (0, va_rf x0), (1, .int x1), (2, .int x2)]) dX13_rank_61 rfl (by decide) rfl ?_
      refine R.sub [1, 2, 3, 0] (L' := [(0, va_rf x0), (1, .int x1), (2, .int x2), (3, .int 0)]) rfl ?_
      exact f_X13_rank_L62_ok  FU x0 x1 x2 0 q2.2 hf
    · rw [if_neg hc] at hf
      refine R_aload_n 0 dX13_rank_31 rfl rfl ?_
      obtain ⟨t3, et3, hf⟩ := Option.bind_eq_some_iff.mp hf
      refine R_getr lg_X13_22 et3 dX13_rank_32 ?_
      refine R_iload_n 3 dX13_rank_35 rfl rfl ?_
      obtain ⟨t4, et4, hf⟩ := Option.bind_eq_some_iff.mp hf
      refine R_iaload et4 dX13_rank_36 ?_
      obtain ⟨q5, eq5, hf⟩ := Option.bind_eq_some_iff.mp hf
      refine R_callS (mj := mi_X13_ones) (As := [.int t4]) (rest := []) (T_X13_ones eq5) lS_X13_142 oky_X13_ones (by decide) (by decide) rfl C1_0 (Nat.le_of_ble_eq_true rfl) dX13_rank_37 ?_
      refine R_iconst dX13_rank_40 k_iconst_1 ?_
      refine R_icne (tgt := 54) dX13_rank_41 (by decide) (fun hc => ?_) (fun hc => ?_)
      · rw [if_pos hc] at hf
        refine R_aload_n 0 dX13_rank_44 rfl rfl ?_
        obtain ⟨t6, et6, hf⟩ := Option.bind_eq_some_iff.mp hf
        refine R_getr lg_X13_34 et6 dX13_rank_45 ?_
        refine R_iload_n 2 dX13_rank_48 rfl rfl ?_
        refine R_iload_n 3 dX13_rank_49 rfl rfl ?_
        obtain ⟨h7, eh7, hf⟩ := Option.bind_eq_some_iff.mp hf
        refine R_iastore eh7 dX13_rank_50 ?_
        refine R_iinc (L' := [(2, .int (x2 + 1)), (0, va_rf x0), (1, .int x1), (3, .int x3)]) 2 dX13_rank_51 rfl (k_inc_1 _) (by decide) rfl ?_
        refine R_iinc (L' := [(3, .int (x3 + 1)), (2, .int (x2 + 1)), (0, va_rf x0), (1, .int x1)]) 3 dX13_rank_54 rfl (k_inc_1 _) (by decide) rfl ?_
        refine R_goto (tgt := 23) dX13_rank_57 (by decide) ?_
        refine R.sub [2, 3, 1, 0] (L' := [(0, va_rf x0), (1, .int x1), (2, .int (x2 + 1)), (3, .int (x3 + 1))]) rfl ?_
        exact ih x0 x1 (x2 + 1) (x3 + 1) h7 hf
      · rw [if_neg hc] at hf
        refine R_iinc (L' := [(3, .int (x3 + 1)), (0, va_rf x0), (1, .int x1), (2, .int x2)]) 3 dX13_rank_54 rfl (k_inc_1 _) (by decide) rfl ?_
        refine R_goto (tgt := 23) dX13_rank_57 (by decide) ?_
        refine R.sub [1, 2, 3, 0] (L' := [(0, va_rf x0), (1, .int x1), (2, .int x2), (3, .int (x3 + 1))]) rfl ?_
        exact ih x0 x1 x2 (x3 + 1) q5.2 hf
noncomputable def f_X13_rank (x0 : Option Nat) (x1 : Int32) (h : PH) : Option (Int32 × PH) := (pf 11 0 x0 (.int 0) h).bind (fun h1 => if 0 ≤ x1 then ((rcv 11 x0 h1).bind (fun u2 => (f_X13_goThrough x0 h1).bind (fun h3 => (rcv 11 x0 h3).bind (fun u4 => (f_X13_layFirst x0 h3).bind (fun h5 => f_X13_rank_L23  FU x0 x1 0 0 h5))))) else (some ((-1), h1)))
theorem T_X13_rank {K : KT} {x0 : Option Nat} {x1 : Int32} {h : PH} {q : (Int32 × PH)} (hf : f_X13_rank x0 x1 h = some q) : T K mi_X13_rank [va_rf x0, .int x1] h (.inl (some (.int q.1))) q.2 := by
  unfold f_X13_rank at hf
  refine T_of (by decide +kernel) rfl (C1_r (C1_i C1_0)) (Nat.le_of_ble_eq_true rfl) ?_
  show R K mi_X13_rank h [va_rf x0, .int x1] _ _ 0 [(0, va_rf x0), (1, .int x1)] [] h
  refine R_aload_n 0 dX13_rank_0 rfl rfl ?_
  refine R_iconst dX13_rank_1 k_iconst_0 ?_
  obtain ⟨h1, eh1, hf⟩ := Option.bind_eq_some_iff.mp hf
  refine R_putI (fp_X13_43 rfl) eh1 dX13_rank_2 ?_
  refine R_iload_n 1 dX13_rank_5 rfl rfl ?_
  refine R_ifge (tgt := 11) dX13_rank_6 (by decide) (fun hc => ?_) (fun hc => ?_)
  · rw [if_pos hc] at hf
    refine R_aload_n 0 dX13_rank_11 rfl rfl ?_
    obtain ⟨u2, eu2, hf⟩ := Option.bind_eq_some_iff.mp hf
    obtain ⟨h3, eh3, hf⟩ := Option.bind_eq_some_iff.mp hf
    refine R_callV (mj := mi_X13_goThrough) (ci := 11) (q := (RX13, TX13, 24)) (As := []) (rest := []) (T_X13_goThrough eh3) eu2 rfl lV_X13_329 ⟨rfl, oky_X13_goThrough⟩ (by decide) (by decide) rfl C1_0 (Nat.le_of_ble_eq_true rfl) dX13_rank_12 ?_
    refine R_aload_n 0 dX13_rank_15 rfl rfl ?_
    obtain ⟨u4, eu4, hf⟩ := Option.bind_eq_some_iff.mp hf
    obtain ⟨h5, eh5, hf⟩ := Option.bind_eq_some_iff.mp hf
    refine R_callV (mj := mi_X13_layFirst) (ci := 11) (q := (RX13, TX13, 24)) (As := []) (rest := []) (T_X13_layFirst eh5) eu4 rfl lV_X13_139 ⟨rfl, oky_X13_layFirst⟩ (by decide) (by decide) rfl C1_0 (Nat.le_of_ble_eq_true rfl) dX13_rank_16 ?_
    refine R_iconst dX13_rank_19 k_iconst_0 ?_
    refine R_istore_n (L' := [(2, .int 0), (0, va_rf x0), (1, .int x1)]) dX13_rank_20 rfl (by decide) rfl ?_
    refine R_iconst dX13_rank_21 k_iconst_0 ?_
    refine R_istore_n (L' := [(3, .int 0), (2, .int 0), (0, va_rf x0), (1, .int x1)]) dX13_rank_22 rfl (by decide) rfl ?_
    refine R.sub [2, 3, 1, 0] (L' := [(0, va_rf x0), (1, .int x1), (2, .int 0), (3, .int 0)]) rfl ?_
    exact f_X13_rank_L23_ok  FU x0 x1 0 0 h5 hf
  · rw [if_neg hc] at hf
    refine R_iconst dX13_rank_9 k_iconst_m1 ?_
    obtain rfl := Option.some.inj hf
    exact R_iretI rfl dX13_rank_10
abbrev mi_X13_suppose : MI := (RX13, yX13_suppose, cX13_suppose, 4, (some FieldType.int), 8)
noncomputable def f_X13_suppose (x0 : Option Nat) (x1 : Int32) (x2 : Int32) (x3 : Int32) (h : PH) : Option (Int32 × PH) := (pf 11 0 x0 (.int 0) h).bind (fun h1 => (rcv 11 x0 h1).bind (fun u2 => (f_X13_isNumber x0 x1 x2 h1).bind (fun q3 => if q3.1 = 0 then (some ((-1), q3.2)) else ((f_X13_in x3 0 1 q3.2).bind (fun q4 => if q4.1 = 0 then (some ((-1), q4.2)) else ((gfr 11 1 x0 q4.2).bind (fun t5 => (ald 0 t5 (93 + x1) q4.2).bind (fun t6 => (f_X13_has t6 x2 q4.2).bind (fun q7 => if q7.1 = 0 then (some ((-2), q7.2)) else ((rcv 11 x0 q7.2).bind (fun u8 => (f_X13_layPlayers x0 q7.2).bind (fun h9 => (gfr 11 7 x0 h9).bind (fun t10 => (asi 0 t10 x1 ((1 : Int32) <<< (x2 &&& 31)) h9).bind (fun h11 => (gfr 11 1 x0 h11).bind (fun t12 => (ald 0 t12 2 h11).bind (fun t13 => (rcv 11 x0 h11).bind (fun u14 => (f_X13_goToEnd x0 t13 h11).bind (fun h15 => if x3 = 0 then ((rcv 11 x0 h15).bind (fun u16 => (f_X13_how x0 h15).bind (fun q17 => some (q17.1, q17.2)))) else ((gfi 11 13 x0 h15).bind (fun t18 => some (t18, h15)))))))))))))))))))))
theorem T_X13_suppose {K : KT} {x0 : Option Nat} {x1 : Int32} {x2 : Int32} {x3 : Int32} {h : PH} {q : (Int32 × PH)} (hf : f_X13_suppose x0 x1 x2 x3 h = some q) : T K mi_X13_suppose [va_rf x0, .int x1, .int x2, .int x3] h (.inl (some (.int q.1))) q.2 := by
  unfold f_X13_suppose at hf
  refine T_of (by decide +kernel) rfl (C1_r (C1_i (C1_i (C1_i C1_0)))) (Nat.le_of_ble_eq_true rfl) ?_
  show R K mi_X13_suppose h [va_rf x0, .int x1, .int x2, .int x3] _ _ 0 [(0, va_rf x0), (1, .int x1), (2, .int x2), (3, .int x3)] [] h
  refine R_aload_n 0 dX13_suppose_0 rfl rfl ?_
  refine R_iconst dX13_suppose_1 k_iconst_0 ?_
  obtain ⟨h1, eh1, hf⟩ := Option.bind_eq_some_iff.mp hf
  refine R_putI (fp_X13_43 rfl) eh1 dX13_suppose_2 ?_
  refine R_aload_n 0 dX13_suppose_5 rfl rfl ?_
  refine R_iload_n 1 dX13_suppose_6 rfl rfl ?_
  refine R_iload_n 2 dX13_suppose_7 rfl rfl ?_
  obtain ⟨u2, eu2, hf⟩ := Option.bind_eq_some_iff.mp hf
  obtain ⟨q3, eq3, hf⟩ := Option.bind_eq_some_iff.mp hf
  refine R_callV (mj := mi_X13_isNumber) (ci := 11) (q := (RX13, TX13, 24)) (As := [.int x1, .int x2]) (rest := []) (T_X13_isNumber eq3) eu2 rfl lV_X13_234 ⟨rfl, oky_X13_isNumber⟩ (by decide) (by decide) rfl C1_0 (Nat.le_of_ble_eq_true rfl) dX13_suppose_8 ?_
  refine R_ifeq (tgt := 23) dX13_suppose_11 (by decide) (fun hc => ?_) (fun hc => ?_)
  · rw [if_pos hc] at hf
    refine R_iconst dX13_suppose_23 k_iconst_m1 ?_
    obtain rfl := Option.some.inj hf
    exact R_iretI rfl dX13_suppose_24
  · rw [if_neg hc] at hf
    refine R_iload_n 3 dX13_suppose_14 rfl rfl ?_
    refine R_iconst dX13_suppose_15 k_iconst_0 ?_
    refine R_iconst dX13_suppose_16 k_iconst_1 ?_
    obtain ⟨q4, eq4, hf⟩ := Option.bind_eq_some_iff.mp hf
    refine R_callS (mj := mi_X13_in) (As := [.int x3, .int 0, .int 1]) (rest := []) (T_X13_in eq4) lS_X13_65 oky_X13_in (by decide) (by decide) rfl C1_0 (Nat.le_of_ble_eq_true rfl) dX13_suppose_17 ?_
    refine R_ifne (tgt := 25) dX13_suppose_20 (by decide) (fun hc => ?_) (fun hc => ?_)
    · rw [if_pos hc] at hf
      refine R_iconst dX13_suppose_23 k_iconst_m1 ?_
      obtain rfl := Option.some.inj hf
      exact R_iretI rfl dX13_suppose_24
    · rw [if_neg hc] at hf
      refine R_aload_n 0 dX13_suppose_25 rfl rfl ?_
      obtain ⟨t5, et5, hf⟩ := Option.bind_eq_some_iff.mp hf
      refine R_getr lg_X13_7 et5 dX13_suppose_26 ?_
      refine R_bipush dX13_suppose_29 k_bipush_93 ?_
      refine R_iload_n 1 dX13_suppose_31 rfl rfl ?_
      refine R_iadd dX13_suppose_32 ?_
      obtain ⟨t6, et6, hf⟩ := Option.bind_eq_some_iff.mp hf
      refine R_iaload et6 dX13_suppose_33 ?_
      refine R_iload_n 2 dX13_suppose_34 rfl rfl ?_
      obtain ⟨q7, eq7, hf⟩ := Option.bind_eq_some_iff.mp hf
      refine R_callS (mj := mi_X13_has) (As := [.int t6, .int x2]) (rest := []) (T_X13_has eq7) lS_X13_54 oky_X13_has (by decide) (by decide) rfl C1_0 (Nat.le_of_ble_eq_true rfl) dX13_suppose_35 ?_
      refine R_ifne (tgt := 44) dX13_suppose_38 (by decide) (fun hc => ?_) (fun hc => ?_)
      · rw [if_pos hc] at hf
        refine R_bipush dX13_suppose_41 k_bipush_m2 ?_
        obtain rfl := Option.some.inj hf
        exact R_iretI rfl dX13_suppose_43
      · rw [if_neg hc] at hf
        refine R_aload_n 0 dX13_suppose_44 rfl rfl ?_
        obtain ⟨u8, eu8, hf⟩ := Option.bind_eq_some_iff.mp hf
        obtain ⟨h9, eh9, hf⟩ := Option.bind_eq_some_iff.mp hf
        refine R_callV (mj := mi_X13_layPlayers) (ci := 11) (q := (RX13, TX13, 24)) (As := []) (rest := []) (T_X13_layPlayers eh9) eu8 rfl lV_X13_237 ⟨rfl, oky_X13_layPlayers⟩ (by decide) (by decide) rfl C1_0 (Nat.le_of_ble_eq_true rfl) dX13_suppose_45 ?_
        refine R_aload_n 0 dX13_suppose_48 rfl rfl ?_
        obtain ⟨t10, et10, hf⟩ := Option.bind_eq_some_iff.mp hf
        refine R_getr lg_X13_22 et10 dX13_suppose_49 ?_
        refine R_iload_n 1 dX13_suppose_52 rfl rfl ?_
        refine R_iconst dX13_suppose_53 k_iconst_1 ?_
        refine R_iload_n 2 dX13_suppose_54 rfl rfl ?_
        refine R_ishl dX13_suppose_55 ?_
        obtain ⟨h11, eh11, hf⟩ := Option.bind_eq_some_iff.mp hf
        refine R_iastore eh11 dX13_suppose_56 ?_
        refine R_aload_n 0 dX13_suppose_57 rfl rfl ?_
        refine R_aload_n 0 dX13_suppose_58 rfl rfl ?_
        obtain ⟨t12, et12, hf⟩ := Option.bind_eq_some_iff.mp hf
        refine R_getr lg_X13_7 et12 dX13_suppose_59 ?_
        refine R_iconst dX13_suppose_62 k_iconst_2 ?_
        obtain ⟨t13, et13, hf⟩ := Option.bind_eq_some_iff.mp hf
        refine R_iaload et13 dX13_suppose_63 ?_
        obtain ⟨u14, eu14, hf⟩ := Option.bind_eq_some_iff.mp hf
        obtain ⟨h15, eh15, hf⟩ := Option.bind_eq_some_iff.mp hf
        refine R_callV (mj := mi_X13_goToEnd) (ci := 11) (q := (RX13, TX13, 24)) (As := [.int t13]) (rest := []) (T_X13_goToEnd eh15) eu14 rfl lV_X13_204 ⟨rfl, oky_X13_goToEnd⟩ (by decide) (by decide) rfl C1_0 (Nat.le_of_ble_eq_true rfl) dX13_suppose_64 ?_
        refine R_iload_n 3 dX13_suppose_67 rfl rfl ?_
        refine R_ifne (tgt := 78) dX13_suppose_68 (by decide) (fun hc => ?_) (fun hc => ?_)
        · rw [if_pos hc] at hf
          refine R_aload_n 0 dX13_suppose_71 rfl rfl ?_
          obtain ⟨u16, eu16, hf⟩ := Option.bind_eq_some_iff.mp hf
          obtain ⟨q17, eq17, hf⟩ := Option.bind_eq_some_iff.mp hf
          refine R_callV (mj := mi_X13_how) (ci := 11) (q := (RX13, TX13, 24)) (As := []) (rest := []) (T_X13_how eq17) eu16 rfl lV_X13_207 ⟨rfl, oky_X13_how⟩ (by decide) (by decide) rfl C1_0 (Nat.le_of_ble_eq_true rfl) dX13_suppose_72 ?_
          refine R_goto (tgt := 82) dX13_suppose_75 (by decide) ?_
          obtain rfl := Option.some.inj hf
          exact R_iretI rfl dX13_suppose_82
        · rw [if_neg hc] at hf
          refine R_aload_n 0 dX13_suppose_78 rfl rfl ?_
          obtain ⟨t18, et18, hf⟩ := Option.bind_eq_some_iff.mp hf
          refine R_geti lg_X13_198 et18 dX13_suppose_79 ?_
          obtain rfl := Option.some.inj hf
          exact R_iretI rfl dX13_suppose_82
abbrev mi_X13_needed : MI := (RX13, yX13_needed, cX13_needed, 5, (some FieldType.int), 10)
noncomputable def f_X13_needed_B91  (x0 : Option Nat) (x3 : Int32) (s0 : Int32) (h : PH) : Option (Int32 × PH) := (gfr 11 1 x0 h).bind (fun t1 => (asi 0 t1 x3 1 h).bind (fun h2 => some (s0, h2)))
theorem f_X13_needed_B91_ok {K : KT} {h0 : PH} {a0 : List Value} {q : (Int32 × PH)}  (x0 : Option Nat) (x3 : Int32) (s0 : Int32) (h : PH) (hf : f_X13_needed_B91  x0 x3 s0 h = some q) : R K mi_X13_needed h0 a0 (.inl (some (.int q.1))) q.2 91 [(0, va_rf x0), (3, .int x3)] [.int s0] h := by
  unfold f_X13_needed_B91 at hf
  refine R_istore (L' := [(4, .int s0), (0, va_rf x0), (3, .int x3)]) dX13_needed_91 (by decide) rfl ?_
  refine R_aload_n 1 dX13_needed_93 rfl rfl ?_
  obtain ⟨t1, et1, hf⟩ := Option.bind_eq_some_iff.mp hf
  refine R_getr lg_X13_7 et1 dX13_needed_94 ?_
  refine R_iload_n 2 dX13_needed_97 rfl rfl ?_
  refine R_iconst dX13_needed_98 k_iconst_1 ?_
  obtain ⟨h2, eh2, hf⟩ := Option.bind_eq_some_iff.mp hf
  refine R_iastore eh2 dX13_needed_99 ?_
  refine R_iload 0 dX13_needed_100 rfl ?_
  obtain rfl := Option.some.inj hf
  exact R_iretI rfl dX13_needed_102
noncomputable def f_X13_needed_B50  (x0 : Option Nat) (x2 : Int32) (s0 : Int32) (h : PH) : Option (Int32 × PH) := (gfr 11 1 x0 h).bind (fun t1 => (ald 0 t1 (s0 + x2) h).bind (fun t2 => if t2 = 0 then (some ((-2), h)) else ((rcv 11 x0 h).bind (fun u3 => (f_X13_isSolvable x0 h).bind (fun q4 => if q4.1 = 0 then (some ((-2), q4.2)) else ((gfr 11 1 x0 q4.2).bind (fun t5 => (asi 0 t5 (s0 + x2) 0 q4.2).bind (fun h6 => (rcv 11 x0 h6).bind (fun u7 => (f_X13_isSolvable x0 h6).bind (fun q8 => if q8.1 = 0 then (f_X13_needed_B91  x0 (s0 + x2) 1 q8.2) else (f_X13_needed_B91  x0 (s0 + x2) 0 q8.2)))))))))))
theorem f_X13_needed_B50_ok {K : KT} {h0 : PH} {a0 : List Value} {q : (Int32 × PH)}  (x0 : Option Nat) (x2 : Int32) (s0 : Int32) (h : PH) (hf : f_X13_needed_B50  x0 x2 s0 h = some q) : R K mi_X13_needed h0 a0 (.inl (some (.int q.1))) q.2 50 [(0, va_rf x0), (2, .int x2)] [.int s0] h := by
  unfold f_X13_needed_B50 at hf
  refine R_iload_n 1 dX13_needed_50 rfl rfl ?_
  refine R_iadd dX13_needed_51 ?_
  refine R_istore_n (L' := [(3, .int (s0 + x2)), (0, va_rf x0), (2, .int x2)]) dX13_needed_52 rfl (by decide) rfl ?_
  refine R_aload_n 1 dX13_needed_53 rfl rfl ?_
  obtain ⟨t1, et1, hf⟩ := Option.bind_eq_some_iff.mp hf
  refine R_getr lg_X13_7 et1 dX13_needed_54 ?_
  refine R_iload_n 0 dX13_needed_57 rfl rfl ?_
  obtain ⟨t2, et2, hf⟩ := Option.bind_eq_some_iff.mp hf
  refine R_iaload et2 dX13_needed_58 ?_
  refine R_ifeq (tgt := 69) dX13_needed_59 (by decide) (fun hc => ?_) (fun hc => ?_)
  · rw [if_pos hc] at hf
    refine R_bipush dX13_needed_69 k_bipush_m2 ?_
    obtain rfl := Option.some.inj hf
    exact R_iretI rfl dX13_needed_71
  · rw [if_neg hc] at hf
    refine R_aload_n 1 dX13_needed_62 rfl rfl ?_
    obtain ⟨u3, eu3, hf⟩ := Option.bind_eq_some_iff.mp hf
    obtain ⟨q4, eq4, hf⟩ := Option.bind_eq_some_iff.mp hf
    refine R_callV (mj := mi_X13_isSolvable) (ci := 11) (q := (RX13, TX13, 24)) (As := []) (rest := []) (T_X13_isSolvable eq4) eu3 rfl lV_X13_228 ⟨rfl, oky_X13_isSolvable⟩ (by decide) (by decide) rfl C1_0 (Nat.le_of_ble_eq_true rfl) dX13_needed_63 ?_
    refine R_ifne (tgt := 72) dX13_needed_66 (by decide) (fun hc => ?_) (fun hc => ?_)
    · rw [if_pos hc] at hf
      refine R_bipush dX13_needed_69 k_bipush_m2 ?_
      obtain rfl := Option.some.inj hf
      exact R_iretI rfl dX13_needed_71
    · rw [if_neg hc] at hf
      refine R_aload_n 1 dX13_needed_72 rfl rfl ?_
      obtain ⟨t5, et5, hf⟩ := Option.bind_eq_some_iff.mp hf
      refine R_getr lg_X13_7 et5 dX13_needed_73 ?_
      refine R_iload_n 0 dX13_needed_76 rfl rfl ?_
      refine R_iconst dX13_needed_77 k_iconst_0 ?_
      obtain ⟨h6, eh6, hf⟩ := Option.bind_eq_some_iff.mp hf
      refine R_iastore eh6 dX13_needed_78 ?_
      refine R_aload_n 1 dX13_needed_79 rfl rfl ?_
      obtain ⟨u7, eu7, hf⟩ := Option.bind_eq_some_iff.mp hf
      obtain ⟨q8, eq8, hf⟩ := Option.bind_eq_some_iff.mp hf
      refine R_callV (mj := mi_X13_isSolvable) (ci := 11) (q := (RX13, TX13, 24)) (As := []) (rest := []) (T_X13_isSolvable eq8) eu7 rfl lV_X13_228 ⟨rfl, oky_X13_isSolvable⟩ (by decide) (by decide) rfl C1_0 (Nat.le_of_ble_eq_true rfl) dX13_needed_80 ?_
      refine R_ifeq (tgt := 90) dX13_needed_83 (by decide) (fun hc => ?_) (fun hc => ?_)
      · rw [if_pos hc] at hf
        refine R_iconst dX13_needed_90 k_iconst_1 ?_
        refine R.sub [1, 0] (L' := [(0, va_rf x0), (3, .int (s0 + x2))]) rfl ?_
        exact f_X13_needed_B91_ok  x0 (s0 + x2) 1 q8.2 hf
      · rw [if_neg hc] at hf
        refine R_iconst dX13_needed_86 k_iconst_0 ?_
        refine R_goto (tgt := 91) dX13_needed_87 (by decide) ?_
        refine R.sub [1, 0] (L' := [(0, va_rf x0), (3, .int (s0 + x2))]) rfl ?_
        exact f_X13_needed_B91_ok  x0 (s0 + x2) 0 q8.2 hf
noncomputable def f_X13_needed_B39  (x0 : Option Nat) (x1 : Int32) (x2 : Int32) (h : PH) : Option (Int32 × PH) := if x1 = 0 then (f_X13_needed_B50  x0 x2 58 h) else (f_X13_needed_B50  x0 x2 83 h)
theorem f_X13_needed_B39_ok {K : KT} {h0 : PH} {a0 : List Value} {q : (Int32 × PH)}  (x0 : Option Nat) (x1 : Int32) (x2 : Int32) (h : PH) (hf : f_X13_needed_B39  x0 x1 x2 h = some q) : R K mi_X13_needed h0 a0 (.inl (some (.int q.1))) q.2 39 [(0, va_rf x0), (1, .int x1), (2, .int x2)] [] h := by
  unfold f_X13_needed_B39 at hf
  refine R_iload_n 1 dX13_needed_39 rfl rfl ?_
  refine R_ifne (tgt := 48) dX13_needed_40 (by decide) (fun hc => ?_) (fun hc => ?_)
  · rw [if_pos hc] at hf
    refine R_bipush dX13_needed_43 k_bipush_58 ?_
    refine R_goto (tgt := 50) dX13_needed_45 (by decide) ?_
    refine R.sub [0, 2] (L' := [(0, va_rf x0), (2, .int x2)]) rfl ?_
    exact f_X13_needed_B50_ok  x0 x2 58 h hf
  · rw [if_neg hc] at hf
    refine R_bipush dX13_needed_48 k_bipush_83 ?_
    refine R.sub [0, 2] (L' := [(0, va_rf x0), (2, .int x2)]) rfl ?_
    exact f_X13_needed_B50_ok  x0 x2 83 h hf
noncomputable def f_X13_needed (x0 : Option Nat) (x1 : Int32) (x2 : Int32) (h : PH) : Option (Int32 × PH) := (pf 11 0 x0 (.int 0) h).bind (fun h1 => (f_X13_in x1 0 1 h1).bind (fun q2 => if q2.1 = 0 then (some ((-1), q2.2)) else (if x1 = 0 then ((rcv 11 x0 q2.2).bind (fun u3 => (f_X13_isCell x0 x2 q2.2).bind (fun q4 => if q4.1 = 0 then (some ((-1), q4.2)) else (f_X13_needed_B39  x0 x1 x2 q4.2)))) else ((rcv 11 x0 q2.2).bind (fun u5 => (f_X13_isLine x0 x2 q2.2).bind (fun q6 => if q6.1 = 0 then (some ((-1), q6.2)) else (f_X13_needed_B39  x0 x1 x2 q6.2)))))))
theorem T_X13_needed {K : KT} {x0 : Option Nat} {x1 : Int32} {x2 : Int32} {h : PH} {q : (Int32 × PH)} (hf : f_X13_needed x0 x1 x2 h = some q) : T K mi_X13_needed [va_rf x0, .int x1, .int x2] h (.inl (some (.int q.1))) q.2 := by
  unfold f_X13_needed at hf
  refine T_of (by decide +kernel) rfl (C1_r (C1_i (C1_i C1_0))) (Nat.le_of_ble_eq_true rfl) ?_
  show R K mi_X13_needed h [va_rf x0, .int x1, .int x2] _ _ 0 [(0, va_rf x0), (1, .int x1), (2, .int x2)] [] h
  refine R_aload_n 0 dX13_needed_0 rfl rfl ?_
  refine R_iconst dX13_needed_1 k_iconst_0 ?_
  obtain ⟨h1, eh1, hf⟩ := Option.bind_eq_some_iff.mp hf
  refine R_putI (fp_X13_43 rfl) eh1 dX13_needed_2 ?_
  refine R_iload_n 1 dX13_needed_5 rfl rfl ?_
  refine R_iconst dX13_needed_6 k_iconst_0 ?_
  refine R_iconst dX13_needed_7 k_iconst_1 ?_
  obtain ⟨q2, eq2, hf⟩ := Option.bind_eq_some_iff.mp hf
  refine R_callS (mj := mi_X13_in) (As := [.int x1, .int 0, .int 1]) (rest := []) (T_X13_in eq2) lS_X13_65 oky_X13_in (by decide) (by decide) rfl C1_0 (Nat.le_of_ble_eq_true rfl) dX13_needed_8 ?_
  refine R_ifeq (tgt := 37) dX13_needed_11 (by decide) (fun hc => ?_) (fun hc => ?_)
  · rw [if_pos hc] at hf
    refine R_iconst dX13_needed_37 k_iconst_m1 ?_
    obtain rfl := Option.some.inj hf
    exact R_iretI rfl dX13_needed_38
  · rw [if_neg hc] at hf
    refine R_iload_n 1 dX13_needed_14 rfl rfl ?_
    refine R_ifne (tgt := 29) dX13_needed_15 (by decide) (fun hc => ?_) (fun hc => ?_)
    · rw [if_pos hc] at hf
      refine R_aload_n 0 dX13_needed_18 rfl rfl ?_
      refine R_iload_n 2 dX13_needed_19 rfl rfl ?_
      obtain ⟨u3, eu3, hf⟩ := Option.bind_eq_some_iff.mp hf
      obtain ⟨q4, eq4, hf⟩ := Option.bind_eq_some_iff.mp hf
      refine R_callV (mj := mi_X13_isCell) (ci := 11) (q := (RX13, TX13, 24)) (As := [.int x2]) (rest := []) (T_X13_isCell eq4) eu3 rfl lV_X13_108 ⟨rfl, oky_X13_isCell⟩ (by decide) (by decide) rfl C1_0 (Nat.le_of_ble_eq_true rfl) dX13_needed_20 ?_
      refine R_ifeq (tgt := 37) dX13_needed_23 (by decide) (fun hc => ?_) (fun hc => ?_)
      · rw [if_pos hc] at hf
        refine R_iconst dX13_needed_37 k_iconst_m1 ?_
        obtain rfl := Option.some.inj hf
        exact R_iretI rfl dX13_needed_38
      · rw [if_neg hc] at hf
        refine R_goto (tgt := 39) dX13_needed_26 (by decide) ?_
        exact f_X13_needed_B39_ok  x0 x1 x2 q4.2 hf
    · rw [if_neg hc] at hf
      refine R_aload_n 0 dX13_needed_29 rfl rfl ?_
      refine R_iload_n 2 dX13_needed_30 rfl rfl ?_
      obtain ⟨u5, eu5, hf⟩ := Option.bind_eq_some_iff.mp hf
      obtain ⟨q6, eq6, hf⟩ := Option.bind_eq_some_iff.mp hf
      refine R_callV (mj := mi_X13_isLine) (ci := 11) (q := (RX13, TX13, 24)) (As := [.int x2]) (rest := []) (T_X13_isLine eq6) eu5 rfl lV_X13_216 ⟨rfl, oky_X13_isLine⟩ (by decide) (by decide) rfl C1_0 (Nat.le_of_ble_eq_true rfl) dX13_needed_31 ?_
      refine R_ifne (tgt := 39) dX13_needed_34 (by decide) (fun hc => ?_) (fun hc => ?_)
      · rw [if_pos hc] at hf
        refine R_iconst dX13_needed_37 k_iconst_m1 ?_
        obtain rfl := Option.some.inj hf
        exact R_iretI rfl dX13_needed_38
      · rw [if_neg hc] at hf
        exact f_X13_needed_B39_ok  x0 x1 x2 q6.2 hf
abbrev mi_X13_costOf : MI := (RX13, yX13_costOf, cX13_costOf, 4, (some FieldType.int), 2)
noncomputable def f_X13_costOf_L4  : Nat → Option Nat → Int32 → Int32 → Int32 → PH → Option (Int32 × PH)
  | 0, _, _, _, _, _ => none
  | k + 1, x0, x1, x2, x3, h => if 5 ≤ x3 then (some (x2, h)) else ((f_X13_has x1 x3 h).bind (fun q1 => if q1.1 = 0 then ((f_X13_costOf_L4 k) x0 x1 (x2 + 0) (x3 + 1) q1.2) else ((gfr 11 1 x0 q1.2).bind (fun t2 => (ald 0 t2 (3 + x3) q1.2).bind (fun t3 => (f_X13_costOf_L4 k) x0 x1 (x2 + t3) (x3 + 1) q1.2)))))
theorem f_X13_costOf_L4_ok {K : KT} {h0 : PH} {a0 : List Value} {q : (Int32 × PH)}  : ∀ (k : Nat) (x0 : Option Nat) (x1 : Int32) (x2 : Int32) (x3 : Int32) (h : PH), f_X13_costOf_L4  k x0 x1 x2 x3 h = some q → R K mi_X13_costOf h0 a0 (.inl (some (.int q.1))) q.2 4 [(0, va_rf x0), (1, .int x1), (2, .int x2), (3, .int x3)] [] h := by
  intro k
  induction k with
  | zero => intro _ _ _ _ _ hf; cases hf
  | succ k ih =>
    intro x0 x1 x2 x3 h hf
    unfold f_X13_costOf_L4 at hf
    refine R_iload_n 3 dX13_costOf_4 rfl rfl ?_
    refine R_iconst dX13_costOf_5 k_iconst_5 ?_
    refine R_icge (tgt := 38) dX13_costOf_6 (by decide) (fun hc => ?_) (fun hc => ?_)
    · rw [if_pos hc] at hf
      refine R_iload_n 2 dX13_costOf_38 rfl rfl ?_
      obtain rfl := Option.some.inj hf
      exact R_iretI rfl dX13_costOf_39
    · rw [if_neg hc] at hf
      refine R_iload_n 2 dX13_costOf_9 rfl rfl ?_
      refine R_iload_n 1 dX13_costOf_10 rfl rfl ?_
      refine R_iload_n 3 dX13_costOf_11 rfl rfl ?_
      obtain ⟨q1, eq1, hf⟩ := Option.bind_eq_some_iff.mp hf
      refine R_callS (mj := mi_X13_has) (As := [.int x1, .int x3]) (rest := [.int x2]) (T_X13_has eq1) lS_X13_54 oky_X13_has (by decide) (by decide) rfl (C1_i C1_0) (Nat.le_of_ble_eq_true rfl) dX13_costOf_12 ?_
      refine R_ifeq (tgt := 29) dX13_costOf_15 (by decide) (fun hc => ?_) (fun hc => ?_)
      · rw [if_pos hc] at hf
        refine R_iconst dX13_costOf_29 k_iconst_0 ?_
        refine R_iadd dX13_costOf_30 ?_
        refine R_istore_n (L' := [(2, .int (x2 + 0)), (0, va_rf x0), (1, .int x1), (3, .int x3)]) dX13_costOf_31 rfl (by decide) rfl ?_
        refine R_iinc (L' := [(3, .int (x3 + 1)), (2, .int (x2 + 0)), (0, va_rf x0), (1, .int x1)]) 3 dX13_costOf_32 rfl (k_inc_1 _) (by decide) rfl ?_
        refine R_goto (tgt := 4) dX13_costOf_35 (by decide) ?_
        refine R.sub [2, 3, 1, 0] (L' := [(0, va_rf x0), (1, .int x1), (2, .int (x2 + 0)), (3, .int (x3 + 1))]) rfl ?_
        exact ih x0 x1 (x2 + 0) (x3 + 1) q1.2 hf
      · rw [if_neg hc] at hf
        refine R_aload_n 0 dX13_costOf_18 rfl rfl ?_
        obtain ⟨t2, et2, hf⟩ := Option.bind_eq_some_iff.mp hf
        refine R_getr lg_X13_7 et2 dX13_costOf_19 ?_
        refine R_iconst dX13_costOf_22 k_iconst_3 ?_
        refine R_iload_n 3 dX13_costOf_23 rfl rfl ?_
        refine R_iadd dX13_costOf_24 ?_
        obtain ⟨t3, et3, hf⟩ := Option.bind_eq_some_iff.mp hf
        refine R_iaload et3 dX13_costOf_25 ?_
        refine R_goto (tgt := 30) dX13_costOf_26 (by decide) ?_
        refine R_iadd dX13_costOf_30 ?_
        refine R_istore_n (L' := [(2, .int (x2 + t3)), (0, va_rf x0), (1, .int x1), (3, .int x3)]) dX13_costOf_31 rfl (by decide) rfl ?_
        refine R_iinc (L' := [(3, .int (x3 + 1)), (2, .int (x2 + t3)), (0, va_rf x0), (1, .int x1)]) 3 dX13_costOf_32 rfl (k_inc_1 _) (by decide) rfl ?_
        refine R_goto (tgt := 4) dX13_costOf_35 (by decide) ?_
        refine R.sub [2, 3, 1, 0] (L' := [(0, va_rf x0), (1, .int x1), (2, .int (x2 + t3)), (3, .int (x3 + 1))]) rfl ?_
        exact ih x0 x1 (x2 + t3) (x3 + 1) q1.2 hf
noncomputable def f_X13_costOf (x0 : Option Nat) (x1 : Int32) (h : PH) : Option (Int32 × PH) := f_X13_costOf_L4  FU x0 x1 0 0 h
theorem T_X13_costOf {K : KT} {x0 : Option Nat} {x1 : Int32} {h : PH} {q : (Int32 × PH)} (hf : f_X13_costOf x0 x1 h = some q) : T K mi_X13_costOf [va_rf x0, .int x1] h (.inl (some (.int q.1))) q.2 := by
  unfold f_X13_costOf at hf
  refine T_of (by decide +kernel) rfl (C1_r (C1_i C1_0)) (Nat.le_of_ble_eq_true rfl) ?_
  show R K mi_X13_costOf h [va_rf x0, .int x1] _ _ 0 [(0, va_rf x0), (1, .int x1)] [] h
  refine R_iconst dX13_costOf_0 k_iconst_0 ?_
  refine R_istore_n (L' := [(2, .int 0), (0, va_rf x0), (1, .int x1)]) dX13_costOf_1 rfl (by decide) rfl ?_
  refine R_iconst dX13_costOf_2 k_iconst_0 ?_
  refine R_istore_n (L' := [(3, .int 0), (2, .int 0), (0, va_rf x0), (1, .int x1)]) dX13_costOf_3 rfl (by decide) rfl ?_
  refine R.sub [2, 3, 1, 0] (L' := [(0, va_rf x0), (1, .int x1), (2, .int 0), (3, .int 0)]) rfl ?_
  exact f_X13_costOf_L4_ok  FU x0 x1 0 0 h hf
theorem lV_X13_338 : GoodIn lw_all (wsV "EdgeSumsModel" 338 "EdgeSumsModel" yX13_costOf (ws_ yX13_costOf cX13_costOf 4 (some FieldType.int))) := lw_V q3155 q3157 qs121 q158 q3158
theorem oky_X13_costOf : okY yX13_costOf 1 := ⟨by decide +kernel, by decide +kernel, by decide +kernel⟩
abbrev mi_X13_enough : MI := (RX13, yX13_enough, cX13_enough, 5, (some FieldType.int), 9)
noncomputable def f_X13_enough_B81 (r10 : Option Nat → Int32 → Int32 → PH → Option (Int32 × PH)) (x0 : Option Nat) (x1 : Int32) (x2 : Int32) (x3 : Int32) (s0 : Int32) (h : PH) : Option (Int32 × PH) := if x3 = 0 then (r10 x0 x1 (x2 + 1) h) else (if s0 = 0 then (r10 x0 x1 (x2 + 1) h) else ((rcv 11 x0 h).bind (fun u1 => (f_X13_isSolvableBy x0 x2 h).bind (fun q2 => if q2.1 = 0 then (r10 x0 x1 (x2 + 1) q2.2) else (r10 x0 x2 (x2 + 1) q2.2)))))
theorem f_X13_enough_B81_ok {K : KT} {h0 : PH} {a0 : List Value} {q : (Int32 × PH)} {r10 : Option Nat → Int32 → Int32 → PH → Option (Int32 × PH)} (hr10 : ∀ (y0 : Option Nat) (y1 : Int32) (y2 : Int32) (h : PH), r10 y0 y1 y2 h = some q → R K mi_X13_enough h0 a0 (.inl (some (.int q.1))) q.2 10 [(0, va_rf y0), (1, .int y1), (2, .int y2)] [] h) (x0 : Option Nat) (x1 : Int32) (x2 : Int32) (x3 : Int32) (s0 : Int32) (h : PH) (hf : f_X13_enough_B81 r10 x0 x1 x2 x3 s0 h = some q) : R K mi_X13_enough h0 a0 (.inl (some (.int q.1))) q.2 81 [(0, va_rf x0), (1, .int x1), (2, .int x2), (3, .int x3)] [.int s0] h := by
  unfold f_X13_enough_B81 at hf
  refine R_istore (L' := [(4, .int s0), (0, va_rf x0), (1, .int x1), (2, .int x2), (3, .int x3)]) dX13_enough_81 (by decide) rfl ?_
  refine R_iload_n 4 dX13_enough_83 rfl rfl ?_
  refine R_ifeq (tgt := 104) dX13_enough_84 (by decide) (fun hc => ?_) (fun hc => ?_)
  · rw [if_pos hc] at hf
    refine R_iload_n 2 dX13_enough_104 rfl rfl ?_
    refine R_istore_n (L' := [(1, .int x1), (4, .int s0), (0, va_rf x0), (2, .int x2), (3, .int x3)]) dX13_enough_105 rfl (by decide) rfl ?_
    refine R_iinc (L' := [(2, .int (x2 + 1)), (1, .int x1), (4, .int s0), (0, va_rf x0), (3, .int x3)]) 3 dX13_enough_106 rfl (k_inc_1 _) (by decide) rfl ?_
    refine R_goto (tgt := 10) dX13_enough_109 (by decide) ?_
    refine R.sub [3, 1, 0] (L' := [(0, va_rf x0), (1, .int x1), (2, .int (x2 + 1))]) rfl ?_
    exact hr10 x0 x1 (x2 + 1) h hf
  · rw [if_neg hc] at hf
    refine R_iload 0 dX13_enough_87 rfl ?_
    refine R_ifeq (tgt := 104) dX13_enough_89 (by decide) (fun hc => ?_) (fun hc => ?_)
    · rw [if_pos hc] at hf
      refine R_iload_n 2 dX13_enough_104 rfl rfl ?_
      refine R_istore_n (L' := [(1, .int x1), (4, .int s0), (0, va_rf x0), (2, .int x2), (3, .int x3)]) dX13_enough_105 rfl (by decide) rfl ?_
      refine R_iinc (L' := [(2, .int (x2 + 1)), (1, .int x1), (4, .int s0), (0, va_rf x0), (3, .int x3)]) 3 dX13_enough_106 rfl (k_inc_1 _) (by decide) rfl ?_
      refine R_goto (tgt := 10) dX13_enough_109 (by decide) ?_
      refine R.sub [3, 1, 0] (L' := [(0, va_rf x0), (1, .int x1), (2, .int (x2 + 1))]) rfl ?_
      exact hr10 x0 x1 (x2 + 1) h hf
    · rw [if_neg hc] at hf
      refine R_aload_n 1 dX13_enough_92 rfl rfl ?_
      refine R_iload_n 3 dX13_enough_93 rfl rfl ?_
      obtain ⟨u1, eu1, hf⟩ := Option.bind_eq_some_iff.mp hf
      obtain ⟨q2, eq2, hf⟩ := Option.bind_eq_some_iff.mp hf
      refine R_callV (mj := mi_X13_isSolvableBy) (ci := 11) (q := (RX13, TX13, 24)) (As := [.int x2]) (rest := []) (T_X13_isSolvableBy eq2) eu1 rfl lV_X13_210 ⟨rfl, oky_X13_isSolvableBy⟩ (by decide) (by decide) rfl C1_0 (Nat.le_of_ble_eq_true rfl) dX13_enough_94 ?_
      refine R_ifeq (tgt := 104) dX13_enough_97 (by decide) (fun hc => ?_) (fun hc => ?_)
      · rw [if_pos hc] at hf
        refine R_iload_n 2 dX13_enough_104 rfl rfl ?_
        refine R_istore_n (L' := [(1, .int x1), (4, .int s0), (0, va_rf x0), (2, .int x2), (3, .int x3)]) dX13_enough_105 rfl (by decide) rfl ?_
        refine R_iinc (L' := [(2, .int (x2 + 1)), (1, .int x1), (4, .int s0), (0, va_rf x0), (3, .int x3)]) 3 dX13_enough_106 rfl (k_inc_1 _) (by decide) rfl ?_
        refine R_goto (tgt := 10) dX13_enough_109 (by decide) ?_
        refine R.sub [3, 1, 0] (L' := [(0, va_rf x0), (1, .int x1), (2, .int (x2 + 1))]) rfl ?_
        exact hr10 x0 x1 (x2 + 1) q2.2 hf
      · rw [if_neg hc] at hf
        refine R_iload_n 3 dX13_enough_100 rfl rfl ?_
        refine R_goto (tgt := 105) dX13_enough_101 (by decide) ?_
        refine R_istore_n (L' := [(1, .int x2), (4, .int s0), (0, va_rf x0), (2, .int x2), (3, .int x3)]) dX13_enough_105 rfl (by decide) rfl ?_
        refine R_iinc (L' := [(2, .int (x2 + 1)), (1, .int x2), (4, .int s0), (0, va_rf x0), (3, .int x3)]) 3 dX13_enough_106 rfl (k_inc_1 _) (by decide) rfl ?_
        refine R_goto (tgt := 10) dX13_enough_109 (by decide) ?_
        refine R.sub [3, 1, 0] (L' := [(0, va_rf x0), (1, .int x2), (2, .int (x2 + 1))]) rfl ?_
        exact hr10 x0 x2 (x2 + 1) q2.2 hf
noncomputable def f_X13_enough_B34 (r10 : Option Nat → Int32 → Int32 → PH → Option (Int32 × PH)) (x0 : Option Nat) (x1 : Int32) (x2 : Int32) (s0 : Int32) (h : PH) : Option (Int32 × PH) := if x1 = (-99) then (f_X13_enough_B81 r10 x0 x1 x2 s0 1 h) else ((f_X13_ones x2 h).bind (fun q1 => (f_X13_ones x1 q1.2).bind (fun q2 => if q1.1 < q2.1 then (f_X13_enough_B81 r10 x0 x1 x2 s0 1 q2.2) else ((f_X13_ones x2 q2.2).bind (fun q3 => (f_X13_ones x1 q3.2).bind (fun q4 => if q3.1 = q4.1 then ((rcv 11 x0 q4.2).bind (fun u5 => (f_X13_costOf x0 x2 q4.2).bind (fun q6 => (rcv 11 x0 q6.2).bind (fun u7 => (f_X13_costOf x0 x1 q6.2).bind (fun q8 => if q8.1 ≤ q6.1 then (f_X13_enough_B81 r10 x0 x1 x2 s0 0 q8.2) else (f_X13_enough_B81 r10 x0 x1 x2 s0 1 q8.2)))))) else (f_X13_enough_B81 r10 x0 x1 x2 s0 0 q4.2)))))))
theorem f_X13_enough_B34_ok {K : KT} {h0 : PH} {a0 : List Value} {q : (Int32 × PH)} {r10 : Option Nat → Int32 → Int32 → PH → Option (Int32 × PH)} (hr10 : ∀ (y0 : Option Nat) (y1 : Int32) (y2 : Int32) (h : PH), r10 y0 y1 y2 h = some q → R K mi_X13_enough h0 a0 (.inl (some (.int q.1))) q.2 10 [(0, va_rf y0), (1, .int y1), (2, .int y2)] [] h) (x0 : Option Nat) (x1 : Int32) (x2 : Int32) (s0 : Int32) (h : PH) (hf : f_X13_enough_B34 r10 x0 x1 x2 s0 h = some q) : R K mi_X13_enough h0 a0 (.inl (some (.int q.1))) q.2 34 [(0, va_rf x0), (1, .int x1), (2, .int x2)] [.int s0] h := by
  unfold f_X13_enough_B34 at hf
  refine R_istore_n (L' := [(3, .int s0), (0, va_rf x0), (1, .int x1), (2, .int x2)]) dX13_enough_34 rfl (by decide) rfl ?_
  refine R_iload_n 2 dX13_enough_35 rfl rfl ?_
  refine R_bipush dX13_enough_36 k_bipush_m99 ?_
  refine R_iceq (tgt := 76) dX13_enough_38 (by decide) (fun hc => ?_) (fun hc => ?_)
  · rw [if_pos hc] at hf
    refine R_iconst dX13_enough_76 k_iconst_1 ?_
    refine R_goto (tgt := 81) dX13_enough_77 (by decide) ?_
    refine R.sub [1, 2, 3, 0] (L' := [(0, va_rf x0), (1, .int x1), (2, .int x2), (3, .int s0)]) rfl ?_
    exact f_X13_enough_B81_ok hr10 x0 x1 x2 s0 1 h hf
  · rw [if_neg hc] at hf
    refine R_iload_n 3 dX13_enough_41 rfl rfl ?_
    obtain ⟨q1, eq1, hf⟩ := Option.bind_eq_some_iff.mp hf
    refine R_callS (mj := mi_X13_ones) (As := [.int x2]) (rest := []) (T_X13_ones eq1) lS_X13_142 oky_X13_ones (by decide) (by decide) rfl C1_0 (Nat.le_of_ble_eq_true rfl) dX13_enough_42 ?_
    refine R_iload_n 2 dX13_enough_45 rfl rfl ?_
    obtain ⟨q2, eq2, hf⟩ := Option.bind_eq_some_iff.mp hf
    refine R_callS (mj := mi_X13_ones) (As := [.int x1]) (rest := [.int q1.1]) (T_X13_ones eq2) lS_X13_142 oky_X13_ones (by decide) (by decide) rfl (C1_i C1_0) (Nat.le_of_ble_eq_true rfl) dX13_enough_46 ?_
    refine R_iclt (tgt := 76) dX13_enough_49 (by decide) (fun hc => ?_) (fun hc => ?_)
    · rw [if_pos hc] at hf
      refine R_iconst dX13_enough_76 k_iconst_1 ?_
      refine R_goto (tgt := 81) dX13_enough_77 (by decide) ?_
      refine R.sub [1, 2, 3, 0] (L' := [(0, va_rf x0), (1, .int x1), (2, .int x2), (3, .int s0)]) rfl ?_
      exact f_X13_enough_B81_ok hr10 x0 x1 x2 s0 1 q2.2 hf
    · rw [if_neg hc] at hf
      refine R_iload_n 3 dX13_enough_52 rfl rfl ?_
      obtain ⟨q3, eq3, hf⟩ := Option.bind_eq_some_iff.mp hf
      refine R_callS (mj := mi_X13_ones) (As := [.int x2]) (rest := []) (T_X13_ones eq3) lS_X13_142 oky_X13_ones (by decide) (by decide) rfl C1_0 (Nat.le_of_ble_eq_true rfl) dX13_enough_53 ?_
      refine R_iload_n 2 dX13_enough_56 rfl rfl ?_
      obtain ⟨q4, eq4, hf⟩ := Option.bind_eq_some_iff.mp hf
      refine R_callS (mj := mi_X13_ones) (As := [.int x1]) (rest := [.int q3.1]) (T_X13_ones eq4) lS_X13_142 oky_X13_ones (by decide) (by decide) rfl (C1_i C1_0) (Nat.le_of_ble_eq_true rfl) dX13_enough_57 ?_
      refine R_icne (tgt := 80) dX13_enough_60 (by decide) (fun hc => ?_) (fun hc => ?_)
      · rw [if_pos hc] at hf
        refine R_aload_n 1 dX13_enough_63 rfl rfl ?_
        refine R_iload_n 3 dX13_enough_64 rfl rfl ?_
        obtain ⟨u5, eu5, hf⟩ := Option.bind_eq_some_iff.mp hf
        obtain ⟨q6, eq6, hf⟩ := Option.bind_eq_some_iff.mp hf
        refine R_callV (mj := mi_X13_costOf) (ci := 11) (q := (RX13, TX13, 24)) (As := [.int x2]) (rest := []) (T_X13_costOf eq6) eu5 rfl lV_X13_338 ⟨rfl, oky_X13_costOf⟩ (by decide) (by decide) rfl C1_0 (Nat.le_of_ble_eq_true rfl) dX13_enough_65 ?_
        refine R_aload_n 1 dX13_enough_68 rfl rfl ?_
        refine R_iload_n 2 dX13_enough_69 rfl rfl ?_
        obtain ⟨u7, eu7, hf⟩ := Option.bind_eq_some_iff.mp hf
        obtain ⟨q8, eq8, hf⟩ := Option.bind_eq_some_iff.mp hf
        refine R_callV (mj := mi_X13_costOf) (ci := 11) (q := (RX13, TX13, 24)) (As := [.int x1]) (rest := [.int q6.1]) (T_X13_costOf eq8) eu7 rfl lV_X13_338 ⟨rfl, oky_X13_costOf⟩ (by decide) (by decide) rfl (C1_i C1_0) (Nat.le_of_ble_eq_true rfl) dX13_enough_70 ?_
        refine R_icge (tgt := 80) dX13_enough_73 (by decide) (fun hc => ?_) (fun hc => ?_)
        · rw [if_pos hc] at hf
          refine R_iconst dX13_enough_80 k_iconst_0 ?_
          refine R.sub [1, 2, 3, 0] (L' := [(0, va_rf x0), (1, .int x1), (2, .int x2), (3, .int s0)]) rfl ?_
          exact f_X13_enough_B81_ok hr10 x0 x1 x2 s0 0 q8.2 hf
        · rw [if_neg hc] at hf
          refine R_iconst dX13_enough_76 k_iconst_1 ?_
          refine R_goto (tgt := 81) dX13_enough_77 (by decide) ?_
          refine R.sub [1, 2, 3, 0] (L' := [(0, va_rf x0), (1, .int x1), (2, .int x2), (3, .int s0)]) rfl ?_
          exact f_X13_enough_B81_ok hr10 x0 x1 x2 s0 1 q8.2 hf
      · rw [if_neg hc] at hf
        refine R_iconst dX13_enough_80 k_iconst_0 ?_
        refine R.sub [1, 2, 3, 0] (L' := [(0, va_rf x0), (1, .int x1), (2, .int x2), (3, .int s0)]) rfl ?_
        exact f_X13_enough_B81_ok hr10 x0 x1 x2 s0 0 q4.2 hf
noncomputable def f_X13_enough_L10  : Nat → Option Nat → Int32 → Int32 → PH → Option (Int32 × PH)
  | 0, _, _, _, _ => none
  | k + 1, x0, x1, x2, h => if 32 ≤ x2 then (some (x1, h)) else ((gfr 11 1 x0 h).bind (fun t1 => (ald 0 t1 2 h).bind (fun t2 => if (x2 &&& (t2 ^^^ (-1))) = 0 then (f_X13_enough_B34 (f_X13_enough_L10 k) x0 x1 x2 1 h) else (f_X13_enough_B34 (f_X13_enough_L10 k) x0 x1 x2 0 h))))
theorem f_X13_enough_L10_ok {K : KT} {h0 : PH} {a0 : List Value} {q : (Int32 × PH)}  : ∀ (k : Nat) (x0 : Option Nat) (x1 : Int32) (x2 : Int32) (h : PH), f_X13_enough_L10  k x0 x1 x2 h = some q → R K mi_X13_enough h0 a0 (.inl (some (.int q.1))) q.2 10 [(0, va_rf x0), (1, .int x1), (2, .int x2)] [] h := by
  intro k
  induction k with
  | zero => intro _ _ _ _ hf; cases hf
  | succ k ih =>
    intro x0 x1 x2 h hf
    unfold f_X13_enough_L10 at hf
    refine R_iload_n 2 dX13_enough_10 rfl rfl ?_
    refine R_bipush dX13_enough_11 k_bipush_32 ?_
    refine R_icge (tgt := 112) dX13_enough_13 (by decide) (fun hc => ?_) (fun hc => ?_)
    · rw [if_pos hc] at hf
      refine R_iload_n 1 dX13_enough_112 rfl rfl ?_
      obtain rfl := Option.some.inj hf
      exact R_iretI rfl dX13_enough_113
    · rw [if_neg hc] at hf
      refine R_iload_n 2 dX13_enough_16 rfl rfl ?_
      refine R_aload_n 0 dX13_enough_17 rfl rfl ?_
      obtain ⟨t1, et1, hf⟩ := Option.bind_eq_some_iff.mp hf
      refine R_getr lg_X13_7 et1 dX13_enough_18 ?_
      refine R_iconst dX13_enough_21 k_iconst_2 ?_
      obtain ⟨t2, et2, hf⟩ := Option.bind_eq_some_iff.mp hf
      refine R_iaload et2 dX13_enough_22 ?_
      refine R_iconst dX13_enough_23 k_iconst_m1 ?_
      refine R_ixor dX13_enough_24 ?_
      refine R_iand dX13_enough_25 ?_
      refine R_ifne (tgt := 33) dX13_enough_26 (by decide) (fun hc => ?_) (fun hc => ?_)
      · rw [if_pos hc] at hf
        refine R_iconst dX13_enough_29 k_iconst_1 ?_
        refine R_goto (tgt := 34) dX13_enough_30 (by decide) ?_
        exact f_X13_enough_B34_ok ih x0 x1 x2 1 h hf
      · rw [if_neg hc] at hf
        refine R_iconst dX13_enough_33 k_iconst_0 ?_
        exact f_X13_enough_B34_ok ih x0 x1 x2 0 h hf
noncomputable def f_X13_enough (x0 : Option Nat) (h : PH) : Option (Int32 × PH) := (pf 11 0 x0 (.int 0) h).bind (fun h1 => f_X13_enough_L10  FU x0 (-99) 0 h1)
theorem T_X13_enough {K : KT} {x0 : Option Nat} {h : PH} {q : (Int32 × PH)} (hf : f_X13_enough x0 h = some q) : T K mi_X13_enough [va_rf x0] h (.inl (some (.int q.1))) q.2 := by
  unfold f_X13_enough at hf
  refine T_of (by decide +kernel) rfl (C1_r C1_0) (Nat.le_of_ble_eq_true rfl) ?_
  show R K mi_X13_enough h [va_rf x0] _ _ 0 [(0, va_rf x0)] [] h
  refine R_aload_n 0 dX13_enough_0 rfl rfl ?_
  refine R_iconst dX13_enough_1 k_iconst_0 ?_
  obtain ⟨h1, eh1, hf⟩ := Option.bind_eq_some_iff.mp hf
  refine R_putI (fp_X13_43 rfl) eh1 dX13_enough_2 ?_
  refine R_bipush dX13_enough_5 k_bipush_m99 ?_
  refine R_istore_n (L' := [(1, .int (-99)), (0, va_rf x0)]) dX13_enough_7 rfl (by decide) rfl ?_
  refine R_iconst dX13_enough_8 k_iconst_0 ?_
  refine R_istore_n (L' := [(2, .int 0), (1, .int (-99)), (0, va_rf x0)]) dX13_enough_9 rfl (by decide) rfl ?_
  refine R.sub [2, 1, 0] (L' := [(0, va_rf x0), (1, .int (-99)), (2, .int 0)]) rfl ?_
  exact f_X13_enough_L10_ok  FU x0 (-99) 0 h1 hf
theorem lg_X13_40 : LG "EdgeSumsModel" 40 11 18 := ⟨_, _, _, ck_11, by decide, Or.inl q2669⟩
theorem lg_X13_341 : LG "EdgeSumsModel" 341 11 19 := ⟨_, _, _, ck_11, by decide, Or.inl q2670⟩
theorem fp_X13_341 {mi : MI} (ho : mi.own = "EdgeSumsModel") : FP mi 341 11 19 .int := ⟨_, _, _, ck_11, by decide, by decide +kernel, Or.inl ⟨rfl, by rw [ho]; exact Or.inl q2670⟩⟩
abbrev mi_X13_print : MI := (RX13, yX13_print, cX13_print, 2, none, 1)
noncomputable def f_X13_print (x0 : Option Nat) (x1 : Int32) (h : PH) : Option PH := (gfr 11 18 x0 h).bind (fun t1 => (gfi 11 19 x0 h).bind (fun t2 => (asi 0 t1 t2 x1 h).bind (fun h3 => (gfi 11 19 x0 h3).bind (fun t4 => (pf 11 19 x0 (.int (t4 + 1)) h3).bind (fun h5 => some h5)))))
theorem T_X13_print {K : KT} {x0 : Option Nat} {x1 : Int32} {h : PH} {q : PH} (hf : f_X13_print x0 x1 h = some q) : T K mi_X13_print [va_rf x0, .int x1] h (.inl none) q := by
  unfold f_X13_print at hf
  refine T_of (by decide +kernel) rfl (C1_r (C1_i C1_0)) (Nat.le_of_ble_eq_true rfl) ?_
  show R K mi_X13_print h [va_rf x0, .int x1] _ _ 0 [(0, va_rf x0), (1, .int x1)] [] h
  refine R_aload_n 0 dX13_print_0 rfl rfl ?_
  obtain ⟨t1, et1, hf⟩ := Option.bind_eq_some_iff.mp hf
  refine R_getr lg_X13_40 et1 dX13_print_1 ?_
  refine R_aload_n 0 dX13_print_4 rfl rfl ?_
  obtain ⟨t2, et2, hf⟩ := Option.bind_eq_some_iff.mp hf
  refine R_geti lg_X13_341 et2 dX13_print_5 ?_
  refine R_iload_n 1 dX13_print_8 rfl rfl ?_
  obtain ⟨h3, eh3, hf⟩ := Option.bind_eq_some_iff.mp hf
  refine R_iastore eh3 dX13_print_9 ?_
  refine R_aload_n 0 dX13_print_10 rfl rfl ?_
  refine R_dup dX13_print_11 (rf_cat _) ?_
  obtain ⟨t4, et4, hf⟩ := Option.bind_eq_some_iff.mp hf
  refine R_geti lg_X13_341 et4 dX13_print_12 ?_
  refine R_iconst dX13_print_15 k_iconst_1 ?_
  refine R_iadd dX13_print_16 ?_
  obtain ⟨h5, eh5, hf⟩ := Option.bind_eq_some_iff.mp hf
  refine R_putI (fp_X13_341 rfl) eh5 dX13_print_17 ?_
  obtain rfl := Option.some.inj hf
  exact R_return rfl dX13_print_20
theorem lV_X13_344 : GoodIn lw_all (wsV "EdgeSumsModel" 344 "EdgeSumsModel" yX13_print (ws_ yX13_print cX13_print 2 none)) := lw_V q3163 q3165 qs122 q158 q3166
theorem oky_X13_print : okY yX13_print 1 := ⟨by decide +kernel, by decide +kernel, by decide +kernel⟩
abbrev mi_X13_printSum : MI := (RX13, yX13_printSum, cX13_printSum, 2, none, 3)
noncomputable def f_X13_printSum_B44  (x0 : Option Nat) (x1 : Int32) (h : PH) : Option PH := (rcv 11 x0 h).bind (fun u1 => (f_X13_sumOf x0 x1 h).bind (fun q2 => (nz 10).bind (fun u3 => (rcv 11 x0 q2.2).bind (fun u4 => (f_X13_print x0 (48 + (q2.1 - q2.1 / 10 * 10)) q2.2).bind (fun h5 => some h5)))))
theorem f_X13_printSum_B44_ok {K : KT} {h0 : PH} {a0 : List Value} {q : PH}  (x0 : Option Nat) (x1 : Int32) (h : PH) (hf : f_X13_printSum_B44  x0 x1 h = some q) : R K mi_X13_printSum h0 a0 (.inl none) q 44 [(0, va_rf x0), (1, .int x1)] [] h := by
  unfold f_X13_printSum_B44 at hf
  refine R_aload_n 0 dX13_printSum_44 rfl rfl ?_
  refine R_bipush dX13_printSum_45 k_bipush_48 ?_
  refine R_aload_n 0 dX13_printSum_47 rfl rfl ?_
  refine R_iload_n 1 dX13_printSum_48 rfl rfl ?_
  obtain ⟨u1, eu1, hf⟩ := Option.bind_eq_some_iff.mp hf
  obtain ⟨q2, eq2, hf⟩ := Option.bind_eq_some_iff.mp hf
  refine R_callV (mj := mi_X13_sumOf) (ci := 11) (q := (RX13, TX13, 24)) (As := [.int x1]) (rest := [.int 48, va_rf x0]) (T_X13_sumOf eq2) eu1 rfl lV_X13_158 ⟨rfl, oky_X13_sumOf⟩ (by decide) (by decide) rfl (C1_i (C1_r C1_0)) (Nat.le_of_ble_eq_true rfl) dX13_printSum_49 ?_
  refine R_bipush dX13_printSum_52 k_bipush_10 ?_
  obtain ⟨u3, eu3, hf⟩ := Option.bind_eq_some_iff.mp hf
  refine R_irem dX13_printSum_54 (nz_some eu3) ?_
  refine R_iadd dX13_printSum_55 ?_
  obtain ⟨u4, eu4, hf⟩ := Option.bind_eq_some_iff.mp hf
  obtain ⟨h5, eh5, hf⟩ := Option.bind_eq_some_iff.mp hf
  refine R_callV (mj := mi_X13_print) (ci := 11) (q := (RX13, TX13, 24)) (As := [.int (48 + (q2.1 - q2.1 / 10 * 10))]) (rest := []) (T_X13_print eh5) eu4 rfl lV_X13_344 ⟨rfl, oky_X13_print⟩ (by decide) (by decide) rfl C1_0 (Nat.le_of_ble_eq_true rfl) dX13_printSum_56 ?_
  obtain rfl := Option.some.inj hf
  exact R_return rfl dX13_printSum_59
noncomputable def f_X13_printSum (x0 : Option Nat) (x1 : Int32) (h : PH) : Option PH := (gfr 11 1 x0 h).bind (fun t1 => (ald 0 t1 (83 + x1) h).bind (fun t2 => if t2 = 0 then ((rcv 11 x0 h).bind (fun u3 => (f_X13_print x0 45 h).bind (fun h4 => some h4))) else ((rcv 11 x0 h).bind (fun u5 => (f_X13_sumOf x0 x1 h).bind (fun q6 => if q6.1 ≤ 9 then (f_X13_printSum_B44  x0 x1 q6.2) else ((rcv 11 x0 q6.2).bind (fun u7 => (f_X13_sumOf x0 x1 q6.2).bind (fun q8 => (nz 10).bind (fun u9 => (rcv 11 x0 q8.2).bind (fun u10 => (f_X13_print x0 (48 + (q8.1 / 10)) q8.2).bind (fun h11 => f_X13_printSum_B44  x0 x1 h11)))))))))))
theorem T_X13_printSum {K : KT} {x0 : Option Nat} {x1 : Int32} {h : PH} {q : PH} (hf : f_X13_printSum x0 x1 h = some q) : T K mi_X13_printSum [va_rf x0, .int x1] h (.inl none) q := by
  unfold f_X13_printSum at hf
  refine T_of (by decide +kernel) rfl (C1_r (C1_i C1_0)) (Nat.le_of_ble_eq_true rfl) ?_
  show R K mi_X13_printSum h [va_rf x0, .int x1] _ _ 0 [(0, va_rf x0), (1, .int x1)] [] h
  refine R_aload_n 0 dX13_printSum_0 rfl rfl ?_
  obtain ⟨t1, et1, hf⟩ := Option.bind_eq_some_iff.mp hf
  refine R_getr lg_X13_7 et1 dX13_printSum_1 ?_
  refine R_bipush dX13_printSum_4 k_bipush_83 ?_
  refine R_iload_n 1 dX13_printSum_6 rfl rfl ?_
  refine R_iadd dX13_printSum_7 ?_
  obtain ⟨t2, et2, hf⟩ := Option.bind_eq_some_iff.mp hf
  refine R_iaload et2 dX13_printSum_8 ?_
  refine R_ifne (tgt := 19) dX13_printSum_9 (by decide) (fun hc => ?_) (fun hc => ?_)
  · rw [if_pos hc] at hf
    refine R_aload_n 0 dX13_printSum_12 rfl rfl ?_
    refine R_bipush dX13_printSum_13 k_bipush_45 ?_
    obtain ⟨u3, eu3, hf⟩ := Option.bind_eq_some_iff.mp hf
    obtain ⟨h4, eh4, hf⟩ := Option.bind_eq_some_iff.mp hf
    refine R_callV (mj := mi_X13_print) (ci := 11) (q := (RX13, TX13, 24)) (As := [.int 45]) (rest := []) (T_X13_print eh4) eu3 rfl lV_X13_344 ⟨rfl, oky_X13_print⟩ (by decide) (by decide) rfl C1_0 (Nat.le_of_ble_eq_true rfl) dX13_printSum_15 ?_
    obtain rfl := Option.some.inj hf
    exact R_return rfl dX13_printSum_18
  · rw [if_neg hc] at hf
    refine R_aload_n 0 dX13_printSum_19 rfl rfl ?_
    refine R_iload_n 1 dX13_printSum_20 rfl rfl ?_
    obtain ⟨u5, eu5, hf⟩ := Option.bind_eq_some_iff.mp hf
    obtain ⟨q6, eq6, hf⟩ := Option.bind_eq_some_iff.mp hf
    refine R_callV (mj := mi_X13_sumOf) (ci := 11) (q := (RX13, TX13, 24)) (As := [.int x1]) (rest := []) (T_X13_sumOf eq6) eu5 rfl lV_X13_158 ⟨rfl, oky_X13_sumOf⟩ (by decide) (by decide) rfl C1_0 (Nat.le_of_ble_eq_true rfl) dX13_printSum_21 ?_
    refine R_bipush dX13_printSum_24 k_bipush_9 ?_
    refine R_icle (tgt := 44) dX13_printSum_26 (by decide) (fun hc => ?_) (fun hc => ?_)
    · rw [if_pos hc] at hf
      exact f_X13_printSum_B44_ok  x0 x1 q6.2 hf
    · rw [if_neg hc] at hf
      refine R_aload_n 0 dX13_printSum_29 rfl rfl ?_
      refine R_bipush dX13_printSum_30 k_bipush_48 ?_
      refine R_aload_n 0 dX13_printSum_32 rfl rfl ?_
      refine R_iload_n 1 dX13_printSum_33 rfl rfl ?_
      obtain ⟨u7, eu7, hf⟩ := Option.bind_eq_some_iff.mp hf
      obtain ⟨q8, eq8, hf⟩ := Option.bind_eq_some_iff.mp hf
      refine R_callV (mj := mi_X13_sumOf) (ci := 11) (q := (RX13, TX13, 24)) (As := [.int x1]) (rest := [.int 48, va_rf x0]) (T_X13_sumOf eq8) eu7 rfl lV_X13_158 ⟨rfl, oky_X13_sumOf⟩ (by decide) (by decide) rfl (C1_i (C1_r C1_0)) (Nat.le_of_ble_eq_true rfl) dX13_printSum_34 ?_
      refine R_bipush dX13_printSum_37 k_bipush_10 ?_
      obtain ⟨u9, eu9, hf⟩ := Option.bind_eq_some_iff.mp hf
      refine R_idiv dX13_printSum_39 (nz_some eu9) ?_
      refine R_iadd dX13_printSum_40 ?_
      obtain ⟨u10, eu10, hf⟩ := Option.bind_eq_some_iff.mp hf
      obtain ⟨h11, eh11, hf⟩ := Option.bind_eq_some_iff.mp hf
      refine R_callV (mj := mi_X13_print) (ci := 11) (q := (RX13, TX13, 24)) (As := [.int (48 + (q8.1 / 10))]) (rest := []) (T_X13_print eh11) eu10 rfl lV_X13_344 ⟨rfl, oky_X13_print⟩ (by decide) (by decide) rfl C1_0 (Nat.le_of_ble_eq_true rfl) dX13_printSum_41 ?_
      exact f_X13_printSum_B44_ok  x0 x1 h11 hf
theorem lV_X13_347 : GoodIn lw_all (wsV "EdgeSumsModel" 347 "EdgeSumsModel" yX13_printSum (ws_ yX13_printSum cX13_printSum 2 none)) := lw_V q3167 q3169 qs123 q158 q3170
theorem oky_X13_printSum : okY yX13_printSum 1 := ⟨by decide +kernel, by decide +kernel, by decide +kernel⟩
abbrev mi_X13_printed : MI := (RX13, yX13_printed, cX13_printed, 5, (some FieldType.int), 4)
noncomputable def f_X13_printed_B151  (x0 : Option Nat) (x2 : Int32) (h : PH) : Option (Int32 × PH) := (gfi 11 19 x0 h).bind (fun t1 => if t1 ≤ x2 then (some ((-99), h)) else ((gfr 11 18 x0 h).bind (fun t2 => (ald 0 t2 x2 h).bind (fun t3 => some (t3, h)))))
theorem f_X13_printed_B151_ok {K : KT} {h0 : PH} {a0 : List Value} {q : (Int32 × PH)}  (x0 : Option Nat) (x2 : Int32) (h : PH) (hf : f_X13_printed_B151  x0 x2 h = some q) : R K mi_X13_printed h0 a0 (.inl (some (.int q.1))) q.2 151 [(0, va_rf x0), (2, .int x2)] [] h := by
  unfold f_X13_printed_B151 at hf
  refine R_iload_n 1 dX13_printed_151 rfl rfl ?_
  refine R_aload_n 0 dX13_printed_152 rfl rfl ?_
  obtain ⟨t1, et1, hf⟩ := Option.bind_eq_some_iff.mp hf
  refine R_geti lg_X13_341 et1 dX13_printed_153 ?_
  refine R_icge (tgt := 168) dX13_printed_156 (by decide) (fun hc => ?_) (fun hc => ?_)
  · rw [if_pos hc] at hf
    refine R_bipush dX13_printed_168 k_bipush_m99 ?_
    obtain rfl := Option.some.inj hf
    exact R_iretI rfl dX13_printed_170
  · rw [if_neg hc] at hf
    refine R_aload_n 0 dX13_printed_159 rfl rfl ?_
    obtain ⟨t2, et2, hf⟩ := Option.bind_eq_some_iff.mp hf
    refine R_getr lg_X13_40 et2 dX13_printed_160 ?_
    refine R_iload_n 1 dX13_printed_163 rfl rfl ?_
    obtain ⟨t3, et3, hf⟩ := Option.bind_eq_some_iff.mp hf
    refine R_iaload et3 dX13_printed_164 ?_
    refine R_goto (tgt := 170) dX13_printed_165 (by decide) ?_
    obtain rfl := Option.some.inj hf
    exact R_iretI rfl dX13_printed_170
noncomputable def f_X13_printed_B93 (r32 : Option Nat → Int32 → Int32 → Int32 → PH → Option (Int32 × PH)) (x0 : Option Nat) (x1 : Int32) (x2 : Int32) (x3 : Int32) (s0 : Option Nat) (s1 : Int32) (h : PH) : Option (Int32 × PH) := (rcv 11 s0 h).bind (fun u1 => (f_X13_print s0 s1 h).bind (fun h2 => r32 x0 x1 x2 (x3 + 1) h2))
theorem f_X13_printed_B93_ok {K : KT} {h0 : PH} {a0 : List Value} {q : (Int32 × PH)} {r32 : Option Nat → Int32 → Int32 → Int32 → PH → Option (Int32 × PH)} (hr32 : ∀ (y0 : Option Nat) (y1 : Int32) (y2 : Int32) (y3 : Int32) (h : PH), r32 y0 y1 y2 y3 h = some q → R K mi_X13_printed h0 a0 (.inl (some (.int q.1))) q.2 32 [(0, va_rf y0), (1, .int y1), (2, .int y2), (3, .int y3)] [] h) (x0 : Option Nat) (x1 : Int32) (x2 : Int32) (x3 : Int32) (s0 : Option Nat) (s1 : Int32) (h : PH) (hf : f_X13_printed_B93 r32 x0 x1 x2 x3 s0 s1 h = some q) : R K mi_X13_printed h0 a0 (.inl (some (.int q.1))) q.2 93 [(0, va_rf x0), (1, .int x1), (2, .int x2), (3, .int x3)] [.int s1, va_rf s0] h := by
  unfold f_X13_printed_B93 at hf
  obtain ⟨u1, eu1, hf⟩ := Option.bind_eq_some_iff.mp hf
  obtain ⟨h2, eh2, hf⟩ := Option.bind_eq_some_iff.mp hf
  refine R_callV (mj := mi_X13_print) (ci := 11) (q := (RX13, TX13, 24)) (As := [.int s1]) (rest := []) (T_X13_print eh2) eu1 rfl lV_X13_344 ⟨rfl, oky_X13_print⟩ (by decide) (by decide) rfl C1_0 (Nat.le_of_ble_eq_true rfl) dX13_printed_93 ?_
  refine R_goto (tgt := 124) dX13_printed_96 (by decide) ?_
  refine R_iinc (L' := [(3, .int (x3 + 1)), (0, va_rf x0), (1, .int x1), (2, .int x2)]) 3 dX13_printed_124 rfl (k_inc_1 _) (by decide) rfl ?_
  refine R_goto (tgt := 32) dX13_printed_127 (by decide) ?_
  refine R.sub [1, 2, 3, 0] (L' := [(0, va_rf x0), (1, .int x1), (2, .int x2), (3, .int (x3 + 1))]) rfl ?_
  exact hr32 x0 x1 x2 (x3 + 1) h2 hf
noncomputable def f_X13_printed_L32  : Nat → Option Nat → Int32 → Int32 → Int32 → PH → Option (Int32 × PH)
  | 0, _, _, _, _, _ => none
  | k + 1, x0, x1, x2, x3, h => (gfr 11 1 x0 h).bind (fun t1 => (ald 0 t1 1 h).bind (fun t2 => if t2 ≤ x3 then ((gfr 11 1 x0 h).bind (fun t3 => (ald 0 t3 0 h).bind (fun t4 => if t4 ≤ x1 then (f_X13_printed_B151  x0 x2 h) else ((rcv 11 x0 h).bind (fun u5 => (f_X13_print x0 32 h).bind (fun h6 => (rcv 11 x0 h6).bind (fun u7 => (f_X13_printSum x0 x1 h6).bind (fun h8 => f_X13_printed_B151  x0 x2 h8)))))))) else ((gfr 11 1 x0 h).bind (fun t9 => (ald 0 t9 0 h).bind (fun t10 => if t10 ≤ x1 then ((rcv 11 x0 h).bind (fun u11 => (f_X13_printSum x0 (x1 + x3) h).bind (fun h12 => (gfr 11 1 x0 h12).bind (fun t13 => (ald 0 t13 1 h12).bind (fun t14 => if (t14 - 1) ≤ x3 then ((f_X13_printed_L32 k) x0 x1 x2 (x3 + 1) h12) else ((rcv 11 x0 h12).bind (fun u15 => (f_X13_print x0 32 h12).bind (fun h16 => (f_X13_printed_L32 k) x0 x1 x2 (x3 + 1) h16)))))))) else ((gfr 11 1 x0 h).bind (fun t17 => (ald 0 t17 1 h).bind (fun t18 => (gfr 11 1 x0 h).bind (fun t19 => (ald 0 t19 (58 + ((t18 * x1) + x3)) h).bind (fun t20 => if t20 = 1 then ((rcv 11 x0 h).bind (fun u21 => (f_X13_numberOf x0 ((t18 * x1) + x3) h).bind (fun q22 => f_X13_printed_B93 (f_X13_printed_L32 k) x0 x1 x2 x3 x0 (48 + q22.1) q22.2))) else (f_X13_printed_B93 (f_X13_printed_L32 k) x0 x1 x2 x3 x0 46 h)))))))))))
theorem f_X13_printed_L32_ok {K : KT} {h0 : PH} {a0 : List Value} {q : (Int32 × PH)}  : ∀ (k : Nat) (x0 : Option Nat) (x1 : Int32) (x2 : Int32) (x3 : Int32) (h : PH), f_X13_printed_L32  k x0 x1 x2 x3 h = some q → R K mi_X13_printed h0 a0 (.inl (some (.int q.1))) q.2 32 [(0, va_rf x0), (1, .int x1), (2, .int x2), (3, .int x3)] [] h := by
  intro k
  induction k with
  | zero => intro _ _ _ _ _ hf; cases hf
  | succ k ih =>
    intro x0 x1 x2 x3 h hf
    unfold f_X13_printed_L32 at hf
    refine R_iload_n 3 dX13_printed_32 rfl rfl ?_
    refine R_aload_n 0 dX13_printed_33 rfl rfl ?_
    obtain ⟨t1, et1, hf⟩ := Option.bind_eq_some_iff.mp hf
    refine R_getr lg_X13_7 et1 dX13_printed_34 ?_
    refine R_iconst dX13_printed_37 k_iconst_1 ?_
    obtain ⟨t2, et2, hf⟩ := Option.bind_eq_some_iff.mp hf
    refine R_iaload et2 dX13_printed_38 ?_
    refine R_icge (tgt := 130) dX13_printed_39 (by decide) (fun hc => ?_) (fun hc => ?_)
    · rw [if_pos hc] at hf
      refine R_iload_n 1 dX13_printed_130 rfl rfl ?_
      refine R_aload_n 0 dX13_printed_131 rfl rfl ?_
      obtain ⟨t3, et3, hf⟩ := Option.bind_eq_some_iff.mp hf
      refine R_getr lg_X13_7 et3 dX13_printed_132 ?_
      refine R_iconst dX13_printed_135 k_iconst_0 ?_
      obtain ⟨t4, et4, hf⟩ := Option.bind_eq_some_iff.mp hf
      refine R_iaload et4 dX13_printed_136 ?_
      refine R_icge (tgt := 151) dX13_printed_137 (by decide) (fun hc => ?_) (fun hc => ?_)
      · rw [if_pos hc] at hf
        refine R.sub [0, 2] (L' := [(0, va_rf x0), (2, .int x2)]) rfl ?_
        exact f_X13_printed_B151_ok  x0 x2 h hf
      · rw [if_neg hc] at hf
        refine R_aload_n 0 dX13_printed_140 rfl rfl ?_
        refine R_bipush dX13_printed_141 k_bipush_32 ?_
        obtain ⟨u5, eu5, hf⟩ := Option.bind_eq_some_iff.mp hf
        obtain ⟨h6, eh6, hf⟩ := Option.bind_eq_some_iff.mp hf
        refine R_callV (mj := mi_X13_print) (ci := 11) (q := (RX13, TX13, 24)) (As := [.int 32]) (rest := []) (T_X13_print eh6) eu5 rfl lV_X13_344 ⟨rfl, oky_X13_print⟩ (by decide) (by decide) rfl C1_0 (Nat.le_of_ble_eq_true rfl) dX13_printed_143 ?_
        refine R_aload_n 0 dX13_printed_146 rfl rfl ?_
        refine R_iload_n 1 dX13_printed_147 rfl rfl ?_
        obtain ⟨u7, eu7, hf⟩ := Option.bind_eq_some_iff.mp hf
        obtain ⟨h8, eh8, hf⟩ := Option.bind_eq_some_iff.mp hf
        refine R_callV (mj := mi_X13_printSum) (ci := 11) (q := (RX13, TX13, 24)) (As := [.int x1]) (rest := []) (T_X13_printSum eh8) eu7 rfl lV_X13_347 ⟨rfl, oky_X13_printSum⟩ (by decide) (by decide) rfl C1_0 (Nat.le_of_ble_eq_true rfl) dX13_printed_148 ?_
        refine R.sub [0, 2] (L' := [(0, va_rf x0), (2, .int x2)]) rfl ?_
        exact f_X13_printed_B151_ok  x0 x2 h8 hf
    · rw [if_neg hc] at hf
      refine R_iload_n 1 dX13_printed_42 rfl rfl ?_
      refine R_aload_n 0 dX13_printed_43 rfl rfl ?_
      obtain ⟨t9, et9, hf⟩ := Option.bind_eq_some_iff.mp hf
      refine R_getr lg_X13_7 et9 dX13_printed_44 ?_
      refine R_iconst dX13_printed_47 k_iconst_0 ?_
      obtain ⟨t10, et10, hf⟩ := Option.bind_eq_some_iff.mp hf
      refine R_iaload et10 dX13_printed_48 ?_
      refine R_icge (tgt := 99) dX13_printed_49 (by decide) (fun hc => ?_) (fun hc => ?_)
      · rw [if_pos hc] at hf
        refine R_aload_n 0 dX13_printed_99 rfl rfl ?_
        refine R_iload_n 1 dX13_printed_100 rfl rfl ?_
        refine R_iload_n 3 dX13_printed_101 rfl rfl ?_
        refine R_iadd dX13_printed_102 ?_
        obtain ⟨u11, eu11, hf⟩ := Option.bind_eq_some_iff.mp hf
        obtain ⟨h12, eh12, hf⟩ := Option.bind_eq_some_iff.mp hf
        refine R_callV (mj := mi_X13_printSum) (ci := 11) (q := (RX13, TX13, 24)) (As := [.int (x1 + x3)]) (rest := []) (T_X13_printSum eh12) eu11 rfl lV_X13_347 ⟨rfl, oky_X13_printSum⟩ (by decide) (by decide) rfl C1_0 (Nat.le_of_ble_eq_true rfl) dX13_printed_103 ?_
        refine R_iload_n 3 dX13_printed_106 rfl rfl ?_
        refine R_aload_n 0 dX13_printed_107 rfl rfl ?_
        obtain ⟨t13, et13, hf⟩ := Option.bind_eq_some_iff.mp hf
        refine R_getr lg_X13_7 et13 dX13_printed_108 ?_
        refine R_iconst dX13_printed_111 k_iconst_1 ?_
        obtain ⟨t14, et14, hf⟩ := Option.bind_eq_some_iff.mp hf
        refine R_iaload et14 dX13_printed_112 ?_
        refine R_iconst dX13_printed_113 k_iconst_1 ?_
        refine R_isub dX13_printed_114 ?_
        refine R_icge (tgt := 124) dX13_printed_115 (by decide) (fun hc => ?_) (fun hc => ?_)
        · rw [if_pos hc] at hf
          refine R_iinc (L' := [(3, .int (x3 + 1)), (0, va_rf x0), (1, .int x1), (2, .int x2)]) 3 dX13_printed_124 rfl (k_inc_1 _) (by decide) rfl ?_
          refine R_goto (tgt := 32) dX13_printed_127 (by decide) ?_
          refine R.sub [1, 2, 3, 0] (L' := [(0, va_rf x0), (1, .int x1), (2, .int x2), (3, .int (x3 + 1))]) rfl ?_
          exact ih x0 x1 x2 (x3 + 1) h12 hf
        · rw [if_neg hc] at hf
          refine R_aload_n 0 dX13_printed_118 rfl rfl ?_
          refine R_bipush dX13_printed_119 k_bipush_32 ?_
          obtain ⟨u15, eu15, hf⟩ := Option.bind_eq_some_iff.mp hf
          obtain ⟨h16, eh16, hf⟩ := Option.bind_eq_some_iff.mp hf
          refine R_callV (mj := mi_X13_print) (ci := 11) (q := (RX13, TX13, 24)) (As := [.int 32]) (rest := []) (T_X13_print eh16) eu15 rfl lV_X13_344 ⟨rfl, oky_X13_print⟩ (by decide) (by decide) rfl C1_0 (Nat.le_of_ble_eq_true rfl) dX13_printed_121 ?_
          refine R_iinc (L' := [(3, .int (x3 + 1)), (0, va_rf x0), (1, .int x1), (2, .int x2)]) 3 dX13_printed_124 rfl (k_inc_1 _) (by decide) rfl ?_
          refine R_goto (tgt := 32) dX13_printed_127 (by decide) ?_
          refine R.sub [1, 2, 3, 0] (L' := [(0, va_rf x0), (1, .int x1), (2, .int x2), (3, .int (x3 + 1))]) rfl ?_
          exact ih x0 x1 x2 (x3 + 1) h16 hf
      · rw [if_neg hc] at hf
        refine R_aload_n 0 dX13_printed_52 rfl rfl ?_
        obtain ⟨t17, et17, hf⟩ := Option.bind_eq_some_iff.mp hf
        refine R_getr lg_X13_7 et17 dX13_printed_53 ?_
        refine R_iconst dX13_printed_56 k_iconst_1 ?_
        obtain ⟨t18, et18, hf⟩ := Option.bind_eq_some_iff.mp hf
        refine R_iaload et18 dX13_printed_57 ?_
        refine R_iload_n 1 dX13_printed_58 rfl rfl ?_
        refine R_imul dX13_printed_59 ?_
        refine R_iload_n 3 dX13_printed_60 rfl rfl ?_
        refine R_iadd dX13_printed_61 ?_
        refine R_istore (L' := [(4, .int ((t18 * x1) + x3)), (0, va_rf x0), (1, .int x1), (2, .int x2), (3, .int x3)]) dX13_printed_62 (by decide) rfl ?_
        refine R_aload_n 1 dX13_printed_64 rfl rfl ?_
        refine R_aload_n 1 dX13_printed_65 rfl rfl ?_
        obtain ⟨t19, et19, hf⟩ := Option.bind_eq_some_iff.mp hf
        refine R_getr lg_X13_7 et19 dX13_printed_66 ?_
        refine R_bipush dX13_printed_69 k_bipush_58 ?_
        refine R_iload 0 dX13_printed_71 rfl ?_
        refine R_iadd dX13_printed_73 ?_
        obtain ⟨t20, et20, hf⟩ := Option.bind_eq_some_iff.mp hf
        refine R_iaload et20 dX13_printed_74 ?_
        refine R_iconst dX13_printed_75 k_iconst_1 ?_
        refine R_icne (tgt := 91) dX13_printed_76 (by decide) (fun hc => ?_) (fun hc => ?_)
        · rw [if_pos hc] at hf
          refine R_bipush dX13_printed_79 k_bipush_48 ?_
          refine R_aload_n 1 dX13_printed_81 rfl rfl ?_
          refine R_iload 0 dX13_printed_82 rfl ?_
          obtain ⟨u21, eu21, hf⟩ := Option.bind_eq_some_iff.mp hf
          obtain ⟨q22, eq22, hf⟩ := Option.bind_eq_some_iff.mp hf
          refine R_callV (mj := mi_X13_numberOf) (ci := 11) (q := (RX13, TX13, 24)) (As := [.int ((t18 * x1) + x3)]) (rest := [.int 48, va_rf x0]) (T_X13_numberOf eq22) eu21 rfl lV_X13_99 ⟨rfl, oky_X13_numberOf⟩ (by decide) (by decide) rfl (C1_i (C1_r C1_0)) (Nat.le_of_ble_eq_true rfl) dX13_printed_84 ?_
          refine R_iadd dX13_printed_87 ?_
          refine R_goto (tgt := 93) dX13_printed_88 (by decide) ?_
          refine R.sub [1, 2, 3, 4] (L' := [(0, va_rf x0), (1, .int x1), (2, .int x2), (3, .int x3)]) rfl ?_
          exact f_X13_printed_B93_ok ih x0 x1 x2 x3 x0 (48 + q22.1) q22.2 hf
        · rw [if_neg hc] at hf
          refine R_bipush dX13_printed_91 k_bipush_46 ?_
          refine R.sub [1, 2, 3, 4] (L' := [(0, va_rf x0), (1, .int x1), (2, .int x2), (3, .int x3)]) rfl ?_
          exact f_X13_printed_B93_ok ih x0 x1 x2 x3 x0 46 h hf
noncomputable def f_X13_printed (x0 : Option Nat) (x1 : Int32) (x2 : Int32) (h : PH) : Option (Int32 × PH) := (pf 11 0 x0 (.int 0) h).bind (fun h1 => (gfr 11 1 x0 h1).bind (fun t2 => (ald 0 t2 0 h1).bind (fun t3 => (f_X13_in x1 0 t3 h1).bind (fun q4 => if q4.1 = 0 then (some ((-1), q4.2)) else (if 0 ≤ x2 then ((pf 11 19 x0 (.int 0) q4.2).bind (fun h5 => f_X13_printed_L32  FU x0 x1 x2 0 h5)) else (some ((-1), q4.2)))))))
theorem T_X13_printed {K : KT} {x0 : Option Nat} {x1 : Int32} {x2 : Int32} {h : PH} {q : (Int32 × PH)} (hf : f_X13_printed x0 x1 x2 h = some q) : T K mi_X13_printed [va_rf x0, .int x1, .int x2] h (.inl (some (.int q.1))) q.2 := by
  unfold f_X13_printed at hf
  refine T_of (by decide +kernel) rfl (C1_r (C1_i (C1_i C1_0))) (Nat.le_of_ble_eq_true rfl) ?_
  show R K mi_X13_printed h [va_rf x0, .int x1, .int x2] _ _ 0 [(0, va_rf x0), (1, .int x1), (2, .int x2)] [] h
  refine R_aload_n 0 dX13_printed_0 rfl rfl ?_
  refine R_iconst dX13_printed_1 k_iconst_0 ?_
  obtain ⟨h1, eh1, hf⟩ := Option.bind_eq_some_iff.mp hf
  refine R_putI (fp_X13_43 rfl) eh1 dX13_printed_2 ?_
  refine R_iload_n 1 dX13_printed_5 rfl rfl ?_
  refine R_iconst dX13_printed_6 k_iconst_0 ?_
  refine R_aload_n 0 dX13_printed_7 rfl rfl ?_
  obtain ⟨t2, et2, hf⟩ := Option.bind_eq_some_iff.mp hf
  refine R_getr lg_X13_7 et2 dX13_printed_8 ?_
  refine R_iconst dX13_printed_11 k_iconst_0 ?_
  obtain ⟨t3, et3, hf⟩ := Option.bind_eq_some_iff.mp hf
  refine R_iaload et3 dX13_printed_12 ?_
  obtain ⟨q4, eq4, hf⟩ := Option.bind_eq_some_iff.mp hf
  refine R_callS (mj := mi_X13_in) (As := [.int x1, .int 0, .int t3]) (rest := []) (T_X13_in eq4) lS_X13_65 oky_X13_in (by decide) (by decide) rfl C1_0 (Nat.le_of_ble_eq_true rfl) dX13_printed_13 ?_
  refine R_ifeq (tgt := 23) dX13_printed_16 (by decide) (fun hc => ?_) (fun hc => ?_)
  · rw [if_pos hc] at hf
    refine R_iconst dX13_printed_23 k_iconst_m1 ?_
    obtain rfl := Option.some.inj hf
    exact R_iretI rfl dX13_printed_24
  · rw [if_neg hc] at hf
    refine R_iload_n 2 dX13_printed_19 rfl rfl ?_
    refine R_ifge (tgt := 25) dX13_printed_20 (by decide) (fun hc => ?_) (fun hc => ?_)
    · rw [if_pos hc] at hf
      refine R_aload_n 0 dX13_printed_25 rfl rfl ?_
      refine R_iconst dX13_printed_26 k_iconst_0 ?_
      obtain ⟨h5, eh5, hf⟩ := Option.bind_eq_some_iff.mp hf
      refine R_putI (fp_X13_341 rfl) eh5 dX13_printed_27 ?_
      refine R_iconst dX13_printed_30 k_iconst_0 ?_
      refine R_istore_n (L' := [(3, .int 0), (0, va_rf x0), (1, .int x1), (2, .int x2)]) dX13_printed_31 rfl (by decide) rfl ?_
      refine R.sub [1, 2, 3, 0] (L' := [(0, va_rf x0), (1, .int x1), (2, .int x2), (3, .int 0)]) rfl ?_
      exact f_X13_printed_L32_ok  FU x0 x1 x2 0 h5 hf
    · rw [if_neg hc] at hf
      refine R_iconst dX13_printed_23 k_iconst_m1 ?_
      obtain rfl := Option.some.inj hf
      exact R_iretI rfl dX13_printed_24
