/-! THE PARSER: with throws -/
set_option maxRecDepth 100000
theorem ck_16 : CK 16 RX19 TX19 4 := ⟨rfl, in_X19, ⟨tyX19, tyX19_ok⟩, nmX19⟩
abbrev ty_16 : Nat → FieldType := tyX19
theorem ct_16 : ∀ k, k < 4 → parseFieldDescriptor (TX19 k).2.2.1 = some (ty_16 k) := tyX19_ok
theorem lg_X19_3 : LG "EdgeSums$Parser" 3 16 3 := ⟨_, _, _, ck_16, by decide, Or.inl q1777⟩
theorem lg_X19_15 : LG "EdgeSums$Parser" 15 0 0 := ⟨_, _, _, ck_0, by decide, Or.inr (Or.inl ⟨_, q986⟩)⟩
theorem lV_X19_19 : GoodIn lw_all (wsV "EdgeSums$Parser" 19 "EdgeSums$State" yX1_copy (ws_ yX1_copy cX1_copy 2 (some (FieldType.object "EdgeSums$State")))) := lw_V q1772 q1017 q1018 q126 q1019
abbrev mi_X19_init : MI := (RX19, yX19_init, cX19_init, 2, none, 8)
theorem fp_X19_init_3 : FP mi_X19_init 3 16 3 (.object "EdgeSums") := ⟨_, _, _, ck_16, by decide, by decide +kernel, Or.inr ⟨rfl, q1777, rfl, rfl⟩⟩
theorem fp_X19_init_25 : FP mi_X19_init 25 16 0 (.object "EdgeSums$State") := ⟨_, _, _, ck_16, by decide, by decide +kernel, Or.inr ⟨rfl, q1773, rfl, rfl⟩⟩
noncomputable def f_X19_init (x0 : Option Nat) (x1 : Option Nat) (h : PH) : Option PH := (pf 16 3 x0 (va_rf x1) h).bind (fun h1 => (nn x0).bind (fun u2 => (gfr 16 3 x0 h1).bind (fun t3 => (gfr 0 0 t3 h1).bind (fun t4 => (rcv 1 t4 h1).bind (fun u5 => (f_X1_copy t4 h1).bind (fun q6 => (pf 16 0 x0 (va_rf q6.1) q6.2).bind (fun h7 => some h7)))))))
theorem T_X19_init {K : KT} {x0 : Option Nat} {x1 : Option Nat} {h : PH} {q : PH} (hf : f_X19_init x0 x1 h = some q) : T K mi_X19_init [va_rf x0, va_rf x1] h (.inl none) q := by
  unfold f_X19_init at hf
  refine T_of (by decide +kernel) rfl (C1_r (C1_r C1_0)) (Nat.le_of_ble_eq_true rfl) ?_
  show R K mi_X19_init h [va_rf x0, va_rf x1] _ _ 0 [(0, va_rf x0), (1, va_rf x1)] [] h
  refine R_aload_n 0 dX19_init_0 rfl rfl ?_
  refine R_aload_n 1 dX19_init_1 rfl rfl ?_
  obtain ⟨h1, eh1, hf⟩ := Option.bind_eq_some_iff.mp hf
  refine R_putR (by first | exact Or.inl ⟨_, rfl⟩ | exact Or.inr ⟨_, rfl⟩) fp_X19_init_3 eh1 dX19_init_2 ?_
  refine R_aload_n 0 dX19_init_5 rfl rfl ?_
  obtain ⟨u2, eu2, hf⟩ := Option.bind_eq_some_iff.mp hf
  refine R_objInitx eu2 q1771 q189 q190 (by decide) C1_0 (Nat.le_of_ble_eq_true rfl) dX19_init_6 ?_
  refine R_aload_n 0 dX19_init_9 rfl rfl ?_
  refine R_aload_n 0 dX19_init_10 rfl rfl ?_
  obtain ⟨t3, et3, hf⟩ := Option.bind_eq_some_iff.mp hf
  refine R_getr lg_X19_3 et3 dX19_init_11 ?_
  obtain ⟨t4, et4, hf⟩ := Option.bind_eq_some_iff.mp hf
  refine R_getr lg_X19_15 et4 dX19_init_14 ?_
  obtain ⟨u5, eu5, hf⟩ := Option.bind_eq_some_iff.mp hf
  obtain ⟨q6, eq6, hf⟩ := Option.bind_eq_some_iff.mp hf
  refine R_callV (mj := mi_X1_copy) (ci := 1) (q := (RX1, TX1, 2)) (As := []) (rest := [va_rf x0]) (T_X1_copy eq6) eu5 rfl lV_X19_19 ⟨rfl, oky_X1_copy⟩ (by decide) (by decide) rfl (C1_r C1_0) (Nat.le_of_ble_eq_true rfl) dX19_init_17 ?_
  obtain ⟨h7, eh7, hf⟩ := Option.bind_eq_some_iff.mp hf
  refine R_putR (by first | exact Or.inl ⟨_, rfl⟩ | exact Or.inr ⟨_, rfl⟩) fp_X19_init_25 eh7 dX19_init_20 ?_
  obtain rfl := Option.some.inj hf
  exact R_return rfl dX19_init_23
theorem lg_X19_28 : LG "EdgeSums$Parser" 28 16 1 := ⟨_, _, _, ck_16, by decide, Or.inl q1775⟩
theorem lg_X19_32 : LG "EdgeSums$Parser" 32 0 2 := ⟨_, _, _, ck_0, by decide, Or.inr (Or.inl ⟨_, q989⟩)⟩
theorem lV_X19_36 : GoodIn lw_all (wsV "EdgeSums$Parser" 36 "java/lang/StringBuilder" yJ17_length (ws_ yJ17_length cJ17_length 1 (some FieldType.int))) := lw_V q1803 q1667 q1668 q149 q1669
theorem lV_X19_42 : GoodIn lw_all (wsV "EdgeSums$Parser" 42 "java/lang/StringBuilder" yJ17_charAt (ws_ yJ17_charAt cJ17_charAt 2 (some FieldType.char))) := lw_V q1804 q1805 q1806 q149 q1807
theorem oky_J17_charAt : okY yJ17_charAt 1 := ⟨by decide +kernel, by decide +kernel, by decide +kernel⟩
abbrev mi_X19_isAt : MI := (RX19, yX19_isAt, cX19_isAt, 3, (some FieldType.boolean), 5)
noncomputable def f_X19_isAt (x0 : Option Nat) (x1 : Int32) (x2 : Int32) (h : PH) : Option (Int32 × PH) := (gfi 16 1 x0 h).bind (fun t1 => (gfr 16 3 x0 h).bind (fun t2 => (gfr 0 2 t2 h).bind (fun t3 => (rcv 27 t3 h).bind (fun u4 => (f_J17_length t3 h).bind (fun q5 => if q5.1 ≤ t1 then (some (0, q5.2)) else ((gfr 16 3 x0 q5.2).bind (fun t6 => (gfr 0 2 t6 q5.2).bind (fun t7 => (gfi 16 1 x0 q5.2).bind (fun t8 => (rcv 27 t7 q5.2).bind (fun u9 => (f_J17_charAt t7 t8 q5.2).bind (fun q10 => (f_X0_isBetween q10.1 x1 x2 q10.2).bind (fun q11 => if q11.1 = 0 then (some (0, q11.2)) else (some (1, q11.2))))))))))))))
theorem T_X19_isAt {K : KT} {x0 : Option Nat} {x1 : Int32} {x2 : Int32} {h : PH} {q : (Int32 × PH)} (hf : f_X19_isAt x0 x1 x2 h = some q) : T K mi_X19_isAt [va_rf x0, .int x1, .int x2] h (.inl (some (.int q.1))) q.2 := by
  unfold f_X19_isAt at hf
  refine T_of (by decide +kernel) rfl (C1_r (C1_i (C1_i C1_0))) (Nat.le_of_ble_eq_true rfl) ?_
  show R K mi_X19_isAt h [va_rf x0, .int x1, .int x2] _ _ 0 [(0, va_rf x0), (1, .int x1), (2, .int x2)] [] h
  refine R_aload_n 0 dX19_isAt_0 rfl rfl ?_
  obtain ⟨t1, et1, hf⟩ := Option.bind_eq_some_iff.mp hf
  refine R_geti lg_X19_28 et1 dX19_isAt_1 ?_
  refine R_aload_n 0 dX19_isAt_4 rfl rfl ?_
  obtain ⟨t2, et2, hf⟩ := Option.bind_eq_some_iff.mp hf
  refine R_getr lg_X19_3 et2 dX19_isAt_5 ?_
  obtain ⟨t3, et3, hf⟩ := Option.bind_eq_some_iff.mp hf
  refine R_getr lg_X19_32 et3 dX19_isAt_8 ?_
  obtain ⟨u4, eu4, hf⟩ := Option.bind_eq_some_iff.mp hf
  obtain ⟨q5, eq5, hf⟩ := Option.bind_eq_some_iff.mp hf
  refine R_callV (mj := mi_J17_length) (ci := 27) (q := (RJ17, TJ17, 4)) (As := []) (rest := [.int t1]) (T_J17_length eq5) eu4 rfl lV_X19_36 ⟨rfl, oky_J17_length⟩ (by decide) (by decide) rfl (C1_i C1_0) (Nat.le_of_ble_eq_true rfl) dX19_isAt_11 ?_
  refine R_icge (tgt := 43) dX19_isAt_14 (by decide) (fun hc => ?_) (fun hc => ?_)
  · rw [if_pos hc] at hf
    refine R_iconst dX19_isAt_43 k_iconst_0 ?_
    obtain rfl := Option.some.inj hf
    exact R_iretZ0 rfl dX19_isAt_44
  · rw [if_neg hc] at hf
    refine R_aload_n 0 dX19_isAt_17 rfl rfl ?_
    obtain ⟨t6, et6, hf⟩ := Option.bind_eq_some_iff.mp hf
    refine R_getr lg_X19_3 et6 dX19_isAt_18 ?_
    obtain ⟨t7, et7, hf⟩ := Option.bind_eq_some_iff.mp hf
    refine R_getr lg_X19_32 et7 dX19_isAt_21 ?_
    refine R_aload_n 0 dX19_isAt_24 rfl rfl ?_
    obtain ⟨t8, et8, hf⟩ := Option.bind_eq_some_iff.mp hf
    refine R_geti lg_X19_28 et8 dX19_isAt_25 ?_
    obtain ⟨u9, eu9, hf⟩ := Option.bind_eq_some_iff.mp hf
    obtain ⟨q10, eq10, hf⟩ := Option.bind_eq_some_iff.mp hf
    refine R_callV (mj := mi_J17_charAt) (ci := 27) (q := (RJ17, TJ17, 4)) (As := [.int t8]) (rest := []) (T_J17_charAt eq10) eu9 rfl lV_X19_42 ⟨rfl, oky_J17_charAt⟩ (by decide) (by decide) rfl C1_0 (Nat.le_of_ble_eq_true rfl) dX19_isAt_28 ?_
    refine R_iload_n 1 dX19_isAt_31 rfl rfl ?_
    refine R_iload_n 2 dX19_isAt_32 rfl rfl ?_
    obtain ⟨q11, eq11, hf⟩ := Option.bind_eq_some_iff.mp hf
    refine R_callSN (mj := mi_X0_isBetween) (As := [.int q10.1, .int x1, .int x2]) (rest := []) (T_X0_isBetween eq11) (lw_meth q1011) q1814 q125 q1010 oky_X0_isBetween (by decide) (by decide) rfl C1_0 (Nat.le_of_ble_eq_true rfl) dX19_isAt_33 ?_
    refine R_ifeq (tgt := 43) dX19_isAt_36 (by decide) (fun hc => ?_) (fun hc => ?_)
    · rw [if_pos hc] at hf
      refine R_iconst dX19_isAt_43 k_iconst_0 ?_
      obtain rfl := Option.some.inj hf
      exact R_iretZ0 rfl dX19_isAt_44
    · rw [if_neg hc] at hf
      refine R_iconst dX19_isAt_39 k_iconst_1 ?_
      refine R_goto (tgt := 44) dX19_isAt_40 (by decide) ?_
      obtain rfl := Option.some.inj hf
      exact R_iretZ1 rfl dX19_isAt_44
theorem lV_X19_50 : GoodIn lw_all (wsV "EdgeSums$Parser" 50 "EdgeSums$Parser" yX19_isAt (ws_ yX19_isAt cX19_isAt 3 (some FieldType.boolean))) := lw_V q1799 q1801 qs27 q168 q1802
theorem oky_X19_isAt : okY yX19_isAt 2 := ⟨by decide +kernel, by decide +kernel, by decide +kernel⟩
theorem fp_X19_28 {mi : MI} (ho : mi.own = "EdgeSums$Parser") : FP mi 28 16 1 .int := ⟨_, _, _, ck_16, by decide, by decide +kernel, Or.inl ⟨rfl, by rw [ho]; exact Or.inl q1775⟩⟩
abbrev mi_X19_run : MI := (RX19, yX19_run, cX19_run, 3, none, 6)
noncomputable def f_X19_run_L0  : Nat → Option Nat → Int32 → Int32 → PH → Option PH
  | 0, _, _, _, _ => none
  | k + 1, x0, x1, x2, h => (rcv 16 x0 h).bind (fun u1 => (f_X19_isAt x0 x1 x2 h).bind (fun q2 => if q2.1 = 0 then (some q2.2) else ((gfi 16 1 x0 q2.2).bind (fun t3 => (pf 16 1 x0 (.int (t3 + 1)) q2.2).bind (fun h4 => (f_X19_run_L0 k) x0 x1 x2 h4)))))
theorem f_X19_run_L0_ok {K : KT} {h0 : PH} {a0 : List Value} {q : PH}  : ∀ (k : Nat) (x0 : Option Nat) (x1 : Int32) (x2 : Int32) (h : PH), f_X19_run_L0  k x0 x1 x2 h = some q → R K mi_X19_run h0 a0 (.inl none) q 0 [(0, va_rf x0), (1, .int x1), (2, .int x2)] [] h := by
  intro k
  induction k with
  | zero => intro _ _ _ _ hf; cases hf
  | succ k ih =>
    intro x0 x1 x2 h hf
    unfold f_X19_run_L0 at hf
    refine R_aload_n 0 dX19_run_0 rfl rfl ?_
    refine R_iload_n 1 dX19_run_1 rfl rfl ?_
    refine R_iload_n 2 dX19_run_2 rfl rfl ?_
    obtain ⟨u1, eu1, hf⟩ := Option.bind_eq_some_iff.mp hf
    obtain ⟨q2, eq2, hf⟩ := Option.bind_eq_some_iff.mp hf
    refine R_callV (mj := mi_X19_isAt) (ci := 16) (q := (RX19, TX19, 4)) (As := [.int x1, .int x2]) (rest := []) (T_X19_isAt eq2) eu1 rfl lV_X19_50 ⟨rfl, oky_X19_isAt⟩ (by decide) (by decide) rfl C1_0 (Nat.le_of_ble_eq_true rfl) dX19_run_3 ?_
    refine R_ifeq (tgt := 22) dX19_run_6 (by decide) (fun hc => ?_) (fun hc => ?_)
    · rw [if_pos hc] at hf
      obtain rfl := Option.some.inj hf
      exact R_return rfl dX19_run_22
    · rw [if_neg hc] at hf
      refine R_aload_n 0 dX19_run_9 rfl rfl ?_
      refine R_dup dX19_run_10 (rf_cat _) ?_
      obtain ⟨t3, et3, hf⟩ := Option.bind_eq_some_iff.mp hf
      refine R_geti lg_X19_28 et3 dX19_run_11 ?_
      refine R_iconst dX19_run_14 k_iconst_1 ?_
      refine R_iadd dX19_run_15 ?_
      obtain ⟨h4, eh4, hf⟩ := Option.bind_eq_some_iff.mp hf
      refine R_putI (fp_X19_28 rfl) eh4 dX19_run_16 ?_
      refine R_goto (tgt := 0) dX19_run_19 (by decide) ?_
      exact ih x0 x1 x2 h4 hf
noncomputable def f_X19_run (x0 : Option Nat) (x1 : Int32) (x2 : Int32) (h : PH) : Option PH := f_X19_run_L0  FU x0 x1 x2 h
theorem T_X19_run {K : KT} {x0 : Option Nat} {x1 : Int32} {x2 : Int32} {h : PH} {q : PH} (hf : f_X19_run x0 x1 x2 h = some q) : T K mi_X19_run [va_rf x0, .int x1, .int x2] h (.inl none) q := by
  unfold f_X19_run at hf
  refine T_of (by decide +kernel) rfl (C1_r (C1_i (C1_i C1_0))) (Nat.le_of_ble_eq_true rfl) ?_
  show R K mi_X19_run h [va_rf x0, .int x1, .int x2] _ _ 0 [(0, va_rf x0), (1, .int x1), (2, .int x2)] [] h
  exact f_X19_run_L0_ok  FU x0 x1 x2 h hf
theorem lV_X19_54 : GoodIn lw_all (wsV "EdgeSums$Parser" 54 "EdgeSums$Parser" yX19_run (ws_ yX19_run cX19_run 3 none)) := lw_V q1795 q1797 qs26 q168 q1798
theorem oky_X19_run : okY yX19_run 2 := ⟨by decide +kernel, by decide +kernel, by decide +kernel⟩
theorem oky_X20_init : okY yX20_init 3 := ⟨by decide +kernel, by decide +kernel, by decide +kernel⟩
theorem fp_X19_69 {mi : MI} (ho : mi.own = "EdgeSums$Parser") : FP mi 69 16 2 (.object "EdgeSums$Slice") := ⟨_, _, _, ck_16, by decide, by decide +kernel, Or.inl ⟨rfl, by rw [ho]; exact Or.inl q1776⟩⟩
abbrev mi_X19_advance : MI := (RX19, yX19_advance, cX19_advance, 2, none, 7)
noncomputable def f_X19_advance_B80  (x0 : Option Nat) (x1 : Int32) (h : PH) : Option PH := (nwO 17 3 [.null, .int 0, .int 0] h).bind (fun q1 => (gfr 16 3 x0 q1.2).bind (fun t2 => (gfr 0 2 t2 q1.2).bind (fun t3 => (gfi 16 1 x0 q1.2).bind (fun t4 => (nn q1.1).bind (fun u5 => (f_X20_init q1.1 t3 x1 t4 q1.2).bind (fun h6 => (pf 16 2 x0 (va_rf q1.1) h6).bind (fun h7 => some h7)))))))
theorem f_X19_advance_B80_ok {K : KT} {h0 : PH} {a0 : List Value} {q : PH}  (x0 : Option Nat) (x1 : Int32) (h : PH) (hf : f_X19_advance_B80  x0 x1 h = some q) : R K mi_X19_advance h0 a0 (.inl none) q 80 [(0, va_rf x0), (1, .int x1)] [] h := by
  unfold f_X19_advance_B80 at hf
  refine R_aload_n 0 dX19_advance_80 rfl rfl ?_
  obtain ⟨q1, eq1, hf⟩ := Option.bind_eq_some_iff.mp hf
  refine R_newO eq1 ty_17 ck_17 ct_17 q1816 q1817 q169 (by decide +kernel) dX19_advance_81 ?_
  refine R_dup dX19_advance_84 (rf_cat _) ?_
  refine R_aload_n 0 dX19_advance_85 rfl rfl ?_
  obtain ⟨t2, et2, hf⟩ := Option.bind_eq_some_iff.mp hf
  refine R_getr lg_X19_3 et2 dX19_advance_86 ?_
  obtain ⟨t3, et3, hf⟩ := Option.bind_eq_some_iff.mp hf
  refine R_getr lg_X19_32 et3 dX19_advance_89 ?_
  refine R_iload_n 1 dX19_advance_92 rfl rfl ?_
  refine R_aload_n 0 dX19_advance_93 rfl rfl ?_
  obtain ⟨t4, et4, hf⟩ := Option.bind_eq_some_iff.mp hf
  refine R_geti lg_X19_28 et4 dX19_advance_94 ?_
  obtain ⟨u5, eu5, hf⟩ := Option.bind_eq_some_iff.mp hf
  obtain ⟨h6, eh6, hf⟩ := Option.bind_eq_some_iff.mp hf
  refine R_callIx (mj := mi_X20_init) (As := [va_rf t3, .int x1, .int t4]) (rest := [va_rf q1.1, va_rf x0]) eu5 (T_X20_init eh6) (lw_meth q1820) rfl q169 q1818 q1819 rfl oky_X20_init (by decide) (by decide) rfl (C1_r (C1_r C1_0)) (Nat.le_of_ble_eq_true rfl) dX19_advance_97 ?_
  obtain ⟨h7, eh7, hf⟩ := Option.bind_eq_some_iff.mp hf
  refine R_putR (by first | exact Or.inl ⟨_, rfl⟩ | exact Or.inr ⟨_, rfl⟩) (fp_X19_69 rfl) eh7 dX19_advance_100 ?_
  obtain rfl := Option.some.inj hf
  exact R_return rfl dX19_advance_103
noncomputable def f_X19_advance (x0 : Option Nat) (h : PH) : Option PH := (rcv 16 x0 h).bind (fun u1 => (f_X19_run x0 32 32 h).bind (fun h2 => (gfi 16 1 x0 h2).bind (fun t3 => (rcv 16 x0 h2).bind (fun u4 => (f_X19_isAt x0 97 122 h2).bind (fun q5 => if q5.1 = 0 then ((rcv 16 x0 q5.2).bind (fun u6 => (f_X19_isAt x0 48 57 q5.2).bind (fun q7 => if q7.1 = 0 then ((gfi 16 1 x0 q7.2).bind (fun t8 => (gfr 16 3 x0 q7.2).bind (fun t9 => (gfr 0 2 t9 q7.2).bind (fun t10 => (rcv 27 t10 q7.2).bind (fun u11 => (f_J17_length t10 q7.2).bind (fun q12 => (pf 16 1 x0 (.int (imin (t8 + 1) q12.1)) q12.2).bind (fun h13 => f_X19_advance_B80  x0 t3 h13))))))) else ((rcv 16 x0 q7.2).bind (fun u14 => (f_X19_run x0 48 57 q7.2).bind (fun h15 => f_X19_advance_B80  x0 t3 h15)))))) else ((rcv 16 x0 q5.2).bind (fun u16 => (f_X19_run x0 97 122 q5.2).bind (fun h17 => f_X19_advance_B80  x0 t3 h17))))))))
theorem T_X19_advance {K : KT} {x0 : Option Nat} {h : PH} {q : PH} (hf : f_X19_advance x0 h = some q) : T K mi_X19_advance [va_rf x0] h (.inl none) q := by
  unfold f_X19_advance at hf
  refine T_of (by decide +kernel) rfl (C1_r C1_0) (Nat.le_of_ble_eq_true rfl) ?_
  show R K mi_X19_advance h [va_rf x0] _ _ 0 [(0, va_rf x0)] [] h
  refine R_aload_n 0 dX19_advance_0 rfl rfl ?_
  refine R_bipush dX19_advance_1 k_bipush_32 ?_
  refine R_bipush dX19_advance_3 k_bipush_32 ?_
  obtain ⟨u1, eu1, hf⟩ := Option.bind_eq_some_iff.mp hf
  obtain ⟨h2, eh2, hf⟩ := Option.bind_eq_some_iff.mp hf
  refine R_callV (mj := mi_X19_run) (ci := 16) (q := (RX19, TX19, 4)) (As := [.int 32, .int 32]) (rest := []) (T_X19_run eh2) eu1 rfl lV_X19_54 ⟨rfl, oky_X19_run⟩ (by decide) (by decide) rfl C1_0 (Nat.le_of_ble_eq_true rfl) dX19_advance_5 ?_
  refine R_aload_n 0 dX19_advance_8 rfl rfl ?_
  obtain ⟨t3, et3, hf⟩ := Option.bind_eq_some_iff.mp hf
  refine R_geti lg_X19_28 et3 dX19_advance_9 ?_
  refine R_istore_n (L' := [(1, .int t3), (0, va_rf x0)]) dX19_advance_12 rfl (by decide) rfl ?_
  refine R_aload_n 1 dX19_advance_13 rfl rfl ?_
  refine R_bipush dX19_advance_14 k_bipush_97 ?_
  refine R_bipush dX19_advance_16 k_bipush_122 ?_
  obtain ⟨u4, eu4, hf⟩ := Option.bind_eq_some_iff.mp hf
  obtain ⟨q5, eq5, hf⟩ := Option.bind_eq_some_iff.mp hf
  refine R_callV (mj := mi_X19_isAt) (ci := 16) (q := (RX19, TX19, 4)) (As := [.int 97, .int 122]) (rest := []) (T_X19_isAt eq5) eu4 rfl lV_X19_50 ⟨rfl, oky_X19_isAt⟩ (by decide) (by decide) rfl C1_0 (Nat.le_of_ble_eq_true rfl) dX19_advance_18 ?_
  refine R_ifeq (tgt := 35) dX19_advance_21 (by decide) (fun hc => ?_) (fun hc => ?_)
  · rw [if_pos hc] at hf
    refine R_aload_n 1 dX19_advance_35 rfl rfl ?_
    refine R_bipush dX19_advance_36 k_bipush_48 ?_
    refine R_bipush dX19_advance_38 k_bipush_57 ?_
    obtain ⟨u6, eu6, hf⟩ := Option.bind_eq_some_iff.mp hf
    obtain ⟨q7, eq7, hf⟩ := Option.bind_eq_some_iff.mp hf
    refine R_callV (mj := mi_X19_isAt) (ci := 16) (q := (RX19, TX19, 4)) (As := [.int 48, .int 57]) (rest := []) (T_X19_isAt eq7) eu6 rfl lV_X19_50 ⟨rfl, oky_X19_isAt⟩ (by decide) (by decide) rfl C1_0 (Nat.le_of_ble_eq_true rfl) dX19_advance_40 ?_
    refine R_ifeq (tgt := 57) dX19_advance_43 (by decide) (fun hc => ?_) (fun hc => ?_)
    · rw [if_pos hc] at hf
      refine R_aload_n 1 dX19_advance_57 rfl rfl ?_
      refine R_aload_n 1 dX19_advance_58 rfl rfl ?_
      obtain ⟨t8, et8, hf⟩ := Option.bind_eq_some_iff.mp hf
      refine R_geti lg_X19_28 et8 dX19_advance_59 ?_
      refine R_iconst dX19_advance_62 k_iconst_1 ?_
      refine R_iadd dX19_advance_63 ?_
      refine R_aload_n 1 dX19_advance_64 rfl rfl ?_
      obtain ⟨t9, et9, hf⟩ := Option.bind_eq_some_iff.mp hf
      refine R_getr lg_X19_3 et9 dX19_advance_65 ?_
      obtain ⟨t10, et10, hf⟩ := Option.bind_eq_some_iff.mp hf
      refine R_getr lg_X19_32 et10 dX19_advance_68 ?_
      obtain ⟨u11, eu11, hf⟩ := Option.bind_eq_some_iff.mp hf
      obtain ⟨q12, eq12, hf⟩ := Option.bind_eq_some_iff.mp hf
      refine R_callV (mj := mi_J17_length) (ci := 27) (q := (RJ17, TJ17, 4)) (As := []) (rest := [.int (t8 + 1), va_rf x0]) (T_J17_length eq12) eu11 rfl lV_X19_36 ⟨rfl, oky_J17_length⟩ (by decide) (by decide) rfl (C1_i (C1_r C1_0)) (Nat.le_of_ble_eq_true rfl) dX19_advance_71 ?_
      refine R_mmin q1815 (by decide) (C1_r C1_0) (Nat.le_of_ble_eq_true rfl) dX19_advance_74 ?_
      obtain ⟨h13, eh13, hf⟩ := Option.bind_eq_some_iff.mp hf
      refine R_putI (fp_X19_28 rfl) eh13 dX19_advance_77 ?_
      refine R.sub [1, 0] (L' := [(0, va_rf x0), (1, .int t3)]) rfl ?_
      exact f_X19_advance_B80_ok  x0 t3 h13 hf
    · rw [if_neg hc] at hf
      refine R_aload_n 1 dX19_advance_46 rfl rfl ?_
      refine R_bipush dX19_advance_47 k_bipush_48 ?_
      refine R_bipush dX19_advance_49 k_bipush_57 ?_
      obtain ⟨u14, eu14, hf⟩ := Option.bind_eq_some_iff.mp hf
      obtain ⟨h15, eh15, hf⟩ := Option.bind_eq_some_iff.mp hf
      refine R_callV (mj := mi_X19_run) (ci := 16) (q := (RX19, TX19, 4)) (As := [.int 48, .int 57]) (rest := []) (T_X19_run eh15) eu14 rfl lV_X19_54 ⟨rfl, oky_X19_run⟩ (by decide) (by decide) rfl C1_0 (Nat.le_of_ble_eq_true rfl) dX19_advance_51 ?_
      refine R_goto (tgt := 80) dX19_advance_54 (by decide) ?_
      refine R.sub [1, 0] (L' := [(0, va_rf x0), (1, .int t3)]) rfl ?_
      exact f_X19_advance_B80_ok  x0 t3 h15 hf
  · rw [if_neg hc] at hf
    refine R_aload_n 1 dX19_advance_24 rfl rfl ?_
    refine R_bipush dX19_advance_25 k_bipush_97 ?_
    refine R_bipush dX19_advance_27 k_bipush_122 ?_
    obtain ⟨u16, eu16, hf⟩ := Option.bind_eq_some_iff.mp hf
    obtain ⟨h17, eh17, hf⟩ := Option.bind_eq_some_iff.mp hf
    refine R_callV (mj := mi_X19_run) (ci := 16) (q := (RX19, TX19, 4)) (As := [.int 97, .int 122]) (rest := []) (T_X19_run eh17) eu16 rfl lV_X19_54 ⟨rfl, oky_X19_run⟩ (by decide) (by decide) rfl C1_0 (Nat.le_of_ble_eq_true rfl) dX19_advance_29 ?_
    refine R_goto (tgt := 80) dX19_advance_32 (by decide) ?_
    refine R.sub [1, 0] (L' := [(0, va_rf x0), (1, .int t3)]) rfl ?_
    exact f_X19_advance_B80_ok  x0 t3 h17 hf
theorem lF_X19_234_X20 : GoodIn lw_all (va_wsF "EdgeSums$Parser" 234 "EdgeSums$Slice" (⟨"java/lang/CharSequence", "toString", "()Ljava/lang/String;"⟩ : MethodName) yX20_toString (ws_ yX20_toString cX20_toString 3 (some (FieldType.object "java/lang/String")))) := lw_F q1841 q1845 q1847 q169 q1849
theorem fw_X20_java_lang_CharSequencetoString__Ljava_lang_String_ : FW "EdgeSums$Slice" (⟨"java/lang/CharSequence", "toString", "()Ljava/lang/String;"⟩ : MethodName) yX20_toString := ⟨q1843, q1842, q1848, q1846, q1844⟩
theorem okx_java_lang_CharSequence_toString__Ljava_lang_String_ : okY (⟨"java/lang/CharSequence", "toString", "()Ljava/lang/String;"⟩ : MethodName) 0 := ⟨by decide +kernel, by decide +kernel, by decide +kernel⟩
theorem lV_X19_184 : GoodIn lw_all (wsV "EdgeSums$Parser" 184 "java/lang/String" yJ5_hashCode (ws_ yJ5_hashCode cJ5_hashCode 2 (some FieldType.int))) := lw_V q1941 q860 q861 q135 q862
theorem lV_X19_191 : GoodIn lw_all (wsV "EdgeSums$Parser" 191 "java/lang/String" yJ5_equals (ws_ yJ5_equals cJ5_equals 3 (some FieldType.boolean))) := lw_V q1943 q914 q915 q135 q916
abbrev mi_X19_kind : MI := (RX19, yX19_kind, cX19_kind, 3, (some FieldType.int), 10)
noncomputable def f_X19_kind_B153  (x2 : Int32) (h : PH) : Option (Int32 × PH) := if x2 = 0 then (some (0, h)) else (if x2 = 1 then (some (1, h)) else (if x2 = 2 then (some (2, h)) else (if x2 = 3 then (some (3, h)) else (if x2 = 4 then (some (4, h)) else (if x2 = 5 then (some (5, h)) else (some ((-99), h)))))))
theorem f_X19_kind_B153_ok {K : KT} {h0 : PH} {a0 : List Value} {q : (Int32 × PH)}  (x2 : Int32) (h : PH) (hf : f_X19_kind_B153  x2 h = some q) : R K mi_X19_kind h0 a0 (.inl (some (.int q.1))) q.2 153 [(2, .int x2)] [] h := by
  unfold f_X19_kind_B153 at hf
  refine R_iload_n 0 dX19_kind_153 rfl rfl ?_
  by_cases hc0 : x2 = 0
  · rw [if_pos hc0] at hf
    refine R_tswIn (tgt := 192) dX19_kind_154 (by rw [hc0]; decide) (by rw [hc0]; decide) (by rw [hc0]; rfl) (by decide) ?_
    refine R_iconst dX19_kind_192 k_iconst_0 ?_
    refine R_goto (tgt := 218) dX19_kind_193 (by decide) ?_
    obtain rfl := Option.some.inj hf
    exact R_iretI rfl dX19_kind_218
  · rw [if_neg hc0] at hf
    by_cases hc1 : x2 = 1
    · rw [if_pos hc1] at hf
      refine R_tswIn (tgt := 196) dX19_kind_154 (by rw [hc1]; decide) (by rw [hc1]; decide) (by rw [hc1]; rfl) (by decide) ?_
      refine R_iconst dX19_kind_196 k_iconst_1 ?_
      refine R_goto (tgt := 218) dX19_kind_197 (by decide) ?_
      obtain rfl := Option.some.inj hf
      exact R_iretI rfl dX19_kind_218
    · rw [if_neg hc1] at hf
      by_cases hc2 : x2 = 2
      · rw [if_pos hc2] at hf
        refine R_tswIn (tgt := 200) dX19_kind_154 (by rw [hc2]; decide) (by rw [hc2]; decide) (by rw [hc2]; rfl) (by decide) ?_
        refine R_iconst dX19_kind_200 k_iconst_2 ?_
        refine R_goto (tgt := 218) dX19_kind_201 (by decide) ?_
        obtain rfl := Option.some.inj hf
        exact R_iretI rfl dX19_kind_218
      · rw [if_neg hc2] at hf
        by_cases hc3 : x2 = 3
        · rw [if_pos hc3] at hf
          refine R_tswIn (tgt := 204) dX19_kind_154 (by rw [hc3]; decide) (by rw [hc3]; decide) (by rw [hc3]; rfl) (by decide) ?_
          refine R_iconst dX19_kind_204 k_iconst_3 ?_
          refine R_goto (tgt := 218) dX19_kind_205 (by decide) ?_
          obtain rfl := Option.some.inj hf
          exact R_iretI rfl dX19_kind_218
        · rw [if_neg hc3] at hf
          by_cases hc4 : x2 = 4
          · rw [if_pos hc4] at hf
            refine R_tswIn (tgt := 208) dX19_kind_154 (by rw [hc4]; decide) (by rw [hc4]; decide) (by rw [hc4]; rfl) (by decide) ?_
            refine R_iconst dX19_kind_208 k_iconst_4 ?_
            refine R_goto (tgt := 218) dX19_kind_209 (by decide) ?_
            obtain rfl := Option.some.inj hf
            exact R_iretI rfl dX19_kind_218
          · rw [if_neg hc4] at hf
            by_cases hc5 : x2 = 5
            · rw [if_pos hc5] at hf
              refine R_tswIn (tgt := 212) dX19_kind_154 (by rw [hc5]; decide) (by rw [hc5]; decide) (by rw [hc5]; rfl) (by decide) ?_
              refine R_iconst dX19_kind_212 k_iconst_5 ?_
              refine R_goto (tgt := 218) dX19_kind_213 (by decide) ?_
              obtain rfl := Option.some.inj hf
              exact R_iretI rfl dX19_kind_218
            · rw [if_neg hc5] at hf
              refine R_tswOut (tgt := 216) dX19_kind_154 (by have := (⟨i32_ne hc0, i32_ne hc1, i32_ne hc2, i32_ne hc3, i32_ne hc4, i32_ne hc5, trivial⟩ : x2.toInt ≠ 0 ∧ x2.toInt ≠ 1 ∧ x2.toInt ≠ 2 ∧ x2.toInt ≠ 3 ∧ x2.toInt ≠ 4 ∧ x2.toInt ≠ 5 ∧ True); omega) (by decide) ?_
              refine R_bipush dX19_kind_216 k_bipush_m99 ?_
              obtain rfl := Option.some.inj hf
              exact R_iretI rfl dX19_kind_218
noncomputable def f_X19_kind (x0 : Option Nat) (h : PH) : Option (Int32 × PH) := (rcv 17 x0 h).bind (fun u1 => (f_X20_toString x0 h).bind (fun q2 => (rcv 32 q2.1 q2.2).bind (fun u3 => (f_J5_hashCode q2.1 q2.2).bind (fun q4 => if q4.1 = (-1412808770) then ((rcv 32 q2.1 q4.2).bind (fun u5 => (f_J5_equals q2.1 (hk q4.2 110) q4.2).bind (fun q6 => if q6.1 = 0 then (f_X19_kind_B153  (-1) q6.2) else (f_X19_kind_B153  1 q6.2)))) else (if q4.1 = 3173137 then ((rcv 32 q2.1 q4.2).bind (fun u7 => (f_J5_equals q2.1 (hk q4.2 111) q4.2).bind (fun q8 => if q8.1 = 0 then (f_X19_kind_B153  (-1) q8.2) else (f_X19_kind_B153  2 q8.2)))) else (if q4.1 = 3433103 then ((rcv 32 q2.1 q4.2).bind (fun u9 => (f_J5_equals q2.1 (hk q4.2 109) q4.2).bind (fun q10 => if q10.1 = 0 then (f_X19_kind_B153  (-1) q10.2) else (f_X19_kind_B153  0 q10.2)))) else (if q4.1 = 3541896 then ((rcv 32 q2.1 q4.2).bind (fun u11 => (f_J5_equals q2.1 (hk q4.2 112) q4.2).bind (fun q12 => if q12.1 = 0 then (f_X19_kind_B153  (-1) q12.2) else (f_X19_kind_B153  3 q12.2)))) else (if q4.1 = 94849606 then ((rcv 32 q2.1 q4.2).bind (fun u13 => (f_J5_equals q2.1 (hk q4.2 114) q4.2).bind (fun q14 => if q14.1 = 0 then (f_X19_kind_B153  (-1) q14.2) else (f_X19_kind_B153  5 q14.2)))) else (if q4.1 = 108873975 then ((rcv 32 q2.1 q4.2).bind (fun u15 => (f_J5_equals q2.1 (hk q4.2 113) q4.2).bind (fun q16 => if q16.1 = 0 then (f_X19_kind_B153  (-1) q16.2) else (f_X19_kind_B153  4 q16.2)))) else (f_X19_kind_B153  (-1) q4.2))))))))))
theorem T_X19_kind {K : KT} {x0 : Option Nat} {h : PH} {q : (Int32 × PH)} (hf : f_X19_kind x0 h = some q) : T K mi_X19_kind [va_rf x0] h (.inl (some (.int q.1))) q.2 := by
  unfold f_X19_kind at hf
  refine T_of (by decide +kernel) rfl (C1_r C1_0) (Nat.le_of_ble_eq_true rfl) ?_
  show R K mi_X19_kind h [va_rf x0] _ _ 0 [(0, va_rf x0)] [] h
  refine R_aload_n 0 dX19_kind_0 rfl rfl ?_
  obtain ⟨u1, eu1, hf⟩ := Option.bind_eq_some_iff.mp hf
  obtain ⟨q2, eq2, hf⟩ := Option.bind_eq_some_iff.mp hf
  refine R_callF (y0 := (⟨"java/lang/CharSequence", "toString", "()Ljava/lang/String;"⟩ : MethodName)) (mj := mi_X20_toString) (ci := 17) (q := (RX20, TX20, 3)) (As := []) (rest := []) (T_X20_toString eq2) eu1 rfl lF_X19_234_X20 fw_X20_java_lang_CharSequencetoString__Ljava_lang_String_ okx_java_lang_CharSequence_toString__Ljava_lang_String_ (by decide) (by decide) rfl C1_0 (Nat.le_of_ble_eq_true rfl) dX19_kind_1 ?_
  refine R_astore_n (L' := [(1, va_rf q2.1), (0, va_rf x0)]) dX19_kind_6 rfl (by decide) rfl ?_
  refine R_iconst dX19_kind_7 k_iconst_m1 ?_
  refine R_istore_n (L' := [(2, .int (-1)), (1, va_rf q2.1), (0, va_rf x0)]) dX19_kind_8 rfl (by decide) rfl ?_
  refine R_aload_n 1 dX19_kind_9 rfl rfl ?_
  obtain ⟨u3, eu3, hf⟩ := Option.bind_eq_some_iff.mp hf
  obtain ⟨q4, eq4, hf⟩ := Option.bind_eq_some_iff.mp hf
  refine R_callV (mj := mi_J5_hashCode) (ci := 32) (q := (RJ5, TJ5, 4)) (As := []) (rest := []) (T_J5_hashCode eq4) eu3 rfl lV_X19_184 ⟨rfl, oky_J5_hashCode⟩ (by decide) (by decide) rfl C1_0 (Nat.le_of_ble_eq_true rfl) dX19_kind_10 ?_
  by_cases hc0 : q4.1 = (-1412808770)
  · rw [if_pos hc0] at hf
    refine R_lsw (off := 73) (tgt := 86) dX19_kind_13 rfl (by rw [hc0]; rfl) (by decide) ?_
    refine R_aload_n 1 dX19_kind_86 rfl rfl ?_
    refine R_ldcS (j := 10) rfl dX19_kind_87 ?_
    obtain ⟨u5, eu5, hf⟩ := Option.bind_eq_some_iff.mp hf
    obtain ⟨q6, eq6, hf⟩ := Option.bind_eq_some_iff.mp hf
    refine R_callV (mj := mi_J5_equals) (ci := 32) (q := (RJ5, TJ5, 4)) (As := [va_rf (hk q4.2 110)]) (rest := []) (T_J5_equals eq6) eu5 rfl lV_X19_191 ⟨rfl, oky_J5_equals⟩ (by decide) (by decide) rfl C1_0 (Nat.le_of_ble_eq_true rfl) dX19_kind_89 ?_
    refine R_ifeq (tgt := 153) dX19_kind_92 (by decide) (fun hc => ?_) (fun hc => ?_)
    · rw [if_pos hc] at hf
      refine R.sub [0] (L' := [(2, .int (-1))]) rfl ?_
      exact f_X19_kind_B153_ok  (-1) q6.2 hf
    · rw [if_neg hc] at hf
      refine R_iconst dX19_kind_95 k_iconst_1 ?_
      refine R_istore_n (L' := [(2, .int 1), (1, va_rf q2.1), (0, va_rf x0)]) dX19_kind_96 rfl (by decide) rfl ?_
      refine R_goto (tgt := 153) dX19_kind_97 (by decide) ?_
      refine R.sub [0] (L' := [(2, .int 1)]) rfl ?_
      exact f_X19_kind_B153_ok  1 q6.2 hf
  · rw [if_neg hc0] at hf
    by_cases hc1 : q4.1 = 3173137
    · rw [if_pos hc1] at hf
      refine R_lsw (off := 87) (tgt := 100) dX19_kind_13 rfl (by rw [hc1]; rfl) (by decide) ?_
      refine R_aload_n 1 dX19_kind_100 rfl rfl ?_
      refine R_ldcS (j := 11) rfl dX19_kind_101 ?_
      obtain ⟨u7, eu7, hf⟩ := Option.bind_eq_some_iff.mp hf
      obtain ⟨q8, eq8, hf⟩ := Option.bind_eq_some_iff.mp hf
      refine R_callV (mj := mi_J5_equals) (ci := 32) (q := (RJ5, TJ5, 4)) (As := [va_rf (hk q4.2 111)]) (rest := []) (T_J5_equals eq8) eu7 rfl lV_X19_191 ⟨rfl, oky_J5_equals⟩ (by decide) (by decide) rfl C1_0 (Nat.le_of_ble_eq_true rfl) dX19_kind_103 ?_
      refine R_ifeq (tgt := 153) dX19_kind_106 (by decide) (fun hc => ?_) (fun hc => ?_)
      · rw [if_pos hc] at hf
        refine R.sub [0] (L' := [(2, .int (-1))]) rfl ?_
        exact f_X19_kind_B153_ok  (-1) q8.2 hf
      · rw [if_neg hc] at hf
        refine R_iconst dX19_kind_109 k_iconst_2 ?_
        refine R_istore_n (L' := [(2, .int 2), (1, va_rf q2.1), (0, va_rf x0)]) dX19_kind_110 rfl (by decide) rfl ?_
        refine R_goto (tgt := 153) dX19_kind_111 (by decide) ?_
        refine R.sub [0] (L' := [(2, .int 2)]) rfl ?_
        exact f_X19_kind_B153_ok  2 q8.2 hf
    · rw [if_neg hc1] at hf
      by_cases hc2 : q4.1 = 3433103
      · rw [if_pos hc2] at hf
        refine R_lsw (off := 59) (tgt := 72) dX19_kind_13 rfl (by rw [hc2]; rfl) (by decide) ?_
        refine R_aload_n 1 dX19_kind_72 rfl rfl ?_
        refine R_ldcS (j := 9) rfl dX19_kind_73 ?_
        obtain ⟨u9, eu9, hf⟩ := Option.bind_eq_some_iff.mp hf
        obtain ⟨q10, eq10, hf⟩ := Option.bind_eq_some_iff.mp hf
        refine R_callV (mj := mi_J5_equals) (ci := 32) (q := (RJ5, TJ5, 4)) (As := [va_rf (hk q4.2 109)]) (rest := []) (T_J5_equals eq10) eu9 rfl lV_X19_191 ⟨rfl, oky_J5_equals⟩ (by decide) (by decide) rfl C1_0 (Nat.le_of_ble_eq_true rfl) dX19_kind_75 ?_
        refine R_ifeq (tgt := 153) dX19_kind_78 (by decide) (fun hc => ?_) (fun hc => ?_)
        · rw [if_pos hc] at hf
          refine R.sub [0] (L' := [(2, .int (-1))]) rfl ?_
          exact f_X19_kind_B153_ok  (-1) q10.2 hf
        · rw [if_neg hc] at hf
          refine R_iconst dX19_kind_81 k_iconst_0 ?_
          refine R_istore_n (L' := [(2, .int 0), (1, va_rf q2.1), (0, va_rf x0)]) dX19_kind_82 rfl (by decide) rfl ?_
          refine R_goto (tgt := 153) dX19_kind_83 (by decide) ?_
          refine R.sub [0] (L' := [(2, .int 0)]) rfl ?_
          exact f_X19_kind_B153_ok  0 q10.2 hf
      · rw [if_neg hc2] at hf
        by_cases hc3 : q4.1 = 3541896
        · rw [if_pos hc3] at hf
          refine R_lsw (off := 101) (tgt := 114) dX19_kind_13 rfl (by rw [hc3]; rfl) (by decide) ?_
          refine R_aload_n 1 dX19_kind_114 rfl rfl ?_
          refine R_ldcS (j := 12) rfl dX19_kind_115 ?_
          obtain ⟨u11, eu11, hf⟩ := Option.bind_eq_some_iff.mp hf
          obtain ⟨q12, eq12, hf⟩ := Option.bind_eq_some_iff.mp hf
          refine R_callV (mj := mi_J5_equals) (ci := 32) (q := (RJ5, TJ5, 4)) (As := [va_rf (hk q4.2 112)]) (rest := []) (T_J5_equals eq12) eu11 rfl lV_X19_191 ⟨rfl, oky_J5_equals⟩ (by decide) (by decide) rfl C1_0 (Nat.le_of_ble_eq_true rfl) dX19_kind_117 ?_
          refine R_ifeq (tgt := 153) dX19_kind_120 (by decide) (fun hc => ?_) (fun hc => ?_)
          · rw [if_pos hc] at hf
            refine R.sub [0] (L' := [(2, .int (-1))]) rfl ?_
            exact f_X19_kind_B153_ok  (-1) q12.2 hf
          · rw [if_neg hc] at hf
            refine R_iconst dX19_kind_123 k_iconst_3 ?_
            refine R_istore_n (L' := [(2, .int 3), (1, va_rf q2.1), (0, va_rf x0)]) dX19_kind_124 rfl (by decide) rfl ?_
            refine R_goto (tgt := 153) dX19_kind_125 (by decide) ?_
            refine R.sub [0] (L' := [(2, .int 3)]) rfl ?_
            exact f_X19_kind_B153_ok  3 q12.2 hf
        · rw [if_neg hc3] at hf
          by_cases hc4 : q4.1 = 94849606
          · rw [if_pos hc4] at hf
            refine R_lsw (off := 129) (tgt := 142) dX19_kind_13 rfl (by rw [hc4]; rfl) (by decide) ?_
            refine R_aload_n 1 dX19_kind_142 rfl rfl ?_
            refine R_ldcS (j := 14) rfl dX19_kind_143 ?_
            obtain ⟨u13, eu13, hf⟩ := Option.bind_eq_some_iff.mp hf
            obtain ⟨q14, eq14, hf⟩ := Option.bind_eq_some_iff.mp hf
            refine R_callV (mj := mi_J5_equals) (ci := 32) (q := (RJ5, TJ5, 4)) (As := [va_rf (hk q4.2 114)]) (rest := []) (T_J5_equals eq14) eu13 rfl lV_X19_191 ⟨rfl, oky_J5_equals⟩ (by decide) (by decide) rfl C1_0 (Nat.le_of_ble_eq_true rfl) dX19_kind_145 ?_
            refine R_ifeq (tgt := 153) dX19_kind_148 (by decide) (fun hc => ?_) (fun hc => ?_)
            · rw [if_pos hc] at hf
              refine R.sub [0] (L' := [(2, .int (-1))]) rfl ?_
              exact f_X19_kind_B153_ok  (-1) q14.2 hf
            · rw [if_neg hc] at hf
              refine R_iconst dX19_kind_151 k_iconst_5 ?_
              refine R_istore_n (L' := [(2, .int 5), (1, va_rf q2.1), (0, va_rf x0)]) dX19_kind_152 rfl (by decide) rfl ?_
              refine R.sub [0] (L' := [(2, .int 5)]) rfl ?_
              exact f_X19_kind_B153_ok  5 q14.2 hf
          · rw [if_neg hc4] at hf
            by_cases hc5 : q4.1 = 108873975
            · rw [if_pos hc5] at hf
              refine R_lsw (off := 115) (tgt := 128) dX19_kind_13 rfl (by rw [hc5]; rfl) (by decide) ?_
              refine R_aload_n 1 dX19_kind_128 rfl rfl ?_
              refine R_ldcS (j := 13) rfl dX19_kind_129 ?_
              obtain ⟨u15, eu15, hf⟩ := Option.bind_eq_some_iff.mp hf
              obtain ⟨q16, eq16, hf⟩ := Option.bind_eq_some_iff.mp hf
              refine R_callV (mj := mi_J5_equals) (ci := 32) (q := (RJ5, TJ5, 4)) (As := [va_rf (hk q4.2 113)]) (rest := []) (T_J5_equals eq16) eu15 rfl lV_X19_191 ⟨rfl, oky_J5_equals⟩ (by decide) (by decide) rfl C1_0 (Nat.le_of_ble_eq_true rfl) dX19_kind_131 ?_
              refine R_ifeq (tgt := 153) dX19_kind_134 (by decide) (fun hc => ?_) (fun hc => ?_)
              · rw [if_pos hc] at hf
                refine R.sub [0] (L' := [(2, .int (-1))]) rfl ?_
                exact f_X19_kind_B153_ok  (-1) q16.2 hf
              · rw [if_neg hc] at hf
                refine R_iconst dX19_kind_137 k_iconst_4 ?_
                refine R_istore_n (L' := [(2, .int 4), (1, va_rf q2.1), (0, va_rf x0)]) dX19_kind_138 rfl (by decide) rfl ?_
                refine R_goto (tgt := 153) dX19_kind_139 (by decide) ?_
                refine R.sub [0] (L' := [(2, .int 4)]) rfl ?_
                exact f_X19_kind_B153_ok  4 q16.2 hf
            · rw [if_neg hc5] at hf
              refine R_lsw (off := 140) (tgt := 153) dX19_kind_13 rfl (by simp [Op.lookupswitch.offset, List.find?, (i32_ne hc0 : q4.1.toInt ≠ (-1412808770)), (Ne.symm (i32_ne hc0) : ((-1412808770) : Int) ≠ q4.1.toInt), (i32_ne hc1 : q4.1.toInt ≠ 3173137), (Ne.symm (i32_ne hc1) : (3173137 : Int) ≠ q4.1.toInt), (i32_ne hc2 : q4.1.toInt ≠ 3433103), (Ne.symm (i32_ne hc2) : (3433103 : Int) ≠ q4.1.toInt), (i32_ne hc3 : q4.1.toInt ≠ 3541896), (Ne.symm (i32_ne hc3) : (3541896 : Int) ≠ q4.1.toInt), (i32_ne hc4 : q4.1.toInt ≠ 94849606), (Ne.symm (i32_ne hc4) : (94849606 : Int) ≠ q4.1.toInt), (i32_ne hc5 : q4.1.toInt ≠ 108873975), (Ne.symm (i32_ne hc5) : (108873975 : Int) ≠ q4.1.toInt)]) (by decide) ?_
              refine R.sub [0] (L' := [(2, .int (-1))]) rfl ?_
              exact f_X19_kind_B153_ok  (-1) q4.2 hf
theorem lV_X19_84 : GoodIn lw_all (wsV "EdgeSums$Parser" 84 "EdgeSums$Parser" yX19_need (ws_ yX19_need cX19_need 2 none)) := lw_V q1957 q1959 qs30 q168 q1960
theorem oky_X19_need : okY yX19_need 1 := ⟨by decide +kernel, by decide +kernel, by decide +kernel⟩
theorem lV_X19_88 : GoodIn lw_all (wsV "EdgeSums$Parser" 88 "EdgeSums$Parser" yX19_advance (ws_ yX19_advance cX19_advance 2 none)) := lw_V q1791 q1793 qs25 q168 q1794
theorem oky_X19_advance : okY yX19_advance 0 := ⟨by decide +kernel, by decide +kernel, by decide +kernel⟩
abbrev mi_X19_take : MI := (RX19, yX19_take, cX19_take, 2, none, 9)
noncomputable def f_X19_take (x0 : Option Nat) (x1 : Int32) (h : PH) : Option ((Unit ⊕ Nat) × PH) := (rcv 16 x0 h).bind (fun u1 => (f_X19_need x0 x1 h).bind (fun rv2 => match rv2 with | (.inl _, h3) => ((rcv 16 x0 h3).bind (fun u5 => (f_X19_advance x0 h3).bind (fun h6 => some (.inl (), h6)))) | (.inr a4, h3) => (some (.inr a4, h3))))
theorem T_X19_take {K : KT} {x0 : Option Nat} {x1 : Int32} {h : PH} {q : ((Unit ⊕ Nat) × PH)} (hf : f_X19_take x0 x1 h = some q) : T K mi_X19_take [va_rf x0, .int x1] h (rsV q.1) q.2 := by
  unfold f_X19_take at hf
  refine T_of (by decide +kernel) rfl (C1_r (C1_i C1_0)) (Nat.le_of_ble_eq_true rfl) ?_
  show R K mi_X19_take h [va_rf x0, .int x1] _ _ 0 [(0, va_rf x0), (1, .int x1)] [] h
  refine R_aload_n 0 dX19_take_0 rfl rfl ?_
  refine R_iload_n 1 dX19_take_1 rfl rfl ?_
  obtain ⟨u1, eu1, hf⟩ := Option.bind_eq_some_iff.mp hf
  obtain ⟨⟨rv2, h3⟩, ev2, hf⟩ := Option.bind_eq_some_iff.mp hf
  cases rv2 with
  | inr a4 =>
    obtain rfl := Option.some.inj hf
    exact R_propV (mj := mi_X19_need) (ci := 16) (q := (RX19, TX19, 4)) (As := [.int x1]) (rest := []) (T_X19_need ev2) eu1 rfl lV_X19_84 ⟨rfl, oky_X19_need⟩ (by decide) (by decide) rfl C1_0 (Nat.le_of_ble_eq_true rfl) dX19_take_2 (by decide +kernel)
  | inl v2 =>
    dsimp only at hf
    refine R_callV (v := none) (mj := mi_X19_need) (ci := 16) (q := (RX19, TX19, 4)) (As := [.int x1]) (rest := []) (T_X19_need ev2) eu1 rfl lV_X19_84 ⟨rfl, oky_X19_need⟩ (by decide) (by decide) rfl C1_0 (Nat.le_of_ble_eq_true rfl) dX19_take_2 ?_
    refine R_aload_n 0 dX19_take_5 rfl rfl ?_
    obtain ⟨u5, eu5, hf⟩ := Option.bind_eq_some_iff.mp hf
    obtain ⟨h6, eh6, hf⟩ := Option.bind_eq_some_iff.mp hf
    refine R_callV (mj := mi_X19_advance) (ci := 16) (q := (RX19, TX19, 4)) (As := []) (rest := []) (T_X19_advance eh6) eu5 rfl lV_X19_88 ⟨rfl, oky_X19_advance⟩ (by decide) (by decide) rfl C1_0 (Nat.le_of_ble_eq_true rfl) dX19_take_6 ?_
    obtain rfl := Option.some.inj hf
    exact R_return rfl dX19_take_9
theorem lg_X19_69 : LG "EdgeSums$Parser" 69 16 2 := ⟨_, _, _, ck_16, by decide, Or.inl q1776⟩
theorem lV_X19_91 : GoodIn lw_all (wsV "EdgeSums$Parser" 91 "EdgeSums$Slice" yX20_isDigits (ws_ yX20_isDigits cX20_isDigits 1 (some FieldType.boolean))) := lw_V q2147 q2148 q2149 q169 q2150
theorem oky_X20_isDigits : okY yX20_isDigits 0 := ⟨by decide +kernel, by decide +kernel, by decide +kernel⟩
theorem lV_X19_95 : GoodIn lw_all (wsV "EdgeSums$Parser" 95 "EdgeSums$Slice" yX20_length (ws_ yX20_length cX20_length 1 (some FieldType.int))) := lw_V q1833 q1834 q1835 q169 q1836
theorem oky_X20_length : okY yX20_length 0 := ⟨by decide +kernel, by decide +kernel, by decide +kernel⟩
theorem lV_X19_96 : GoodIn lw_all (wsV "EdgeSums$Parser" 96 "EdgeSums$Slice" yX20_charAt (ws_ yX20_charAt cX20_charAt 2 (some FieldType.char))) := lw_V q2134 q1853 q1854 q169 q1855
abbrev mi_X19_value : MI := (RX19, yX19_value, cX19_value, 3, (some FieldType.int), 8)
noncomputable def f_X19_value_L52  : Nat → Option Nat → Int32 → Int32 → PH → Option (Int32 × PH)
  | 0, _, _, _, _ => none
  | k + 1, x0, x1, x2, h => (gfr 16 2 x0 h).bind (fun t1 => (rcv 17 t1 h).bind (fun u2 => (f_X20_length t1 h).bind (fun q3 => if q3.1 ≤ x2 then (some (x1, q3.2)) else ((gfr 16 2 x0 q3.2).bind (fun t4 => (rcv 17 t4 q3.2).bind (fun u5 => (f_X20_charAt t4 x2 q3.2).bind (fun q6 => (f_X19_value_L52 k) x0 (((10 * x1) + q6.1) - 48) (x2 + 1) q6.2)))))))
theorem f_X19_value_L52_ok {K : KT} {h0 : PH} {a0 : List Value} {q : (Int32 × PH)}  : ∀ (k : Nat) (x0 : Option Nat) (x1 : Int32) (x2 : Int32) (h : PH), f_X19_value_L52  k x0 x1 x2 h = some q → R K mi_X19_value h0 a0 (.inl (some (.int q.1))) q.2 52 [(0, va_rf x0), (1, .int x1), (2, .int x2)] [] h := by
  intro k
  induction k with
  | zero => intro _ _ _ _ hf; cases hf
  | succ k ih =>
    intro x0 x1 x2 h hf
    unfold f_X19_value_L52 at hf
    refine R_iload_n 2 dX19_value_52 rfl rfl ?_
    refine R_aload_n 0 dX19_value_53 rfl rfl ?_
    obtain ⟨t1, et1, hf⟩ := Option.bind_eq_some_iff.mp hf
    refine R_getr lg_X19_69 et1 dX19_value_54 ?_
    obtain ⟨u2, eu2, hf⟩ := Option.bind_eq_some_iff.mp hf
    obtain ⟨q3, eq3, hf⟩ := Option.bind_eq_some_iff.mp hf
    refine R_callV (mj := mi_X20_length) (ci := 17) (q := (RX20, TX20, 3)) (As := []) (rest := [.int x2]) (T_X20_length eq3) eu2 rfl lV_X19_95 ⟨rfl, oky_X20_length⟩ (by decide) (by decide) rfl (C1_i C1_0) (Nat.le_of_ble_eq_true rfl) dX19_value_57 ?_
    refine R_icge (tgt := 86) dX19_value_60 (by decide) (fun hc => ?_) (fun hc => ?_)
    · rw [if_pos hc] at hf
      refine R_iload_n 1 dX19_value_86 rfl rfl ?_
      obtain rfl := Option.some.inj hf
      exact R_iretI rfl dX19_value_87
    · rw [if_neg hc] at hf
      refine R_bipush dX19_value_63 k_bipush_10 ?_
      refine R_iload_n 1 dX19_value_65 rfl rfl ?_
      refine R_imul dX19_value_66 ?_
      refine R_aload_n 0 dX19_value_67 rfl rfl ?_
      obtain ⟨t4, et4, hf⟩ := Option.bind_eq_some_iff.mp hf
      refine R_getr lg_X19_69 et4 dX19_value_68 ?_
      refine R_iload_n 2 dX19_value_71 rfl rfl ?_
      obtain ⟨u5, eu5, hf⟩ := Option.bind_eq_some_iff.mp hf
      obtain ⟨q6, eq6, hf⟩ := Option.bind_eq_some_iff.mp hf
      refine R_callV (mj := mi_X20_charAt) (ci := 17) (q := (RX20, TX20, 3)) (As := [.int x2]) (rest := [.int (10 * x1)]) (T_X20_charAt eq6) eu5 rfl lV_X19_96 ⟨rfl, oky_X20_charAt⟩ (by decide) (by decide) rfl (C1_i C1_0) (Nat.le_of_ble_eq_true rfl) dX19_value_72 ?_
      refine R_iadd dX19_value_75 ?_
      refine R_bipush dX19_value_76 k_bipush_48 ?_
      refine R_isub dX19_value_78 ?_
      refine R_istore_n (L' := [(1, .int (((10 * x1) + q6.1) - 48)), (0, va_rf x0), (2, .int x2)]) dX19_value_79 rfl (by decide) rfl ?_
      refine R_iinc (L' := [(2, .int (x2 + 1)), (1, .int (((10 * x1) + q6.1) - 48)), (0, va_rf x0)]) 2 dX19_value_80 rfl (k_inc_1 _) (by decide) rfl ?_
      refine R_goto (tgt := 52) dX19_value_83 (by decide) ?_
      refine R.sub [2, 1, 0] (L' := [(0, va_rf x0), (1, .int (((10 * x1) + q6.1) - 48)), (2, .int (x2 + 1))]) rfl ?_
      exact ih x0 (((10 * x1) + q6.1) - 48) (x2 + 1) q6.2 hf
noncomputable def f_X19_value (x0 : Option Nat) (h : PH) : Option (Int32 × PH) := (gfr 16 2 x0 h).bind (fun t1 => (rcv 17 t1 h).bind (fun u2 => (f_X20_isDigits t1 h).bind (fun q3 => if q3.1 = 0 then (some ((-99), q3.2)) else ((gfr 16 2 x0 q3.2).bind (fun t4 => (rcv 17 t4 q3.2).bind (fun u5 => (f_X20_length t4 q3.2).bind (fun q6 => if 2 < q6.1 then (some ((-99), q6.2)) else ((gfr 16 2 x0 q6.2).bind (fun t7 => (rcv 17 t7 q6.2).bind (fun u8 => (f_X20_length t7 q6.2).bind (fun q9 => if q9.1 ≤ 1 then (f_X19_value_L52  FU x0 0 0 q9.2) else ((gfr 16 2 x0 q9.2).bind (fun t10 => (rcv 17 t10 q9.2).bind (fun u11 => (f_X20_charAt t10 0 q9.2).bind (fun q12 => if q12.1 = 48 then (some ((-99), q12.2)) else (f_X19_value_L52  FU x0 0 0 q12.2))))))))))))))))
theorem T_X19_value {K : KT} {x0 : Option Nat} {h : PH} {q : (Int32 × PH)} (hf : f_X19_value x0 h = some q) : T K mi_X19_value [va_rf x0] h (.inl (some (.int q.1))) q.2 := by
  unfold f_X19_value at hf
  refine T_of (by decide +kernel) rfl (C1_r C1_0) (Nat.le_of_ble_eq_true rfl) ?_
  show R K mi_X19_value h [va_rf x0] _ _ 0 [(0, va_rf x0)] [] h
  refine R_aload_n 0 dX19_value_0 rfl rfl ?_
  obtain ⟨t1, et1, hf⟩ := Option.bind_eq_some_iff.mp hf
  refine R_getr lg_X19_69 et1 dX19_value_1 ?_
  obtain ⟨u2, eu2, hf⟩ := Option.bind_eq_some_iff.mp hf
  obtain ⟨q3, eq3, hf⟩ := Option.bind_eq_some_iff.mp hf
  refine R_callV (mj := mi_X20_isDigits) (ci := 17) (q := (RX20, TX20, 3)) (As := []) (rest := []) (T_X20_isDigits eq3) eu2 rfl lV_X19_91 ⟨rfl, oky_X20_isDigits⟩ (by decide) (by decide) rfl C1_0 (Nat.le_of_ble_eq_true rfl) dX19_value_4 ?_
  refine R_ifeq (tgt := 45) dX19_value_7 (by decide) (fun hc => ?_) (fun hc => ?_)
  · rw [if_pos hc] at hf
    refine R_bipush dX19_value_45 k_bipush_m99 ?_
    obtain rfl := Option.some.inj hf
    exact R_iretI rfl dX19_value_47
  · rw [if_neg hc] at hf
    refine R_aload_n 0 dX19_value_10 rfl rfl ?_
    obtain ⟨t4, et4, hf⟩ := Option.bind_eq_some_iff.mp hf
    refine R_getr lg_X19_69 et4 dX19_value_11 ?_
    obtain ⟨u5, eu5, hf⟩ := Option.bind_eq_some_iff.mp hf
    obtain ⟨q6, eq6, hf⟩ := Option.bind_eq_some_iff.mp hf
    refine R_callV (mj := mi_X20_length) (ci := 17) (q := (RX20, TX20, 3)) (As := []) (rest := []) (T_X20_length eq6) eu5 rfl lV_X19_95 ⟨rfl, oky_X20_length⟩ (by decide) (by decide) rfl C1_0 (Nat.le_of_ble_eq_true rfl) dX19_value_14 ?_
    refine R_iconst dX19_value_17 k_iconst_2 ?_
    refine R_icgt (tgt := 45) dX19_value_18 (by decide) (fun hc => ?_) (fun hc => ?_)
    · rw [if_pos hc] at hf
      refine R_bipush dX19_value_45 k_bipush_m99 ?_
      obtain rfl := Option.some.inj hf
      exact R_iretI rfl dX19_value_47
    · rw [if_neg hc] at hf
      refine R_aload_n 0 dX19_value_21 rfl rfl ?_
      obtain ⟨t7, et7, hf⟩ := Option.bind_eq_some_iff.mp hf
      refine R_getr lg_X19_69 et7 dX19_value_22 ?_
      obtain ⟨u8, eu8, hf⟩ := Option.bind_eq_some_iff.mp hf
      obtain ⟨q9, eq9, hf⟩ := Option.bind_eq_some_iff.mp hf
      refine R_callV (mj := mi_X20_length) (ci := 17) (q := (RX20, TX20, 3)) (As := []) (rest := []) (T_X20_length eq9) eu8 rfl lV_X19_95 ⟨rfl, oky_X20_length⟩ (by decide) (by decide) rfl C1_0 (Nat.le_of_ble_eq_true rfl) dX19_value_25 ?_
      refine R_iconst dX19_value_28 k_iconst_1 ?_
      refine R_icle (tgt := 48) dX19_value_29 (by decide) (fun hc => ?_) (fun hc => ?_)
      · rw [if_pos hc] at hf
        refine R_iconst dX19_value_48 k_iconst_0 ?_
        refine R_istore_n (L' := [(1, .int 0), (0, va_rf x0)]) dX19_value_49 rfl (by decide) rfl ?_
        refine R_iconst dX19_value_50 k_iconst_0 ?_
        refine R_istore_n (L' := [(2, .int 0), (1, .int 0), (0, va_rf x0)]) dX19_value_51 rfl (by decide) rfl ?_
        refine R.sub [2, 1, 0] (L' := [(0, va_rf x0), (1, .int 0), (2, .int 0)]) rfl ?_
        exact f_X19_value_L52_ok  FU x0 0 0 q9.2 hf
      · rw [if_neg hc] at hf
        refine R_aload_n 0 dX19_value_32 rfl rfl ?_
        obtain ⟨t10, et10, hf⟩ := Option.bind_eq_some_iff.mp hf
        refine R_getr lg_X19_69 et10 dX19_value_33 ?_
        refine R_iconst dX19_value_36 k_iconst_0 ?_
        obtain ⟨u11, eu11, hf⟩ := Option.bind_eq_some_iff.mp hf
        obtain ⟨q12, eq12, hf⟩ := Option.bind_eq_some_iff.mp hf
        refine R_callV (mj := mi_X20_charAt) (ci := 17) (q := (RX20, TX20, 3)) (As := [.int 0]) (rest := []) (T_X20_charAt eq12) eu11 rfl lV_X19_96 ⟨rfl, oky_X20_charAt⟩ (by decide) (by decide) rfl C1_0 (Nat.le_of_ble_eq_true rfl) dX19_value_37 ?_
        refine R_bipush dX19_value_40 k_bipush_48 ?_
        refine R_icne (tgt := 48) dX19_value_42 (by decide) (fun hc => ?_) (fun hc => ?_)
        · rw [if_pos hc] at hf
          refine R_bipush dX19_value_45 k_bipush_m99 ?_
          obtain rfl := Option.some.inj hf
          exact R_iretI rfl dX19_value_47
        · rw [if_neg hc] at hf
          refine R_iconst dX19_value_48 k_iconst_0 ?_
          refine R_istore_n (L' := [(1, .int 0), (0, va_rf x0)]) dX19_value_49 rfl (by decide) rfl ?_
          refine R_iconst dX19_value_50 k_iconst_0 ?_
          refine R_istore_n (L' := [(2, .int 0), (1, .int 0), (0, va_rf x0)]) dX19_value_51 rfl (by decide) rfl ?_
          refine R.sub [2, 1, 0] (L' := [(0, va_rf x0), (1, .int 0), (2, .int 0)]) rfl ?_
          exact f_X19_value_L52_ok  FU x0 0 0 q12.2 hf
theorem lV_X19_180 : GoodIn lw_all (wsV "EdgeSums$Parser" 180 "EdgeSums$Slice" yX20_toString (ws_ yX20_toString cX20_toString 3 (some (FieldType.object "java/lang/String")))) := lw_V q2164 q1847 q3182 q169 q1849
theorem oky_X20_toString : okY yX20_toString 0 := ⟨by decide +kernel, by decide +kernel, by decide +kernel⟩
theorem lV_X19_196 : GoodIn lw_all (wsV "EdgeSums$Parser" 196 "EdgeSums$Parser" yX19_value (ws_ yX19_value cX19_value 3 (some FieldType.int))) := lw_V q2167 q2169 qs40 q168 q2170
theorem oky_X19_value : okY yX19_value 0 := ⟨by decide +kernel, by decide +kernel, by decide +kernel⟩
abbrev mi_X19_which : MI := (RX19, yX19_which, cX19_which, 7, (some FieldType.int), 10)
noncomputable def f_X19_which_B144 (r111 : Option Nat → Int32 → Int32 → Int32 → PH → Option ((Int32 ⊕ Nat) × PH)) (x0 : Option Nat) (x1 : Int32) (x2 : Int32) (x5 : Int32) (x6 : Int32) (s0 : Option Nat) (s1 : Int32) (h : PH) : Option ((Int32 ⊕ Nat) × PH) := (rcv 16 s0 h).bind (fun u1 => (f_X19_need s0 s1 h).bind (fun rv2 => match rv2 with | (.inl _, h3) => ((rcv 16 x0 h3).bind (fun u5 => (f_X19_advance x0 h3).bind (fun h6 => (gfr 16 2 x0 h6).bind (fun t7 => (rcv 17 t7 h6).bind (fun u8 => (f_X20_isDigits t7 h6).bind (fun q9 => if q9.1 = 0 then (some (.inl (x5 ||| ((1 : Int32) <<< (x6 &&& 31))), q9.2)) else (r111 x0 x1 x2 (x5 ||| ((1 : Int32) <<< (x6 &&& 31))) q9.2))))))) | (.inr a4, h3) => (some (.inr a4, h3))))
theorem f_X19_which_B144_ok {K : KT} {h0 : PH} {a0 : List Value} {q : ((Int32 ⊕ Nat) × PH)} {r111 : Option Nat → Int32 → Int32 → Int32 → PH → Option ((Int32 ⊕ Nat) × PH)} (hr111 : ∀ (y0 : Option Nat) (y1 : Int32) (y2 : Int32) (y5 : Int32) (h : PH), r111 y0 y1 y2 y5 h = some q → R K mi_X19_which h0 a0 (rsI q.1) q.2 111 [(0, va_rf y0), (1, .int y1), (2, .int y2), (5, .int y5)] [] h) (x0 : Option Nat) (x1 : Int32) (x2 : Int32) (x5 : Int32) (x6 : Int32) (s0 : Option Nat) (s1 : Int32) (h : PH) (hf : f_X19_which_B144 r111 x0 x1 x2 x5 x6 s0 s1 h = some q) : R K mi_X19_which h0 a0 (rsI q.1) q.2 144 [(0, va_rf x0), (1, .int x1), (2, .int x2), (5, .int x5), (6, .int x6)] [.int s1, va_rf s0] h := by
  unfold f_X19_which_B144 at hf
  obtain ⟨u1, eu1, hf⟩ := Option.bind_eq_some_iff.mp hf
  obtain ⟨⟨rv2, h3⟩, ev2, hf⟩ := Option.bind_eq_some_iff.mp hf
  cases rv2 with
  | inr a4 =>
    obtain rfl := Option.some.inj hf
    exact R_propV (mj := mi_X19_need) (ci := 16) (q := (RX19, TX19, 4)) (As := [.int s1]) (rest := []) (T_X19_need ev2) eu1 rfl lV_X19_84 ⟨rfl, oky_X19_need⟩ (by decide) (by decide) rfl C1_0 (Nat.le_of_ble_eq_true rfl) dX19_which_144 (by decide +kernel)
  | inl v2 =>
    dsimp only at hf
    refine R_callV (v := none) (mj := mi_X19_need) (ci := 16) (q := (RX19, TX19, 4)) (As := [.int s1]) (rest := []) (T_X19_need ev2) eu1 rfl lV_X19_84 ⟨rfl, oky_X19_need⟩ (by decide) (by decide) rfl C1_0 (Nat.le_of_ble_eq_true rfl) dX19_which_144 ?_
    refine R_iload 3 dX19_which_147 rfl ?_
    refine R_iconst dX19_which_149 k_iconst_1 ?_
    refine R_iload 4 dX19_which_150 rfl ?_
    refine R_ishl dX19_which_152 ?_
    refine R_ior dX19_which_153 ?_
    refine R_istore (L' := [(5, .int (x5 ||| ((1 : Int32) <<< (x6 &&& 31)))), (0, va_rf x0), (1, .int x1), (2, .int x2), (6, .int x6)]) dX19_which_154 (by decide) rfl ?_
    refine R_aload_n 1 dX19_which_156 rfl rfl ?_
    obtain ⟨u5, eu5, hf⟩ := Option.bind_eq_some_iff.mp hf
    obtain ⟨h6, eh6, hf⟩ := Option.bind_eq_some_iff.mp hf
    refine R_callV (mj := mi_X19_advance) (ci := 16) (q := (RX19, TX19, 4)) (As := []) (rest := []) (T_X19_advance eh6) eu5 rfl lV_X19_88 ⟨rfl, oky_X19_advance⟩ (by decide) (by decide) rfl C1_0 (Nat.le_of_ble_eq_true rfl) dX19_which_157 ?_
    refine R_aload_n 1 dX19_which_160 rfl rfl ?_
    obtain ⟨t7, et7, hf⟩ := Option.bind_eq_some_iff.mp hf
    refine R_getr lg_X19_69 et7 dX19_which_161 ?_
    obtain ⟨u8, eu8, hf⟩ := Option.bind_eq_some_iff.mp hf
    obtain ⟨q9, eq9, hf⟩ := Option.bind_eq_some_iff.mp hf
    refine R_callV (mj := mi_X20_isDigits) (ci := 17) (q := (RX20, TX20, 3)) (As := []) (rest := []) (T_X20_isDigits eq9) eu8 rfl lV_X19_91 ⟨rfl, oky_X20_isDigits⟩ (by decide) (by decide) rfl C1_0 (Nat.le_of_ble_eq_true rfl) dX19_which_164 ?_
    refine R_ifne (tgt := 111) dX19_which_167 (by decide) (fun hc => ?_) (fun hc => ?_)
    · rw [if_pos hc] at hf
      refine R_iload 0 dX19_which_170 rfl ?_
      obtain rfl := Option.some.inj hf
      exact R_iretI rfl dX19_which_172
    · rw [if_neg hc] at hf
      refine R.sub [1, 2, 3, 0] (L' := [(0, va_rf x0), (1, .int x1), (2, .int x2), (5, .int (x5 ||| ((1 : Int32) <<< (x6 &&& 31))))]) rfl ?_
      exact hr111 x0 x1 x2 (x5 ||| ((1 : Int32) <<< (x6 &&& 31))) q9.2 hf
noncomputable def f_X19_which_L111  : Nat → Option Nat → Int32 → Int32 → Int32 → PH → Option ((Int32 ⊕ Nat) × PH)
  | 0, _, _, _, _, _ => none
  | k + 1, x0, x1, x2, x5, h => (rcv 16 x0 h).bind (fun u1 => (f_X19_value x0 h).bind (fun q2 => (f_X0_isBetween q2.1 0 (x1 - 1) q2.2).bind (fun q3 => if q3.1 = 0 then (f_X19_which_B144 (f_X19_which_L111 k) x0 x1 x2 x5 q2.1 x0 0 q3.2) else ((f_X0_has x2 q2.1 q3.2).bind (fun q4 => if q4.1 = 0 then (f_X19_which_B144 (f_X19_which_L111 k) x0 x1 x2 x5 q2.1 x0 0 q4.2) else (f_X19_which_B144 (f_X19_which_L111 k) x0 x1 x2 x5 q2.1 x0 1 q4.2))))))
theorem f_X19_which_L111_ok {K : KT} {h0 : PH} {a0 : List Value} {q : ((Int32 ⊕ Nat) × PH)}  : ∀ (k : Nat) (x0 : Option Nat) (x1 : Int32) (x2 : Int32) (x5 : Int32) (h : PH), f_X19_which_L111  k x0 x1 x2 x5 h = some q → R K mi_X19_which h0 a0 (rsI q.1) q.2 111 [(0, va_rf x0), (1, .int x1), (2, .int x2), (5, .int x5)] [] h := by
  intro k
  induction k with
  | zero => intro _ _ _ _ _ hf; cases hf
  | succ k ih =>
    intro x0 x1 x2 x5 h hf
    unfold f_X19_which_L111 at hf
    refine R_aload_n 0 dX19_which_111 rfl rfl ?_
    obtain ⟨u1, eu1, hf⟩ := Option.bind_eq_some_iff.mp hf
    obtain ⟨q2, eq2, hf⟩ := Option.bind_eq_some_iff.mp hf
    refine R_callV (mj := mi_X19_value) (ci := 16) (q := (RX19, TX19, 4)) (As := []) (rest := []) (T_X19_value eq2) eu1 rfl lV_X19_196 ⟨rfl, oky_X19_value⟩ (by decide) (by decide) rfl C1_0 (Nat.le_of_ble_eq_true rfl) dX19_which_112 ?_
    refine R_istore (L' := [(6, .int q2.1), (0, va_rf x0), (1, .int x1), (2, .int x2), (5, .int x5)]) dX19_which_115 (by decide) rfl ?_
    refine R_aload_n 1 dX19_which_117 rfl rfl ?_
    refine R_iload 0 dX19_which_118 rfl ?_
    refine R_iconst dX19_which_120 k_iconst_0 ?_
    refine R_iload_n 2 dX19_which_121 rfl rfl ?_
    refine R_iconst dX19_which_122 k_iconst_1 ?_
    refine R_isub dX19_which_123 ?_
    obtain ⟨q3, eq3, hf⟩ := Option.bind_eq_some_iff.mp hf
    refine R_callSN (mj := mi_X0_isBetween) (As := [.int q2.1, .int 0, .int (x1 - 1)]) (rest := [va_rf x0]) (T_X0_isBetween eq3) (lw_meth q1011) q1814 q125 q1010 oky_X0_isBetween (by decide) (by decide) rfl (C1_r C1_0) (Nat.le_of_ble_eq_true rfl) dX19_which_124 ?_
    refine R_ifeq (tgt := 143) dX19_which_127 (by decide) (fun hc => ?_) (fun hc => ?_)
    · rw [if_pos hc] at hf
      refine R_iconst dX19_which_143 k_iconst_0 ?_
      refine R.sub [1, 2, 3, 4, 0] (L' := [(0, va_rf x0), (1, .int x1), (2, .int x2), (5, .int x5), (6, .int q2.1)]) rfl ?_
      exact f_X19_which_B144_ok ih x0 x1 x2 x5 q2.1 x0 0 q3.2 hf
    · rw [if_neg hc] at hf
      refine R_iload_n 3 dX19_which_130 rfl rfl ?_
      refine R_iload 0 dX19_which_131 rfl ?_
      obtain ⟨q4, eq4, hf⟩ := Option.bind_eq_some_iff.mp hf
      refine R_callSN (mj := mi_X0_has) (As := [.int x2, .int q2.1]) (rest := [va_rf x0]) (T_X0_has eq4) (lw_meth q326) q2171 q125 q325 oky_X0_has (by decide) (by decide) rfl (C1_r C1_0) (Nat.le_of_ble_eq_true rfl) dX19_which_133 ?_
      refine R_ifeq (tgt := 143) dX19_which_136 (by decide) (fun hc => ?_) (fun hc => ?_)
      · rw [if_pos hc] at hf
        refine R_iconst dX19_which_143 k_iconst_0 ?_
        refine R.sub [1, 2, 3, 4, 0] (L' := [(0, va_rf x0), (1, .int x1), (2, .int x2), (5, .int x5), (6, .int q2.1)]) rfl ?_
        exact f_X19_which_B144_ok ih x0 x1 x2 x5 q2.1 x0 0 q4.2 hf
      · rw [if_neg hc] at hf
        refine R_iconst dX19_which_139 k_iconst_1 ?_
        refine R_goto (tgt := 144) dX19_which_140 (by decide) ?_
        refine R.sub [1, 2, 3, 4, 0] (L' := [(0, va_rf x0), (1, .int x1), (2, .int x2), (5, .int x5), (6, .int q2.1)]) rfl ?_
        exact f_X19_which_B144_ok ih x0 x1 x2 x5 q2.1 x0 1 q4.2 hf
noncomputable def f_X19_which_B67  (x0 : Option Nat) (x1 : Int32) (x2 : Int32) (x4 : Int32) (h : PH) : Option ((Int32 ⊕ Nat) × PH) := if x4 = 0 then ((rcv 16 x0 h).bind (fun u1 => (f_X19_advance x0 h).bind (fun h2 => some (.inl 0, h2)))) else (if x4 = 1 then ((rcv 16 x0 h).bind (fun u3 => (f_X19_advance x0 h).bind (fun h4 => some (.inl x2, h4)))) else (f_X19_which_L111  FU x0 x1 x2 0 h))
theorem f_X19_which_B67_ok {K : KT} {h0 : PH} {a0 : List Value} {q : ((Int32 ⊕ Nat) × PH)}  (x0 : Option Nat) (x1 : Int32) (x2 : Int32) (x4 : Int32) (h : PH) (hf : f_X19_which_B67  x0 x1 x2 x4 h = some q) : R K mi_X19_which h0 a0 (rsI q.1) q.2 67 [(0, va_rf x0), (1, .int x1), (2, .int x2), (4, .int x4)] [] h := by
  unfold f_X19_which_B67 at hf
  refine R_iload 3 dX19_which_67 rfl ?_
  by_cases hc0 : x4 = 0
  · rw [if_pos hc0] at hf
    refine R_lsw (off := 27) (tgt := 96) dX19_which_69 rfl (by rw [hc0]; rfl) (by decide) ?_
    refine R_aload_n 0 dX19_which_96 rfl rfl ?_
    obtain ⟨u1, eu1, hf⟩ := Option.bind_eq_some_iff.mp hf
    obtain ⟨h2, eh2, hf⟩ := Option.bind_eq_some_iff.mp hf
    refine R_callV (mj := mi_X19_advance) (ci := 16) (q := (RX19, TX19, 4)) (As := []) (rest := []) (T_X19_advance eh2) eu1 rfl lV_X19_88 ⟨rfl, oky_X19_advance⟩ (by decide) (by decide) rfl C1_0 (Nat.le_of_ble_eq_true rfl) dX19_which_97 ?_
    refine R_iconst dX19_which_100 k_iconst_0 ?_
    obtain rfl := Option.some.inj hf
    exact R_iretI rfl dX19_which_101
  · rw [if_neg hc0] at hf
    by_cases hc1 : x4 = 1
    · rw [if_pos hc1] at hf
      refine R_lsw (off := 33) (tgt := 102) dX19_which_69 rfl (by rw [hc1]; rfl) (by decide) ?_
      refine R_aload_n 0 dX19_which_102 rfl rfl ?_
      obtain ⟨u3, eu3, hf⟩ := Option.bind_eq_some_iff.mp hf
      obtain ⟨h4, eh4, hf⟩ := Option.bind_eq_some_iff.mp hf
      refine R_callV (mj := mi_X19_advance) (ci := 16) (q := (RX19, TX19, 4)) (As := []) (rest := []) (T_X19_advance eh4) eu3 rfl lV_X19_88 ⟨rfl, oky_X19_advance⟩ (by decide) (by decide) rfl C1_0 (Nat.le_of_ble_eq_true rfl) dX19_which_103 ?_
      refine R_iload_n 2 dX19_which_106 rfl rfl ?_
      obtain rfl := Option.some.inj hf
      exact R_iretI rfl dX19_which_107
    · rw [if_neg hc1] at hf
      refine R_lsw (off := 39) (tgt := 108) dX19_which_69 rfl (by simp [Op.lookupswitch.offset, List.find?, (i32_ne hc0 : x4.toInt ≠ 0), (Ne.symm (i32_ne hc0) : (0 : Int) ≠ x4.toInt), (i32_ne hc1 : x4.toInt ≠ 1), (Ne.symm (i32_ne hc1) : (1 : Int) ≠ x4.toInt)]) (by decide) ?_
      refine R_iconst dX19_which_108 k_iconst_0 ?_
      refine R_istore (L' := [(5, .int 0), (0, va_rf x0), (1, .int x1), (2, .int x2), (4, .int x4)]) dX19_which_109 (by decide) rfl ?_
      refine R.sub [1, 2, 3, 0] (L' := [(0, va_rf x0), (1, .int x1), (2, .int x2), (5, .int 0)]) rfl ?_
      exact f_X19_which_L111_ok  FU x0 x1 x2 0 h hf
noncomputable def f_X19_which (x0 : Option Nat) (x1 : Int32) (x2 : Int32) (h : PH) : Option ((Int32 ⊕ Nat) × PH) := (gfr 16 2 x0 h).bind (fun t1 => (rcv 17 t1 h).bind (fun u2 => (f_X20_toString t1 h).bind (fun q3 => (rcv 32 q3.1 q3.2).bind (fun u4 => (f_J5_hashCode q3.1 q3.2).bind (fun q5 => if q5.1 = 96673 then ((rcv 32 q3.1 q5.2).bind (fun u6 => (f_J5_equals q3.1 (hk q5.2 117) q5.2).bind (fun q7 => if q7.1 = 0 then (f_X19_which_B67  x0 x1 x2 (-1) q7.2) else (f_X19_which_B67  x0 x1 x2 1 q7.2)))) else (if q5.1 = 3387192 then ((rcv 32 q3.1 q5.2).bind (fun u8 => (f_J5_equals q3.1 (hk q5.2 116) q5.2).bind (fun q9 => if q9.1 = 0 then (f_X19_which_B67  x0 x1 x2 (-1) q9.2) else (f_X19_which_B67  x0 x1 x2 0 q9.2)))) else (f_X19_which_B67  x0 x1 x2 (-1) q5.2)))))))
theorem T_X19_which {K : KT} {x0 : Option Nat} {x1 : Int32} {x2 : Int32} {h : PH} {q : ((Int32 ⊕ Nat) × PH)} (hf : f_X19_which x0 x1 x2 h = some q) : T K mi_X19_which [va_rf x0, .int x1, .int x2] h (rsI q.1) q.2 := by
  unfold f_X19_which at hf
  refine T_of (by decide +kernel) rfl (C1_r (C1_i (C1_i C1_0))) (Nat.le_of_ble_eq_true rfl) ?_
  show R K mi_X19_which h [va_rf x0, .int x1, .int x2] _ _ 0 [(0, va_rf x0), (1, .int x1), (2, .int x2)] [] h
  refine R_aload_n 0 dX19_which_0 rfl rfl ?_
  obtain ⟨t1, et1, hf⟩ := Option.bind_eq_some_iff.mp hf
  refine R_getr lg_X19_69 et1 dX19_which_1 ?_
  obtain ⟨u2, eu2, hf⟩ := Option.bind_eq_some_iff.mp hf
  obtain ⟨q3, eq3, hf⟩ := Option.bind_eq_some_iff.mp hf
  refine R_callV (mj := mi_X20_toString) (ci := 17) (q := (RX20, TX20, 3)) (As := []) (rest := []) (T_X20_toString eq3) eu2 rfl lV_X19_180 ⟨rfl, oky_X20_toString⟩ (by decide) (by decide) rfl C1_0 (Nat.le_of_ble_eq_true rfl) dX19_which_4 ?_
  refine R_astore_n (L' := [(3, va_rf q3.1), (0, va_rf x0), (1, .int x1), (2, .int x2)]) dX19_which_7 rfl (by decide) rfl ?_
  refine R_iconst dX19_which_8 k_iconst_m1 ?_
  refine R_istore (L' := [(4, .int (-1)), (3, va_rf q3.1), (0, va_rf x0), (1, .int x1), (2, .int x2)]) dX19_which_9 (by decide) rfl ?_
  refine R_aload_n 1 dX19_which_11 rfl rfl ?_
  obtain ⟨u4, eu4, hf⟩ := Option.bind_eq_some_iff.mp hf
  obtain ⟨q5, eq5, hf⟩ := Option.bind_eq_some_iff.mp hf
  refine R_callV (mj := mi_J5_hashCode) (ci := 32) (q := (RJ5, TJ5, 4)) (As := []) (rest := []) (T_J5_hashCode eq5) eu4 rfl lV_X19_184 ⟨rfl, oky_J5_hashCode⟩ (by decide) (by decide) rfl C1_0 (Nat.le_of_ble_eq_true rfl) dX19_which_12 ?_
  by_cases hc0 : q5.1 = 96673
  · rw [if_pos hc0] at hf
    refine R_lsw (off := 40) (tgt := 55) dX19_which_15 rfl (by rw [hc0]; rfl) (by decide) ?_
    refine R_aload_n 1 dX19_which_55 rfl rfl ?_
    refine R_ldcS (j := 17) rfl dX19_which_56 ?_
    obtain ⟨u6, eu6, hf⟩ := Option.bind_eq_some_iff.mp hf
    obtain ⟨q7, eq7, hf⟩ := Option.bind_eq_some_iff.mp hf
    refine R_callV (mj := mi_J5_equals) (ci := 32) (q := (RJ5, TJ5, 4)) (As := [va_rf (hk q5.2 117)]) (rest := []) (T_J5_equals eq7) eu6 rfl lV_X19_191 ⟨rfl, oky_J5_equals⟩ (by decide) (by decide) rfl C1_0 (Nat.le_of_ble_eq_true rfl) dX19_which_58 ?_
    refine R_ifeq (tgt := 67) dX19_which_61 (by decide) (fun hc => ?_) (fun hc => ?_)
    · rw [if_pos hc] at hf
      refine R.sub [2, 3, 4, 0] (L' := [(0, va_rf x0), (1, .int x1), (2, .int x2), (4, .int (-1))]) rfl ?_
      exact f_X19_which_B67_ok  x0 x1 x2 (-1) q7.2 hf
    · rw [if_neg hc] at hf
      refine R_iconst dX19_which_64 k_iconst_1 ?_
      refine R_istore (L' := [(4, .int 1), (3, va_rf q3.1), (0, va_rf x0), (1, .int x1), (2, .int x2)]) dX19_which_65 (by decide) rfl ?_
      refine R.sub [2, 3, 4, 0] (L' := [(0, va_rf x0), (1, .int x1), (2, .int x2), (4, .int 1)]) rfl ?_
      exact f_X19_which_B67_ok  x0 x1 x2 1 q7.2 hf
  · rw [if_neg hc0] at hf
    by_cases hc1 : q5.1 = 3387192
    · rw [if_pos hc1] at hf
      refine R_lsw (off := 25) (tgt := 40) dX19_which_15 rfl (by rw [hc1]; rfl) (by decide) ?_
      refine R_aload_n 1 dX19_which_40 rfl rfl ?_
      refine R_ldcS (j := 16) rfl dX19_which_41 ?_
      obtain ⟨u8, eu8, hf⟩ := Option.bind_eq_some_iff.mp hf
      obtain ⟨q9, eq9, hf⟩ := Option.bind_eq_some_iff.mp hf
      refine R_callV (mj := mi_J5_equals) (ci := 32) (q := (RJ5, TJ5, 4)) (As := [va_rf (hk q5.2 116)]) (rest := []) (T_J5_equals eq9) eu8 rfl lV_X19_191 ⟨rfl, oky_J5_equals⟩ (by decide) (by decide) rfl C1_0 (Nat.le_of_ble_eq_true rfl) dX19_which_43 ?_
      refine R_ifeq (tgt := 67) dX19_which_46 (by decide) (fun hc => ?_) (fun hc => ?_)
      · rw [if_pos hc] at hf
        refine R.sub [2, 3, 4, 0] (L' := [(0, va_rf x0), (1, .int x1), (2, .int x2), (4, .int (-1))]) rfl ?_
        exact f_X19_which_B67_ok  x0 x1 x2 (-1) q9.2 hf
      · rw [if_neg hc] at hf
        refine R_iconst dX19_which_49 k_iconst_0 ?_
        refine R_istore (L' := [(4, .int 0), (3, va_rf q3.1), (0, va_rf x0), (1, .int x1), (2, .int x2)]) dX19_which_50 (by decide) rfl ?_
        refine R_goto (tgt := 67) dX19_which_52 (by decide) ?_
        refine R.sub [2, 3, 4, 0] (L' := [(0, va_rf x0), (1, .int x1), (2, .int x2), (4, .int 0)]) rfl ?_
        exact f_X19_which_B67_ok  x0 x1 x2 0 q9.2 hf
    · rw [if_neg hc1] at hf
      refine R_lsw (off := 52) (tgt := 67) dX19_which_15 rfl (by simp [Op.lookupswitch.offset, List.find?, (i32_ne hc0 : q5.1.toInt ≠ 96673), (Ne.symm (i32_ne hc0) : (96673 : Int) ≠ q5.1.toInt), (i32_ne hc1 : q5.1.toInt ≠ 3387192), (Ne.symm (i32_ne hc1) : (3387192 : Int) ≠ q5.1.toInt)]) (by decide) ?_
      refine R.sub [2, 3, 4, 0] (L' := [(0, va_rf x0), (1, .int x1), (2, .int x2), (4, .int (-1))]) rfl ?_
      exact f_X19_which_B67_ok  x0 x1 x2 (-1) q5.2 hf
theorem lV_X19_73 : GoodIn lw_all (wsV "EdgeSums$Parser" 73 "EdgeSums$Slice" yX20_begins (ws_ yX20_begins cX20_begins 3 (some FieldType.boolean))) := lw_V q2128 q2060 q2061 q169 q2062
abbrev mi_X19_isStop : MI := (RX19, yX19_isStop, cX19_isStop, 1, (some FieldType.boolean), 7)
noncomputable def f_X19_isStop (x0 : Option Nat) (h : PH) : Option (Int32 × PH) := (gfr 16 2 x0 h).bind (fun t1 => (rcv 17 t1 h).bind (fun u2 => (f_X20_begins t1 59 59 h).bind (fun q3 => (gb q3.1).bind (fun u4 => some (q3.1, q3.2)))))
theorem T_X19_isStop {K : KT} {x0 : Option Nat} {h : PH} {q : (Int32 × PH)} (hf : f_X19_isStop x0 h = some q) : T K mi_X19_isStop [va_rf x0] h (.inl (some (.int q.1))) q.2 := by
  unfold f_X19_isStop at hf
  refine T_of (by decide +kernel) rfl (C1_r C1_0) (Nat.le_of_ble_eq_true rfl) ?_
  show R K mi_X19_isStop h [va_rf x0] _ _ 0 [(0, va_rf x0)] [] h
  refine R_aload_n 0 dX19_isStop_0 rfl rfl ?_
  obtain ⟨t1, et1, hf⟩ := Option.bind_eq_some_iff.mp hf
  refine R_getr lg_X19_69 et1 dX19_isStop_1 ?_
  refine R_bipush dX19_isStop_4 k_bipush_59 ?_
  refine R_bipush dX19_isStop_6 k_bipush_59 ?_
  obtain ⟨u2, eu2, hf⟩ := Option.bind_eq_some_iff.mp hf
  obtain ⟨q3, eq3, hf⟩ := Option.bind_eq_some_iff.mp hf
  refine R_callV (mj := mi_X20_begins) (ci := 17) (q := (RX20, TX20, 3)) (As := [.int 59, .int 59]) (rest := []) (T_X20_begins eq3) eu2 rfl lV_X19_73 ⟨rfl, oky_X20_begins⟩ (by decide) (by decide) rfl C1_0 (Nat.le_of_ble_eq_true rfl) dX19_isStop_8 ?_
  obtain ⟨u4, eu4, hf⟩ := Option.bind_eq_some_iff.mp hf
  obtain rfl := Option.some.inj hf
  exact R_iretZ eu4 rfl dX19_isStop_11
theorem lg_X19_25 : LG "EdgeSums$Parser" 25 16 0 := ⟨_, _, _, ck_16, by decide, Or.inl q1773⟩
theorem lg_X19_151 : LG "EdgeSums$Parser" 151 1 0 := ⟨_, _, _, ck_1, by decide, Or.inr (Or.inl ⟨_, q788⟩)⟩
theorem lg_X19_155 : LG "EdgeSums$Parser" 155 2 0 := ⟨_, _, _, ck_2, by decide, Or.inr (Or.inl ⟨_, q760⟩)⟩
theorem lV_X19_202 : GoodIn lw_all (wsV "EdgeSums$Parser" 202 "EdgeSums$Page" yX3_places (ws_ yX3_places cX3_places 2 (some FieldType.int))) := lw_V q2158 q1256 q1257 q128 q1258
theorem lV_X19_208 : GoodIn lw_all (wsV "EdgeSums$Parser" 208 "EdgeSums$Parser" yX19_which (ws_ yX19_which cX19_which 7 (some FieldType.int))) := lw_V q2160 q2162 qs39 q168 q2163
theorem oky_X19_which : okY yX19_which 2 := ⟨by decide +kernel, by decide +kernel, by decide +kernel⟩
theorem lV_X19_211 : GoodIn lw_all (wsV "EdgeSums$Parser" 211 "EdgeSums$Page" yX3_setClue (ws_ yX3_setClue cX3_setClue 4 none)) := lw_V q2172 q1276 q1277 q128 q1278
theorem lV_X19_205 : GoodIn lw_all (wsV "EdgeSums$Parser" 205 "EdgeSums$Page" yX3_canBeClue (ws_ yX3_canBeClue cX3_canBeClue 3 (some FieldType.boolean))) := lw_V q2159 q1264 q1265 q128 q1266
abbrev mi_X19_clues : MI := (RX19, yX19_clues, cX19_clues, 6, none, 11)
noncomputable def f_X19_clues_L68  : Nat → Int32 → Option Nat → Int32 → Int32 → PH → Option ((Unit ⊕ Nat) × PH)
  | 0, _, _, _, _, _ => none
  | k + 1, x1, x2, x4, x5, h => (rcv 3 x2 h).bind (fun u1 => (f_X3_places x2 x1 h).bind (fun q2 => if q2.1 ≤ x5 then (some (.inl (), q2.2)) else ((f_X0_has x4 x5 q2.2).bind (fun q3 => (rcv 3 x2 q3.2).bind (fun u4 => (f_X3_setClue x2 x1 x5 q3.1 q3.2).bind (fun h5 => (f_X19_clues_L68 k) x1 x2 x4 (x5 + 1) h5))))))
theorem f_X19_clues_L68_ok {K : KT} {h0 : PH} {a0 : List Value} {q : ((Unit ⊕ Nat) × PH)}  : ∀ (k : Nat) (x1 : Int32) (x2 : Option Nat) (x4 : Int32) (x5 : Int32) (h : PH), f_X19_clues_L68  k x1 x2 x4 x5 h = some q → R K mi_X19_clues h0 a0 (rsV q.1) q.2 68 [(1, .int x1), (2, va_rf x2), (4, .int x4), (5, .int x5)] [] h := by
  intro k
  induction k with
  | zero => intro _ _ _ _ _ hf; cases hf
  | succ k ih =>
    intro x1 x2 x4 x5 h hf
    unfold f_X19_clues_L68 at hf
    refine R_iload 3 dX19_clues_68 rfl ?_
    refine R_aload_n 1 dX19_clues_70 rfl rfl ?_
    refine R_iload_n 0 dX19_clues_71 rfl rfl ?_
    obtain ⟨u1, eu1, hf⟩ := Option.bind_eq_some_iff.mp hf
    obtain ⟨q2, eq2, hf⟩ := Option.bind_eq_some_iff.mp hf
    refine R_callV (mj := mi_X3_places) (ci := 3) (q := (RX3, TX3, 7)) (As := [.int x1]) (rest := [.int x5]) (T_X3_places eq2) eu1 rfl lV_X19_202 ⟨rfl, oky_X3_places⟩ (by decide) (by decide) rfl (C1_i C1_0) (Nat.le_of_ble_eq_true rfl) dX19_clues_72 ?_
    refine R_icge (tgt := 98) dX19_clues_75 (by decide) (fun hc => ?_) (fun hc => ?_)
    · rw [if_pos hc] at hf
      obtain rfl := Option.some.inj hf
      exact R_return rfl dX19_clues_98
    · rw [if_neg hc] at hf
      refine R_aload_n 1 dX19_clues_78 rfl rfl ?_
      refine R_iload_n 0 dX19_clues_79 rfl rfl ?_
      refine R_iload 3 dX19_clues_80 rfl ?_
      refine R_iload 2 dX19_clues_82 rfl ?_
      refine R_iload 3 dX19_clues_84 rfl ?_
      obtain ⟨q3, eq3, hf⟩ := Option.bind_eq_some_iff.mp hf
      refine R_callSN (mj := mi_X0_has) (As := [.int x4, .int x5]) (rest := [.int x5, .int x1, va_rf x2]) (T_X0_has eq3) (lw_meth q326) q2171 q125 q325 oky_X0_has (by decide) (by decide) rfl (C1_i (C1_i (C1_r C1_0))) (Nat.le_of_ble_eq_true rfl) dX19_clues_86 ?_
      obtain ⟨u4, eu4, hf⟩ := Option.bind_eq_some_iff.mp hf
      obtain ⟨h5, eh5, hf⟩ := Option.bind_eq_some_iff.mp hf
      refine R_callV (mj := mi_X3_setClue) (ci := 3) (q := (RX3, TX3, 7)) (As := [.int x1, .int x5, .int q3.1]) (rest := []) (T_X3_setClue eh5) eu4 rfl lV_X19_211 ⟨rfl, oky_X3_setClue⟩ (by decide) (by decide) rfl C1_0 (Nat.le_of_ble_eq_true rfl) dX19_clues_89 ?_
      refine R_iinc (L' := [(5, .int (x5 + 1)), (1, .int x1), (2, va_rf x2), (4, .int x4)]) 3 dX19_clues_92 rfl (k_inc_1 _) (by decide) rfl ?_
      refine R_goto (tgt := 68) dX19_clues_95 (by decide) ?_
      refine R.sub [1, 2, 3, 0] (L' := [(1, .int x1), (2, va_rf x2), (4, .int x4), (5, .int (x5 + 1))]) rfl ?_
      exact ih x1 x2 x4 (x5 + 1) h5 hf
noncomputable def f_X19_clues_L16  : Nat → Option Nat → Int32 → Option Nat → Int32 → Int32 → PH → Option ((Unit ⊕ Nat) × PH)
  | 0, _, _, _, _, _, _ => none
  | k + 1, x0, x1, x2, x3, x4, h => (rcv 3 x2 h).bind (fun u1 => (f_X3_places x2 x1 h).bind (fun q2 => if q2.1 ≤ x4 then ((rcv 3 x2 q2.2).bind (fun u3 => (f_X3_places x2 x1 q2.2).bind (fun q4 => (rcv 16 x0 q4.2).bind (fun u5 => (f_X19_which x0 q4.1 x3 q4.2).bind (fun rv6 => match rv6 with | (.inl v6, h7) => (f_X19_clues_L68  FU x1 x2 v6 0 h7) | (.inr a8, h7) => (some (.inr a8, h7))))))) else ((rcv 3 x2 q2.2).bind (fun u9 => (f_X3_canBeClue x2 x1 x4 q2.2).bind (fun q10 => if q10.1 = 0 then ((f_X19_clues_L16 k) x0 x1 x2 (x3 ||| 0) (x4 + 1) q10.2) else ((f_X19_clues_L16 k) x0 x1 x2 (x3 ||| ((1 : Int32) <<< (x4 &&& 31))) (x4 + 1) q10.2))))))
theorem f_X19_clues_L16_ok {K : KT} {h0 : PH} {a0 : List Value} {q : ((Unit ⊕ Nat) × PH)}  : ∀ (k : Nat) (x0 : Option Nat) (x1 : Int32) (x2 : Option Nat) (x3 : Int32) (x4 : Int32) (h : PH), f_X19_clues_L16  k x0 x1 x2 x3 x4 h = some q → R K mi_X19_clues h0 a0 (rsV q.1) q.2 16 [(0, va_rf x0), (1, .int x1), (2, va_rf x2), (3, .int x3), (4, .int x4)] [] h := by
  intro k
  induction k with
  | zero => intro _ _ _ _ _ _ hf; cases hf
  | succ k ih =>
    intro x0 x1 x2 x3 x4 h hf
    unfold f_X19_clues_L16 at hf
    refine R_iload 4 dX19_clues_16 rfl ?_
    refine R_aload_n 2 dX19_clues_18 rfl rfl ?_
    refine R_iload_n 1 dX19_clues_19 rfl rfl ?_
    obtain ⟨u1, eu1, hf⟩ := Option.bind_eq_some_iff.mp hf
    obtain ⟨q2, eq2, hf⟩ := Option.bind_eq_some_iff.mp hf
    refine R_callV (mj := mi_X3_places) (ci := 3) (q := (RX3, TX3, 7)) (As := [.int x1]) (rest := [.int x4]) (T_X3_places eq2) eu1 rfl lV_X19_202 ⟨rfl, oky_X3_places⟩ (by decide) (by decide) rfl (C1_i C1_0) (Nat.le_of_ble_eq_true rfl) dX19_clues_20 ?_
    refine R_icge (tgt := 53) dX19_clues_23 (by decide) (fun hc => ?_) (fun hc => ?_)
    · rw [if_pos hc] at hf
      refine R_aload_n 0 dX19_clues_53 rfl rfl ?_
      refine R_aload_n 2 dX19_clues_54 rfl rfl ?_
      refine R_iload_n 1 dX19_clues_55 rfl rfl ?_
      obtain ⟨u3, eu3, hf⟩ := Option.bind_eq_some_iff.mp hf
      obtain ⟨q4, eq4, hf⟩ := Option.bind_eq_some_iff.mp hf
      refine R_callV (mj := mi_X3_places) (ci := 3) (q := (RX3, TX3, 7)) (As := [.int x1]) (rest := [va_rf x0]) (T_X3_places eq4) eu3 rfl lV_X19_202 ⟨rfl, oky_X3_places⟩ (by decide) (by decide) rfl (C1_r C1_0) (Nat.le_of_ble_eq_true rfl) dX19_clues_56 ?_
      refine R_iload_n 3 dX19_clues_59 rfl rfl ?_
      obtain ⟨u5, eu5, hf⟩ := Option.bind_eq_some_iff.mp hf
      obtain ⟨⟨rv6, h7⟩, ev6, hf⟩ := Option.bind_eq_some_iff.mp hf
      cases rv6 with
      | inr a8 =>
        obtain rfl := Option.some.inj hf
        exact R_propV (mj := mi_X19_which) (ci := 16) (q := (RX19, TX19, 4)) (As := [.int q4.1, .int x3]) (rest := []) (T_X19_which ev6) eu5 rfl lV_X19_208 ⟨rfl, oky_X19_which⟩ (by decide) (by decide) rfl C1_0 (Nat.le_of_ble_eq_true rfl) dX19_clues_60 (by decide +kernel)
      | inl v6 =>
        dsimp only at hf
        refine R_callV (v := some (.int v6)) (mj := mi_X19_which) (ci := 16) (q := (RX19, TX19, 4)) (As := [.int q4.1, .int x3]) (rest := []) (T_X19_which ev6) eu5 rfl lV_X19_208 ⟨rfl, oky_X19_which⟩ (by decide) (by decide) rfl C1_0 (Nat.le_of_ble_eq_true rfl) dX19_clues_60 ?_
        refine R_istore (L' := [(4, .int v6), (0, va_rf x0), (1, .int x1), (2, va_rf x2), (3, .int x3)]) dX19_clues_63 (by decide) rfl ?_
        refine R_iconst dX19_clues_65 k_iconst_0 ?_
        refine R_istore (L' := [(5, .int 0), (4, .int v6), (0, va_rf x0), (1, .int x1), (2, va_rf x2), (3, .int x3)]) dX19_clues_66 (by decide) rfl ?_
        refine R.sub [3, 4, 1, 0] (L' := [(1, .int x1), (2, va_rf x2), (4, .int v6), (5, .int 0)]) rfl ?_
        exact f_X19_clues_L68_ok  FU x1 x2 v6 0 h7 hf
    · rw [if_neg hc] at hf
      refine R_iload_n 3 dX19_clues_26 rfl rfl ?_
      refine R_aload_n 2 dX19_clues_27 rfl rfl ?_
      refine R_iload_n 1 dX19_clues_28 rfl rfl ?_
      refine R_iload 4 dX19_clues_29 rfl ?_
      obtain ⟨u9, eu9, hf⟩ := Option.bind_eq_some_iff.mp hf
      obtain ⟨q10, eq10, hf⟩ := Option.bind_eq_some_iff.mp hf
      refine R_callV (mj := mi_X3_canBeClue) (ci := 3) (q := (RX3, TX3, 7)) (As := [.int x1, .int x4]) (rest := [.int x3]) (T_X3_canBeClue eq10) eu9 rfl lV_X19_205 ⟨rfl, oky_X3_canBeClue⟩ (by decide) (by decide) rfl (C1_i C1_0) (Nat.le_of_ble_eq_true rfl) dX19_clues_31 ?_
      refine R_ifeq (tgt := 44) dX19_clues_34 (by decide) (fun hc => ?_) (fun hc => ?_)
      · rw [if_pos hc] at hf
        refine R_iconst dX19_clues_44 k_iconst_0 ?_
        refine R_ior dX19_clues_45 ?_
        refine R_istore_n (L' := [(3, .int (x3 ||| 0)), (0, va_rf x0), (1, .int x1), (2, va_rf x2), (4, .int x4)]) dX19_clues_46 rfl (by decide) rfl ?_
        refine R_iinc (L' := [(4, .int (x4 + 1)), (3, .int (x3 ||| 0)), (0, va_rf x0), (1, .int x1), (2, va_rf x2)]) 4 dX19_clues_47 rfl (k_inc_1 _) (by decide) rfl ?_
        refine R_goto (tgt := 16) dX19_clues_50 (by decide) ?_
        refine R.sub [2, 3, 4, 1, 0] (L' := [(0, va_rf x0), (1, .int x1), (2, va_rf x2), (3, .int (x3 ||| 0)), (4, .int (x4 + 1))]) rfl ?_
        exact ih x0 x1 x2 (x3 ||| 0) (x4 + 1) q10.2 hf
      · rw [if_neg hc] at hf
        refine R_iconst dX19_clues_37 k_iconst_1 ?_
        refine R_iload 4 dX19_clues_38 rfl ?_
        refine R_ishl dX19_clues_40 ?_
        refine R_goto (tgt := 45) dX19_clues_41 (by decide) ?_
        refine R_ior dX19_clues_45 ?_
        refine R_istore_n (L' := [(3, .int (x3 ||| ((1 : Int32) <<< (x4 &&& 31)))), (0, va_rf x0), (1, .int x1), (2, va_rf x2), (4, .int x4)]) dX19_clues_46 rfl (by decide) rfl ?_
        refine R_iinc (L' := [(4, .int (x4 + 1)), (3, .int (x3 ||| ((1 : Int32) <<< (x4 &&& 31)))), (0, va_rf x0), (1, .int x1), (2, va_rf x2)]) 4 dX19_clues_47 rfl (k_inc_1 _) (by decide) rfl ?_
        refine R_goto (tgt := 16) dX19_clues_50 (by decide) ?_
        refine R.sub [2, 3, 4, 1, 0] (L' := [(0, va_rf x0), (1, .int x1), (2, va_rf x2), (3, .int (x3 ||| ((1 : Int32) <<< (x4 &&& 31)))), (4, .int (x4 + 1))]) rfl ?_
        exact ih x0 x1 x2 (x3 ||| ((1 : Int32) <<< (x4 &&& 31))) (x4 + 1) q10.2 hf
noncomputable def f_X19_clues (x0 : Option Nat) (x1 : Int32) (h : PH) : Option ((Unit ⊕ Nat) × PH) := (gfr 16 0 x0 h).bind (fun t1 => (gfr 1 0 t1 h).bind (fun t2 => (gfr 2 0 t2 h).bind (fun t3 => f_X19_clues_L16  FU x0 x1 t3 0 0 h)))
theorem T_X19_clues {K : KT} {x0 : Option Nat} {x1 : Int32} {h : PH} {q : ((Unit ⊕ Nat) × PH)} (hf : f_X19_clues x0 x1 h = some q) : T K mi_X19_clues [va_rf x0, .int x1] h (rsV q.1) q.2 := by
  unfold f_X19_clues at hf
  refine T_of (by decide +kernel) rfl (C1_r (C1_i C1_0)) (Nat.le_of_ble_eq_true rfl) ?_
  show R K mi_X19_clues h [va_rf x0, .int x1] _ _ 0 [(0, va_rf x0), (1, .int x1)] [] h
  refine R_aload_n 0 dX19_clues_0 rfl rfl ?_
  obtain ⟨t1, et1, hf⟩ := Option.bind_eq_some_iff.mp hf
  refine R_getr lg_X19_25 et1 dX19_clues_1 ?_
  obtain ⟨t2, et2, hf⟩ := Option.bind_eq_some_iff.mp hf
  refine R_getr lg_X19_151 et2 dX19_clues_4 ?_
  obtain ⟨t3, et3, hf⟩ := Option.bind_eq_some_iff.mp hf
  refine R_getr lg_X19_155 et3 dX19_clues_7 ?_
  refine R_astore_n (L' := [(2, va_rf t3), (0, va_rf x0), (1, .int x1)]) dX19_clues_10 rfl (by decide) rfl ?_
  refine R_iconst dX19_clues_11 k_iconst_0 ?_
  refine R_istore_n (L' := [(3, .int 0), (2, va_rf t3), (0, va_rf x0), (1, .int x1)]) dX19_clues_12 rfl (by decide) rfl ?_
  refine R_iconst dX19_clues_13 k_iconst_0 ?_
  refine R_istore (L' := [(4, .int 0), (3, .int 0), (2, va_rf t3), (0, va_rf x0), (1, .int x1)]) dX19_clues_14 (by decide) rfl ?_
  refine R.sub [3, 4, 2, 1, 0] (L' := [(0, va_rf x0), (1, .int x1), (2, va_rf t3), (3, .int 0), (4, .int 0)]) rfl ?_
  exact f_X19_clues_L16_ok  FU x0 x1 t3 0 0 h hf
theorem lg_X19_164 : LG "EdgeSums$Parser" 164 3 0 := ⟨_, _, _, ck_3, by decide, Or.inr (Or.inl ⟨_, q686⟩)⟩
theorem fp_X19_155 {mi : MI} (ho : mi.own = "EdgeSums$Parser") : FP mi 155 2 0 (.object "EdgeSums$Page") := ⟨_, _, _, ck_2, by decide, by decide +kernel, Or.inl ⟨rfl, by rw [ho]; exact Or.inr (Or.inl ⟨_, q760⟩)⟩⟩
theorem lg_X19_167 : LG "EdgeSums$Parser" 167 3 1 := ⟨_, _, _, ck_3, by decide, Or.inr (Or.inl ⟨_, q689⟩)⟩
theorem lV_X19_177 : GoodIn lw_all (wsV "EdgeSums$Parser" 177 "EdgeSums$Page" yX3_write (ws_ yX3_write cX3_write 3 none)) := lw_V q2153 q1183 q1184 q128 q1185
theorem lV_X19_170 : GoodIn lw_all (wsV "EdgeSums$Parser" 170 "EdgeSums$Page" yX3_isNumber (ws_ yX3_isNumber cX3_isNumber 3 (some FieldType.boolean))) := lw_V q2151 q1221 q1222 q128 q1223
theorem lV_X19_174 : GoodIn lw_all (wsV "EdgeSums$Parser" 174 "EdgeSums$Page" yX3_hasElsewhere (ws_ yX3_hasElsewhere cX3_hasElsewhere 8 (some FieldType.boolean))) := lw_V q2152 q1226 q1227 q128 q1228
abbrev mi_X19_answer : MI := (RX19, yX19_answer, cX19_answer, 6, none, 9)
noncomputable def f_X19_answer_B127 (r20 : Option Nat → Option Nat → Int32 → PH → Option ((Unit ⊕ Nat) × PH)) (r63 : Option Nat → Option Nat → Int32 → Int32 → PH → Option ((Unit ⊕ Nat) × PH)) (x0 : Option Nat) (x1 : Option Nat) (x2 : Int32) (x3 : Int32) (x4 : Int32) (x5 : Int32) (s0 : Option Nat) (s1 : Int32) (h : PH) : Option ((Unit ⊕ Nat) × PH) := (rcv 16 s0 h).bind (fun u1 => (f_X19_need s0 s1 h).bind (fun rv2 => match rv2 with | (.inl _, h3) => ((rcv 3 x1 h3).bind (fun u5 => (f_X3_write x1 x4 x5 h3).bind (fun h6 => r63 x0 x1 x2 (x3 + 1) h6))) | (.inr a4, h3) => (some (.inr a4, h3))))
theorem f_X19_answer_B127_ok {K : KT} {h0 : PH} {a0 : List Value} {q : ((Unit ⊕ Nat) × PH)} {r20 : Option Nat → Option Nat → Int32 → PH → Option ((Unit ⊕ Nat) × PH)} (hr20 : ∀ (y0 : Option Nat) (y1 : Option Nat) (y2 : Int32) (h : PH), r20 y0 y1 y2 h = some q → R K mi_X19_answer h0 a0 (rsV q.1) q.2 20 [(0, va_rf y0), (1, va_rf y1), (2, .int y2)] [] h) {r63 : Option Nat → Option Nat → Int32 → Int32 → PH → Option ((Unit ⊕ Nat) × PH)} (hr63 : ∀ (y0 : Option Nat) (y1 : Option Nat) (y2 : Int32) (y3 : Int32) (h : PH), r63 y0 y1 y2 y3 h = some q → R K mi_X19_answer h0 a0 (rsV q.1) q.2 63 [(0, va_rf y0), (1, va_rf y1), (2, .int y2), (3, .int y3)] [] h) (x0 : Option Nat) (x1 : Option Nat) (x2 : Int32) (x3 : Int32) (x4 : Int32) (x5 : Int32) (s0 : Option Nat) (s1 : Int32) (h : PH) (hf : f_X19_answer_B127 r20 r63 x0 x1 x2 x3 x4 x5 s0 s1 h = some q) : R K mi_X19_answer h0 a0 (rsV q.1) q.2 127 [(0, va_rf x0), (1, va_rf x1), (2, .int x2), (3, .int x3), (4, .int x4), (5, .int x5)] [.int s1, va_rf s0] h := by
  unfold f_X19_answer_B127 at hf
  obtain ⟨u1, eu1, hf⟩ := Option.bind_eq_some_iff.mp hf
  obtain ⟨⟨rv2, h3⟩, ev2, hf⟩ := Option.bind_eq_some_iff.mp hf
  cases rv2 with
  | inr a4 =>
    obtain rfl := Option.some.inj hf
    exact R_propV (mj := mi_X19_need) (ci := 16) (q := (RX19, TX19, 4)) (As := [.int s1]) (rest := []) (T_X19_need ev2) eu1 rfl lV_X19_84 ⟨rfl, oky_X19_need⟩ (by decide) (by decide) rfl C1_0 (Nat.le_of_ble_eq_true rfl) dX19_answer_127 (by decide +kernel)
  | inl v2 =>
    dsimp only at hf
    refine R_callV (v := none) (mj := mi_X19_need) (ci := 16) (q := (RX19, TX19, 4)) (As := [.int s1]) (rest := []) (T_X19_need ev2) eu1 rfl lV_X19_84 ⟨rfl, oky_X19_need⟩ (by decide) (by decide) rfl C1_0 (Nat.le_of_ble_eq_true rfl) dX19_answer_127 ?_
    refine R_aload_n 1 dX19_answer_130 rfl rfl ?_
    refine R_iload 4 dX19_answer_131 rfl ?_
    refine R_iload 5 dX19_answer_133 rfl ?_
    obtain ⟨u5, eu5, hf⟩ := Option.bind_eq_some_iff.mp hf
    obtain ⟨h6, eh6, hf⟩ := Option.bind_eq_some_iff.mp hf
    refine R_callV (mj := mi_X3_write) (ci := 3) (q := (RX3, TX3, 7)) (As := [.int x4, .int x5]) (rest := []) (T_X3_write eh6) eu5 rfl lV_X19_177 ⟨rfl, oky_X3_write⟩ (by decide) (by decide) rfl C1_0 (Nat.le_of_ble_eq_true rfl) dX19_answer_135 ?_
    refine R_iinc (L' := [(3, .int (x3 + 1)), (0, va_rf x0), (1, va_rf x1), (2, .int x2), (4, .int x4), (5, .int x5)]) 3 dX19_answer_138 rfl (k_inc_1 _) (by decide) rfl ?_
    refine R_goto (tgt := 63) dX19_answer_141 (by decide) ?_
    refine R.sub [1, 2, 3, 0] (L' := [(0, va_rf x0), (1, va_rf x1), (2, .int x2), (3, .int (x3 + 1))]) rfl ?_
    exact hr63 x0 x1 x2 (x3 + 1) h6 hf
noncomputable def f_X19_answer_L63 (r20 : Option Nat → Option Nat → Int32 → PH → Option ((Unit ⊕ Nat) × PH)) : Nat → Option Nat → Option Nat → Int32 → Int32 → PH → Option ((Unit ⊕ Nat) × PH)
  | 0, _, _, _, _, _ => none
  | k + 1, x0, x1, x2, x3, h => (gfi 3 1 x1 h).bind (fun t1 => if t1 ≤ x3 then ((rcv 16 x0 h).bind (fun u2 => (f_X19_advance x0 h).bind (fun h3 => r20 x0 x1 (x2 + 1) h3))) else ((gfi 3 1 x1 h).bind (fun t4 => (gfr 16 2 x0 h).bind (fun t5 => (rcv 17 t5 h).bind (fun u6 => (f_X20_charAt t5 x3 h).bind (fun q7 => if (q7.1 - 48) = 0 then (f_X19_answer_B127 r20 (f_X19_answer_L63 r20 k) x0 x1 x2 x3 ((t4 * x2) + x3) (q7.1 - 48) x0 1 q7.2) else ((rcv 3 x1 q7.2).bind (fun u8 => (f_X3_isNumber x1 ((t4 * x2) + x3) (q7.1 - 48) q7.2).bind (fun q9 => if q9.1 = 0 then (f_X19_answer_B127 r20 (f_X19_answer_L63 r20 k) x0 x1 x2 x3 ((t4 * x2) + x3) (q7.1 - 48) x0 0 q9.2) else ((rcv 3 x1 q9.2).bind (fun u10 => (f_X3_hasElsewhere x1 ((t4 * x2) + x3) (q7.1 - 48) q9.2).bind (fun q11 => if q11.1 = 0 then (f_X19_answer_B127 r20 (f_X19_answer_L63 r20 k) x0 x1 x2 x3 ((t4 * x2) + x3) (q7.1 - 48) x0 1 q11.2) else (f_X19_answer_B127 r20 (f_X19_answer_L63 r20 k) x0 x1 x2 x3 ((t4 * x2) + x3) (q7.1 - 48) x0 0 q11.2)))))))))))))
theorem f_X19_answer_L63_ok {K : KT} {h0 : PH} {a0 : List Value} {q : ((Unit ⊕ Nat) × PH)} {r20 : Option Nat → Option Nat → Int32 → PH → Option ((Unit ⊕ Nat) × PH)} (hr20 : ∀ (y0 : Option Nat) (y1 : Option Nat) (y2 : Int32) (h : PH), r20 y0 y1 y2 h = some q → R K mi_X19_answer h0 a0 (rsV q.1) q.2 20 [(0, va_rf y0), (1, va_rf y1), (2, .int y2)] [] h) : ∀ (k : Nat) (x0 : Option Nat) (x1 : Option Nat) (x2 : Int32) (x3 : Int32) (h : PH), f_X19_answer_L63 r20 k x0 x1 x2 x3 h = some q → R K mi_X19_answer h0 a0 (rsV q.1) q.2 63 [(0, va_rf x0), (1, va_rf x1), (2, .int x2), (3, .int x3)] [] h := by
  intro k
  induction k with
  | zero => intro _ _ _ _ _ hf; cases hf
  | succ k ih =>
    intro x0 x1 x2 x3 h hf
    unfold f_X19_answer_L63 at hf
    refine R_iload_n 3 dX19_answer_63 rfl rfl ?_
    refine R_aload_n 1 dX19_answer_64 rfl rfl ?_
    obtain ⟨t1, et1, hf⟩ := Option.bind_eq_some_iff.mp hf
    refine R_geti lg_X19_167 et1 dX19_answer_65 ?_
    refine R_icge (tgt := 144) dX19_answer_68 (by decide) (fun hc => ?_) (fun hc => ?_)
    · rw [if_pos hc] at hf
      refine R_aload_n 0 dX19_answer_144 rfl rfl ?_
      obtain ⟨u2, eu2, hf⟩ := Option.bind_eq_some_iff.mp hf
      obtain ⟨h3, eh3, hf⟩ := Option.bind_eq_some_iff.mp hf
      refine R_callV (mj := mi_X19_advance) (ci := 16) (q := (RX19, TX19, 4)) (As := []) (rest := []) (T_X19_advance eh3) eu2 rfl lV_X19_88 ⟨rfl, oky_X19_advance⟩ (by decide) (by decide) rfl C1_0 (Nat.le_of_ble_eq_true rfl) dX19_answer_145 ?_
      refine R_iinc (L' := [(2, .int (x2 + 1)), (0, va_rf x0), (1, va_rf x1), (3, .int x3)]) 2 dX19_answer_148 rfl (k_inc_1 _) (by decide) rfl ?_
      refine R_goto (tgt := 20) dX19_answer_151 (by decide) ?_
      refine R.sub [1, 2, 0] (L' := [(0, va_rf x0), (1, va_rf x1), (2, .int (x2 + 1))]) rfl ?_
      exact hr20 x0 x1 (x2 + 1) h3 hf
    · rw [if_neg hc] at hf
      refine R_aload_n 1 dX19_answer_71 rfl rfl ?_
      obtain ⟨t4, et4, hf⟩ := Option.bind_eq_some_iff.mp hf
      refine R_geti lg_X19_167 et4 dX19_answer_72 ?_
      refine R_iload_n 2 dX19_answer_75 rfl rfl ?_
      refine R_imul dX19_answer_76 ?_
      refine R_iload_n 3 dX19_answer_77 rfl rfl ?_
      refine R_iadd dX19_answer_78 ?_
      refine R_istore (L' := [(4, .int ((t4 * x2) + x3)), (0, va_rf x0), (1, va_rf x1), (2, .int x2), (3, .int x3)]) dX19_answer_79 (by decide) rfl ?_
      refine R_aload_n 1 dX19_answer_81 rfl rfl ?_
      obtain ⟨t5, et5, hf⟩ := Option.bind_eq_some_iff.mp hf
      refine R_getr lg_X19_69 et5 dX19_answer_82 ?_
      refine R_iload_n 4 dX19_answer_85 rfl rfl ?_
      obtain ⟨u6, eu6, hf⟩ := Option.bind_eq_some_iff.mp hf
      obtain ⟨q7, eq7, hf⟩ := Option.bind_eq_some_iff.mp hf
      refine R_callV (mj := mi_X20_charAt) (ci := 17) (q := (RX20, TX20, 3)) (As := [.int x3]) (rest := []) (T_X20_charAt eq7) eu6 rfl lV_X19_96 ⟨rfl, oky_X20_charAt⟩ (by decide) (by decide) rfl C1_0 (Nat.le_of_ble_eq_true rfl) dX19_answer_86 ?_
      refine R_bipush dX19_answer_89 k_bipush_48 ?_
      refine R_isub dX19_answer_91 ?_
      refine R_istore (L' := [(5, .int (q7.1 - 48)), (4, .int ((t4 * x2) + x3)), (0, va_rf x0), (1, va_rf x1), (2, .int x2), (3, .int x3)]) dX19_answer_92 (by decide) rfl ?_
      refine R_aload_n 2 dX19_answer_94 rfl rfl ?_
      refine R_iload 0 dX19_answer_95 rfl ?_
      refine R_ifeq (tgt := 122) dX19_answer_97 (by decide) (fun hc => ?_) (fun hc => ?_)
      · rw [if_pos hc] at hf
        refine R_iconst dX19_answer_122 k_iconst_1 ?_
        refine R_goto (tgt := 127) dX19_answer_123 (by decide) ?_
        refine R.sub [2, 3, 4, 5, 1, 0] (L' := [(0, va_rf x0), (1, va_rf x1), (2, .int x2), (3, .int x3), (4, .int ((t4 * x2) + x3)), (5, .int (q7.1 - 48))]) rfl ?_
        exact f_X19_answer_B127_ok hr20 ih x0 x1 x2 x3 ((t4 * x2) + x3) (q7.1 - 48) x0 1 q7.2 hf
      · rw [if_neg hc] at hf
        refine R_aload_n 3 dX19_answer_100 rfl rfl ?_
        refine R_iload 1 dX19_answer_101 rfl ?_
        refine R_iload 0 dX19_answer_103 rfl ?_
        obtain ⟨u8, eu8, hf⟩ := Option.bind_eq_some_iff.mp hf
        obtain ⟨q9, eq9, hf⟩ := Option.bind_eq_some_iff.mp hf
        refine R_callV (mj := mi_X3_isNumber) (ci := 3) (q := (RX3, TX3, 7)) (As := [.int ((t4 * x2) + x3), .int (q7.1 - 48)]) (rest := [va_rf x0]) (T_X3_isNumber eq9) eu8 rfl lV_X19_170 ⟨rfl, oky_X3_isNumber⟩ (by decide) (by decide) rfl (C1_r C1_0) (Nat.le_of_ble_eq_true rfl) dX19_answer_105 ?_
        refine R_ifeq (tgt := 126) dX19_answer_108 (by decide) (fun hc => ?_) (fun hc => ?_)
        · rw [if_pos hc] at hf
          refine R_iconst dX19_answer_126 k_iconst_0 ?_
          refine R.sub [2, 3, 4, 5, 1, 0] (L' := [(0, va_rf x0), (1, va_rf x1), (2, .int x2), (3, .int x3), (4, .int ((t4 * x2) + x3)), (5, .int (q7.1 - 48))]) rfl ?_
          exact f_X19_answer_B127_ok hr20 ih x0 x1 x2 x3 ((t4 * x2) + x3) (q7.1 - 48) x0 0 q9.2 hf
        · rw [if_neg hc] at hf
          refine R_aload_n 3 dX19_answer_111 rfl rfl ?_
          refine R_iload 1 dX19_answer_112 rfl ?_
          refine R_iload 0 dX19_answer_114 rfl ?_
          obtain ⟨u10, eu10, hf⟩ := Option.bind_eq_some_iff.mp hf
          obtain ⟨q11, eq11, hf⟩ := Option.bind_eq_some_iff.mp hf
          refine R_callV (mj := mi_X3_hasElsewhere) (ci := 3) (q := (RX3, TX3, 7)) (As := [.int ((t4 * x2) + x3), .int (q7.1 - 48)]) (rest := [va_rf x0]) (T_X3_hasElsewhere eq11) eu10 rfl lV_X19_174 ⟨rfl, oky_X3_hasElsewhere⟩ (by decide) (by decide) rfl (C1_r C1_0) (Nat.le_of_ble_eq_true rfl) dX19_answer_116 ?_
          refine R_ifne (tgt := 126) dX19_answer_119 (by decide) (fun hc => ?_) (fun hc => ?_)
          · rw [if_pos hc] at hf
            refine R_iconst dX19_answer_122 k_iconst_1 ?_
            refine R_goto (tgt := 127) dX19_answer_123 (by decide) ?_
            refine R.sub [2, 3, 4, 5, 1, 0] (L' := [(0, va_rf x0), (1, va_rf x1), (2, .int x2), (3, .int x3), (4, .int ((t4 * x2) + x3)), (5, .int (q7.1 - 48))]) rfl ?_
            exact f_X19_answer_B127_ok hr20 ih x0 x1 x2 x3 ((t4 * x2) + x3) (q7.1 - 48) x0 1 q11.2 hf
          · rw [if_neg hc] at hf
            refine R_iconst dX19_answer_126 k_iconst_0 ?_
            refine R.sub [2, 3, 4, 5, 1, 0] (L' := [(0, va_rf x0), (1, va_rf x1), (2, .int x2), (3, .int x3), (4, .int ((t4 * x2) + x3)), (5, .int (q7.1 - 48))]) rfl ?_
            exact f_X19_answer_B127_ok hr20 ih x0 x1 x2 x3 ((t4 * x2) + x3) (q7.1 - 48) x0 0 q11.2 hf
noncomputable def f_X19_answer_B58 (r20 : Option Nat → Option Nat → Int32 → PH → Option ((Unit ⊕ Nat) × PH)) (x0 : Option Nat) (x1 : Option Nat) (x2 : Int32) (s0 : Option Nat) (s1 : Int32) (h : PH) : Option ((Unit ⊕ Nat) × PH) := (rcv 16 s0 h).bind (fun u1 => (f_X19_need s0 s1 h).bind (fun rv2 => match rv2 with | (.inl _, h3) => (f_X19_answer_L63 r20 FU x0 x1 x2 0 h3) | (.inr a4, h3) => (some (.inr a4, h3))))
theorem f_X19_answer_B58_ok {K : KT} {h0 : PH} {a0 : List Value} {q : ((Unit ⊕ Nat) × PH)} {r20 : Option Nat → Option Nat → Int32 → PH → Option ((Unit ⊕ Nat) × PH)} (hr20 : ∀ (y0 : Option Nat) (y1 : Option Nat) (y2 : Int32) (h : PH), r20 y0 y1 y2 h = some q → R K mi_X19_answer h0 a0 (rsV q.1) q.2 20 [(0, va_rf y0), (1, va_rf y1), (2, .int y2)] [] h) (x0 : Option Nat) (x1 : Option Nat) (x2 : Int32) (s0 : Option Nat) (s1 : Int32) (h : PH) (hf : f_X19_answer_B58 r20 x0 x1 x2 s0 s1 h = some q) : R K mi_X19_answer h0 a0 (rsV q.1) q.2 58 [(0, va_rf x0), (1, va_rf x1), (2, .int x2)] [.int s1, va_rf s0] h := by
  unfold f_X19_answer_B58 at hf
  obtain ⟨u1, eu1, hf⟩ := Option.bind_eq_some_iff.mp hf
  obtain ⟨⟨rv2, h3⟩, ev2, hf⟩ := Option.bind_eq_some_iff.mp hf
  cases rv2 with
  | inr a4 =>
    obtain rfl := Option.some.inj hf
    exact R_propV (mj := mi_X19_need) (ci := 16) (q := (RX19, TX19, 4)) (As := [.int s1]) (rest := []) (T_X19_need ev2) eu1 rfl lV_X19_84 ⟨rfl, oky_X19_need⟩ (by decide) (by decide) rfl C1_0 (Nat.le_of_ble_eq_true rfl) dX19_answer_58 (by decide +kernel)
  | inl v2 =>
    dsimp only at hf
    refine R_callV (v := none) (mj := mi_X19_need) (ci := 16) (q := (RX19, TX19, 4)) (As := [.int s1]) (rest := []) (T_X19_need ev2) eu1 rfl lV_X19_84 ⟨rfl, oky_X19_need⟩ (by decide) (by decide) rfl C1_0 (Nat.le_of_ble_eq_true rfl) dX19_answer_58 ?_
    refine R_iconst dX19_answer_61 k_iconst_0 ?_
    refine R_istore_n (L' := [(3, .int 0), (0, va_rf x0), (1, va_rf x1), (2, .int x2)]) dX19_answer_62 rfl (by decide) rfl ?_
    refine R.sub [1, 2, 3, 0] (L' := [(0, va_rf x0), (1, va_rf x1), (2, .int x2), (3, .int 0)]) rfl ?_
    exact f_X19_answer_L63_ok hr20 FU x0 x1 x2 0 h3 hf
noncomputable def f_X19_answer_L20  : Nat → Option Nat → Option Nat → Int32 → PH → Option ((Unit ⊕ Nat) × PH)
  | 0, _, _, _, _ => none
  | k + 1, x0, x1, x2, h => (gfi 3 0 x1 h).bind (fun t1 => if t1 ≤ x2 then ((gfr 16 0 x0 h).bind (fun t2 => (gfr 1 0 t2 h).bind (fun t3 => (pf 2 0 t3 (va_rf x1) h).bind (fun h4 => some (.inl (), h4))))) else ((gfr 16 2 x0 h).bind (fun t5 => (rcv 17 t5 h).bind (fun u6 => (f_X20_isDigits t5 h).bind (fun q7 => if q7.1 = 0 then (f_X19_answer_B58 (f_X19_answer_L20 k) x0 x1 x2 x0 0 q7.2) else ((gfr 16 2 x0 q7.2).bind (fun t8 => (rcv 17 t8 q7.2).bind (fun u9 => (f_X20_length t8 q7.2).bind (fun q10 => (gfi 3 1 x1 q10.2).bind (fun t11 => if q10.1 = t11 then (f_X19_answer_B58 (f_X19_answer_L20 k) x0 x1 x2 x0 1 q10.2) else (f_X19_answer_B58 (f_X19_answer_L20 k) x0 x1 x2 x0 0 q10.2)))))))))))
theorem f_X19_answer_L20_ok {K : KT} {h0 : PH} {a0 : List Value} {q : ((Unit ⊕ Nat) × PH)}  : ∀ (k : Nat) (x0 : Option Nat) (x1 : Option Nat) (x2 : Int32) (h : PH), f_X19_answer_L20  k x0 x1 x2 h = some q → R K mi_X19_answer h0 a0 (rsV q.1) q.2 20 [(0, va_rf x0), (1, va_rf x1), (2, .int x2)] [] h := by
  intro k
  induction k with
  | zero => intro _ _ _ _ hf; cases hf
  | succ k ih =>
    intro x0 x1 x2 h hf
    unfold f_X19_answer_L20 at hf
    refine R_iload_n 2 dX19_answer_20 rfl rfl ?_
    refine R_aload_n 1 dX19_answer_21 rfl rfl ?_
    obtain ⟨t1, et1, hf⟩ := Option.bind_eq_some_iff.mp hf
    refine R_geti lg_X19_164 et1 dX19_answer_22 ?_
    refine R_icge (tgt := 154) dX19_answer_25 (by decide) (fun hc => ?_) (fun hc => ?_)
    · rw [if_pos hc] at hf
      refine R_aload_n 0 dX19_answer_154 rfl rfl ?_
      obtain ⟨t2, et2, hf⟩ := Option.bind_eq_some_iff.mp hf
      refine R_getr lg_X19_25 et2 dX19_answer_155 ?_
      obtain ⟨t3, et3, hf⟩ := Option.bind_eq_some_iff.mp hf
      refine R_getr lg_X19_151 et3 dX19_answer_158 ?_
      refine R_aload_n 1 dX19_answer_161 rfl rfl ?_
      obtain ⟨h4, eh4, hf⟩ := Option.bind_eq_some_iff.mp hf
      refine R_putR (by first | exact Or.inl ⟨_, rfl⟩ | exact Or.inr ⟨_, rfl⟩) (fp_X19_155 rfl) eh4 dX19_answer_162 ?_
      obtain rfl := Option.some.inj hf
      exact R_return rfl dX19_answer_165
    · rw [if_neg hc] at hf
      refine R_aload_n 0 dX19_answer_28 rfl rfl ?_
      refine R_aload_n 0 dX19_answer_29 rfl rfl ?_
      obtain ⟨t5, et5, hf⟩ := Option.bind_eq_some_iff.mp hf
      refine R_getr lg_X19_69 et5 dX19_answer_30 ?_
      obtain ⟨u6, eu6, hf⟩ := Option.bind_eq_some_iff.mp hf
      obtain ⟨q7, eq7, hf⟩ := Option.bind_eq_some_iff.mp hf
      refine R_callV (mj := mi_X20_isDigits) (ci := 17) (q := (RX20, TX20, 3)) (As := []) (rest := [va_rf x0]) (T_X20_isDigits eq7) eu6 rfl lV_X19_91 ⟨rfl, oky_X20_isDigits⟩ (by decide) (by decide) rfl (C1_r C1_0) (Nat.le_of_ble_eq_true rfl) dX19_answer_33 ?_
      refine R_ifeq (tgt := 57) dX19_answer_36 (by decide) (fun hc => ?_) (fun hc => ?_)
      · rw [if_pos hc] at hf
        refine R_iconst dX19_answer_57 k_iconst_0 ?_
        exact f_X19_answer_B58_ok ih x0 x1 x2 x0 0 q7.2 hf
      · rw [if_neg hc] at hf
        refine R_aload_n 0 dX19_answer_39 rfl rfl ?_
        obtain ⟨t8, et8, hf⟩ := Option.bind_eq_some_iff.mp hf
        refine R_getr lg_X19_69 et8 dX19_answer_40 ?_
        obtain ⟨u9, eu9, hf⟩ := Option.bind_eq_some_iff.mp hf
        obtain ⟨q10, eq10, hf⟩ := Option.bind_eq_some_iff.mp hf
        refine R_callV (mj := mi_X20_length) (ci := 17) (q := (RX20, TX20, 3)) (As := []) (rest := [va_rf x0]) (T_X20_length eq10) eu9 rfl lV_X19_95 ⟨rfl, oky_X20_length⟩ (by decide) (by decide) rfl (C1_r C1_0) (Nat.le_of_ble_eq_true rfl) dX19_answer_43 ?_
        refine R_aload_n 1 dX19_answer_46 rfl rfl ?_
        obtain ⟨t11, et11, hf⟩ := Option.bind_eq_some_iff.mp hf
        refine R_geti lg_X19_167 et11 dX19_answer_47 ?_
        refine R_icne (tgt := 57) dX19_answer_50 (by decide) (fun hc => ?_) (fun hc => ?_)
        · rw [if_pos hc] at hf
          refine R_iconst dX19_answer_53 k_iconst_1 ?_
          refine R_goto (tgt := 58) dX19_answer_54 (by decide) ?_
          exact f_X19_answer_B58_ok ih x0 x1 x2 x0 1 q10.2 hf
        · rw [if_neg hc] at hf
          refine R_iconst dX19_answer_57 k_iconst_0 ?_
          exact f_X19_answer_B58_ok ih x0 x1 x2 x0 0 q10.2 hf
noncomputable def f_X19_answer (x0 : Option Nat) (h : PH) : Option ((Unit ⊕ Nat) × PH) := (nwO 3 7 [.int 0, .int 0, .null, .null, .null, .null, .null] h).bind (fun q1 => (gfr 16 0 x0 q1.2).bind (fun t2 => (gfr 1 0 t2 q1.2).bind (fun t3 => (gfr 2 0 t3 q1.2).bind (fun t4 => (nn q1.1).bind (fun u5 => (f_X3_init_2 q1.1 t4 q1.2).bind (fun h6 => f_X19_answer_L20  FU x0 q1.1 0 h6))))))
theorem T_X19_answer {K : KT} {x0 : Option Nat} {h : PH} {q : ((Unit ⊕ Nat) × PH)} (hf : f_X19_answer x0 h = some q) : T K mi_X19_answer [va_rf x0] h (rsV q.1) q.2 := by
  unfold f_X19_answer at hf
  refine T_of (by decide +kernel) rfl (C1_r C1_0) (Nat.le_of_ble_eq_true rfl) ?_
  show R K mi_X19_answer h [va_rf x0] _ _ 0 [(0, va_rf x0)] [] h
  obtain ⟨q1, eq1, hf⟩ := Option.bind_eq_some_iff.mp hf
  refine R_newO eq1 ty_3 ck_3 ct_3 q2129 q196 q128 (by decide +kernel) dX19_answer_0 ?_
  refine R_dup dX19_answer_3 (rf_cat _) ?_
  refine R_aload_n 0 dX19_answer_4 rfl rfl ?_
  obtain ⟨t2, et2, hf⟩ := Option.bind_eq_some_iff.mp hf
  refine R_getr lg_X19_25 et2 dX19_answer_5 ?_
  obtain ⟨t3, et3, hf⟩ := Option.bind_eq_some_iff.mp hf
  refine R_getr lg_X19_151 et3 dX19_answer_8 ?_
  obtain ⟨t4, et4, hf⟩ := Option.bind_eq_some_iff.mp hf
  refine R_getr lg_X19_155 et4 dX19_answer_11 ?_
  obtain ⟨u5, eu5, hf⟩ := Option.bind_eq_some_iff.mp hf
  obtain ⟨h6, eh6, hf⟩ := Option.bind_eq_some_iff.mp hf
  refine R_callINx (mj := mi_X3_init_2) (As := [va_rf t4]) (rest := [va_rf q1.1]) eu5 (T_X3_init_2 eh6) (lw_meth q1033) rfl q2146 q128 q1032 rfl oky_X3_init_2 (by decide) (by decide) rfl (C1_r C1_0) (Nat.le_of_ble_eq_true rfl) dX19_answer_14 ?_
  refine R_astore_n (L' := [(1, va_rf q1.1), (0, va_rf x0)]) dX19_answer_17 rfl (by decide) rfl ?_
  refine R_iconst dX19_answer_18 k_iconst_0 ?_
  refine R_istore_n (L' := [(2, .int 0), (1, va_rf q1.1), (0, va_rf x0)]) dX19_answer_19 rfl (by decide) rfl ?_
  refine R.sub [2, 1, 0] (L' := [(0, va_rf x0), (1, va_rf q1.1), (2, .int 0)]) rfl ?_
  exact f_X19_answer_L20_ok  FU x0 q1.1 0 h6 hf
abbrev mi_J24_isEmpty : MI := (RJ24, yJ24_isEmpty, cJ24_isEmpty, 1, (some FieldType.boolean), 1)
noncomputable def f_J24_isEmpty (x0 : Option Nat) (h : PH) : Option (Int32 × PH) := (gfi 29 2 x0 h).bind (fun t1 => if t1 = 0 then (some (1, h)) else (some (0, h)))
theorem T_J24_isEmpty {K : KT} {x0 : Option Nat} {h : PH} {q : (Int32 × PH)} (hf : f_J24_isEmpty x0 h = some q) : T K mi_J24_isEmpty [va_rf x0] h (.inl (some (.int q.1))) q.2 := by
  unfold f_J24_isEmpty at hf
  refine T_of (by decide +kernel) rfl (C1_r C1_0) (Nat.le_of_ble_eq_true rfl) ?_
  show R K mi_J24_isEmpty h [va_rf x0] _ _ 0 [(0, va_rf x0)] [] h
  refine R_aload_n 0 dJ24_isEmpty_0 rfl rfl ?_
  obtain ⟨t1, et1, hf⟩ := Option.bind_eq_some_iff.mp hf
  refine R_geti lg_J24_48 et1 dJ24_isEmpty_1 ?_
  refine R_ifne (tgt := 11) dJ24_isEmpty_4 (by decide) (fun hc => ?_) (fun hc => ?_)
  · rw [if_pos hc] at hf
    refine R_iconst dJ24_isEmpty_7 k_iconst_1 ?_
    refine R_goto (tgt := 12) dJ24_isEmpty_8 (by decide) ?_
    obtain rfl := Option.some.inj hf
    exact R_iretZ1 rfl dJ24_isEmpty_12
  · rw [if_neg hc] at hf
    refine R_iconst dJ24_isEmpty_11 k_iconst_0 ?_
    obtain rfl := Option.some.inj hf
    exact R_iretZ0 rfl dJ24_isEmpty_12
theorem lV_X19_100 : GoodIn lw_all (wsV "EdgeSums$Parser" 100 "EdgeSums$Slice" yX20_isLetters (ws_ yX20_isLetters cX20_isLetters 1 (some FieldType.boolean))) := lw_V q2055 q2056 q2057 q169 q2058
theorem oky_X20_isLetters : okY yX20_isLetters 0 := ⟨by decide +kernel, by decide +kernel, by decide +kernel⟩
theorem lV_X19_123 : GoodIn lw_all (wsV "EdgeSums$Parser" 123 "EdgeSums$Parser" yX19_isStop (ws_ yX19_isStop cX19_isStop 1 (some FieldType.boolean))) := lw_V q2124 q2126 qs36 q168 q2127
theorem oky_X19_isStop : okY yX19_isStop 0 := ⟨by decide +kernel, by decide +kernel, by decide +kernel⟩
theorem lF_X19_103_J24 : GoodIn lw_all (va_wsF "EdgeSums$Parser" 103 "java/util/ArrayList" (⟨"java/util/List", "size", "()I"⟩ : MethodName) yJ24_size (ws_ yJ24_size cJ24_size 1 (some FieldType.int))) := lw_F q2065 q2069 q1547 q174 q1548
theorem lF_X19_115_J24 : GoodIn lw_all (va_wsF "EdgeSums$Parser" 115 "java/util/ArrayList" (⟨"java/util/List", "get", "(I)Ljava/lang/Object;"⟩ : MethodName) yJ24_get (ws_ yJ24_get cJ24_get 2 (some (FieldType.object "java/lang/Object")))) := lw_F q2083 q2086 q2088 q174 q2090
theorem lV_X19_131 : GoodIn lw_all (wsV "EdgeSums$Parser" 131 "EdgeSums$Page" yX3_cells (ws_ yX3_cells cX3_cells 1 (some FieldType.int))) := lw_V q2131 q202 q203 q128 q204
theorem lV_X19_145 : GoodIn lw_all (wsV "EdgeSums$Parser" 145 "EdgeSums$Page" yX3_renumber (ws_ yX3_renumber cX3_renumber 5 none)) := lw_V q2135 q206 q207 q128 q208
theorem lV_X19_148 : GoodIn lw_all (wsV "EdgeSums$Parser" 148 "EdgeSums$Page" yX3_isProper (ws_ yX3_isProper cX3_isProper 3 (some FieldType.boolean))) := lw_V q2136 q2137 q2138 q128 q2139
theorem oky_X3_isProper : okY yX3_isProper 0 := ⟨by decide +kernel, by decide +kernel, by decide +kernel⟩
theorem lg_X19_134 : LG "EdgeSums$Parser" 134 3 2 := ⟨_, _, _, ck_3, by decide, Or.inr (Or.inl ⟨_, q692⟩)⟩
theorem lV_X19_138 : GoodIn lw_all (wsV "EdgeSums$Parser" 138 "EdgeSums$Page" yX3_rowOf (ws_ yX3_rowOf cX3_rowOf 2 (some FieldType.int))) := lw_V q2132 q1157 q1158 q128 q1159
theorem lV_X19_142 : GoodIn lw_all (wsV "EdgeSums$Parser" 142 "EdgeSums$Page" yX3_columnOf (ws_ yX3_columnOf cX3_columnOf 2 (some FieldType.int))) := lw_V q2133 q1164 q1165 q128 q1166
theorem lF_X19_119_J24 : GoodIn lw_all (va_wsF "EdgeSums$Parser" 119 "java/util/ArrayList" (⟨"java/util/List", "add", "(Ljava/lang/Object;)Z"⟩ : MethodName) yJ24_add (ws_ yJ24_add cJ24_add 2 (some FieldType.boolean))) := lw_F q2100 q2103 q2105 q174 q2107
theorem lF_X19_112_J24 : GoodIn lw_all (va_wsF "EdgeSums$Parser" 112 "java/util/ArrayList" (⟨"java/util/List", "isEmpty", "()Z"⟩ : MethodName) yJ24_isEmpty (ws_ yJ24_isEmpty cJ24_isEmpty 1 (some FieldType.boolean))) := lw_F q2074 q2077 q2079 q174 q2081
theorem fw_J24_java_util_ListisEmpty__Z : FW "java/util/ArrayList" (⟨"java/util/List", "isEmpty", "()Z"⟩ : MethodName) yJ24_isEmpty := ⟨q2076, q2075, q2080, q2078, q2068⟩
theorem okx_java_util_List_isEmpty__Z : okY (⟨"java/util/List", "isEmpty", "()Z"⟩ : MethodName) 0 := ⟨by decide +kernel, by decide +kernel, by decide +kernel⟩
abbrev mi_X19_page : MI := (RX19, yX19_page, cX19_page, 4, none, 11)
noncomputable def f_X19_page_L155  : Nat → Option Nat → Option Nat → Option Nat → Int32 → PH → Option ((Unit ⊕ Nat) × PH)
  | 0, _, _, _, _, _ => none
  | k + 1, x0, x1, x2, x3, h => (rcv 3 x2 h).bind (fun u1 => (f_X3_cells x2 h).bind (fun q2 => if q2.1 ≤ x3 then ((rcv 3 x2 q2.2).bind (fun u3 => (f_X3_renumber x2 q2.2).bind (fun h4 => (rcv 3 x2 h4).bind (fun u5 => (f_X3_isProper x2 h4).bind (fun q6 => (rcv 16 x0 q6.2).bind (fun u7 => (f_X19_need x0 q6.1 q6.2).bind (fun rv8 => match rv8 with | (.inl _, h9) => ((gfr 16 0 x0 h9).bind (fun t11 => (gfr 1 0 t11 h9).bind (fun t12 => (pf 2 0 t12 (va_rf x2) h9).bind (fun h13 => some (.inl (), h13))))) | (.inr a10, h9) => (some (.inr a10, h9))))))))) else ((gfr 3 2 x2 q2.2).bind (fun t14 => (rcv 3 x2 q2.2).bind (fun u15 => (f_X3_rowOf x2 x3 q2.2).bind (fun q16 => (rcv 29 x1 q16.2).bind (fun u17 => (f_J24_get x1 q16.1 q16.2).bind (fun q18 => (chk 17 q18.1 q18.2).bind (fun u19 => (rcv 3 x2 q18.2).bind (fun u20 => (f_X3_columnOf x2 x3 q18.2).bind (fun q21 => (rcv 17 q18.1 q21.2).bind (fun u22 => (f_X20_charAt q18.1 q21.1 q21.2).bind (fun q23 => (asi 0 t14 x3 q23.1 q23.2).bind (fun h24 => (f_X19_page_L155 k) x0 x1 x2 (x3 + 1) h24))))))))))))))
theorem f_X19_page_L155_ok {K : KT} {h0 : PH} {a0 : List Value} {q : ((Unit ⊕ Nat) × PH)}  : ∀ (k : Nat) (x0 : Option Nat) (x1 : Option Nat) (x2 : Option Nat) (x3 : Int32) (h : PH), f_X19_page_L155  k x0 x1 x2 x3 h = some q → R K mi_X19_page h0 a0 (rsV q.1) q.2 155 [(0, va_rf x0), (1, va_rf x1), (2, va_rf x2), (3, .int x3)] [] h := by
  intro k
  induction k with
  | zero => intro _ _ _ _ _ hf; cases hf
  | succ k ih =>
    intro x0 x1 x2 x3 h hf
    unfold f_X19_page_L155 at hf
    refine R_iload_n 3 dX19_page_155 rfl rfl ?_
    refine R_aload_n 2 dX19_page_156 rfl rfl ?_
    obtain ⟨u1, eu1, hf⟩ := Option.bind_eq_some_iff.mp hf
    obtain ⟨q2, eq2, hf⟩ := Option.bind_eq_some_iff.mp hf
    refine R_callV (mj := mi_X3_cells) (ci := 3) (q := (RX3, TX3, 7)) (As := []) (rest := [.int x3]) (T_X3_cells eq2) eu1 rfl lV_X19_131 ⟨rfl, oky_X3_cells⟩ (by decide) (by decide) rfl (C1_i C1_0) (Nat.le_of_ble_eq_true rfl) dX19_page_157 ?_
    refine R_icge (tgt := 197) dX19_page_160 (by decide) (fun hc => ?_) (fun hc => ?_)
    · rw [if_pos hc] at hf
      refine R_aload_n 2 dX19_page_197 rfl rfl ?_
      obtain ⟨u3, eu3, hf⟩ := Option.bind_eq_some_iff.mp hf
      obtain ⟨h4, eh4, hf⟩ := Option.bind_eq_some_iff.mp hf
      refine R_callV (mj := mi_X3_renumber) (ci := 3) (q := (RX3, TX3, 7)) (As := []) (rest := []) (T_X3_renumber eh4) eu3 rfl lV_X19_145 ⟨rfl, oky_X3_renumber⟩ (by decide) (by decide) rfl C1_0 (Nat.le_of_ble_eq_true rfl) dX19_page_198 ?_
      refine R_aload_n 0 dX19_page_201 rfl rfl ?_
      refine R_aload_n 2 dX19_page_202 rfl rfl ?_
      obtain ⟨u5, eu5, hf⟩ := Option.bind_eq_some_iff.mp hf
      obtain ⟨q6, eq6, hf⟩ := Option.bind_eq_some_iff.mp hf
      refine R_callV (mj := mi_X3_isProper) (ci := 3) (q := (RX3, TX3, 7)) (As := []) (rest := [va_rf x0]) (T_X3_isProper eq6) eu5 rfl lV_X19_148 ⟨rfl, oky_X3_isProper⟩ (by decide) (by decide) rfl (C1_r C1_0) (Nat.le_of_ble_eq_true rfl) dX19_page_203 ?_
      obtain ⟨u7, eu7, hf⟩ := Option.bind_eq_some_iff.mp hf
      obtain ⟨⟨rv8, h9⟩, ev8, hf⟩ := Option.bind_eq_some_iff.mp hf
      cases rv8 with
      | inr a10 =>
        obtain rfl := Option.some.inj hf
        exact R_propV (mj := mi_X19_need) (ci := 16) (q := (RX19, TX19, 4)) (As := [.int q6.1]) (rest := []) (T_X19_need ev8) eu7 rfl lV_X19_84 ⟨rfl, oky_X19_need⟩ (by decide) (by decide) rfl C1_0 (Nat.le_of_ble_eq_true rfl) dX19_page_206 (by decide +kernel)
      | inl v8 =>
        dsimp only at hf
        refine R_callV (v := none) (mj := mi_X19_need) (ci := 16) (q := (RX19, TX19, 4)) (As := [.int q6.1]) (rest := []) (T_X19_need ev8) eu7 rfl lV_X19_84 ⟨rfl, oky_X19_need⟩ (by decide) (by decide) rfl C1_0 (Nat.le_of_ble_eq_true rfl) dX19_page_206 ?_
        refine R_aload_n 0 dX19_page_209 rfl rfl ?_
        obtain ⟨t11, et11, hf⟩ := Option.bind_eq_some_iff.mp hf
        refine R_getr lg_X19_25 et11 dX19_page_210 ?_
        obtain ⟨t12, et12, hf⟩ := Option.bind_eq_some_iff.mp hf
        refine R_getr lg_X19_151 et12 dX19_page_213 ?_
        refine R_aload_n 2 dX19_page_216 rfl rfl ?_
        obtain ⟨h13, eh13, hf⟩ := Option.bind_eq_some_iff.mp hf
        refine R_putR (by first | exact Or.inl ⟨_, rfl⟩ | exact Or.inr ⟨_, rfl⟩) (fp_X19_155 rfl) eh13 dX19_page_217 ?_
        obtain rfl := Option.some.inj hf
        exact R_return rfl dX19_page_220
    · rw [if_neg hc] at hf
      refine R_aload_n 2 dX19_page_163 rfl rfl ?_
      obtain ⟨t14, et14, hf⟩ := Option.bind_eq_some_iff.mp hf
      refine R_getr lg_X19_134 et14 dX19_page_164 ?_
      refine R_iload_n 3 dX19_page_167 rfl rfl ?_
      refine R_aload_n 1 dX19_page_168 rfl rfl ?_
      refine R_aload_n 2 dX19_page_169 rfl rfl ?_
      refine R_iload_n 3 dX19_page_170 rfl rfl ?_
      obtain ⟨u15, eu15, hf⟩ := Option.bind_eq_some_iff.mp hf
      obtain ⟨q16, eq16, hf⟩ := Option.bind_eq_some_iff.mp hf
      refine R_callV (mj := mi_X3_rowOf) (ci := 3) (q := (RX3, TX3, 7)) (As := [.int x3]) (rest := [va_rf x1, .int x3, va_rf t14]) (T_X3_rowOf eq16) eu15 rfl lV_X19_138 ⟨rfl, oky_X3_rowOf⟩ (by decide) (by decide) rfl (C1_r (C1_i (C1_r C1_0))) (Nat.le_of_ble_eq_true rfl) dX19_page_171 ?_
      obtain ⟨u17, eu17, hf⟩ := Option.bind_eq_some_iff.mp hf
      obtain ⟨q18, eq18, hf⟩ := Option.bind_eq_some_iff.mp hf
      refine R_callF (y0 := (⟨"java/util/List", "get", "(I)Ljava/lang/Object;"⟩ : MethodName)) (mj := mi_J24_get) (ci := 29) (q := (RJ24, TJ24, 3)) (As := [.int q16.1]) (rest := [.int x3, va_rf t14]) (T_J24_get eq18) eu17 rfl lF_X19_115_J24 fw_J24_java_util_Listget_I_Ljava_lang_Object_ okx_java_util_List_get_I_Ljava_lang_Object_ (by decide) (by decide) rfl (C1_i (C1_r C1_0)) (Nat.le_of_ble_eq_true rfl) dX19_page_174 ?_
      obtain ⟨u19, eu19, hf⟩ := Option.bind_eq_some_iff.mp hf
      refine R_cast eu19 rfl q1816 (Or.inr rfl) dX19_page_179 ?_
      refine R_aload_n 2 dX19_page_182 rfl rfl ?_
      refine R_iload_n 3 dX19_page_183 rfl rfl ?_
      obtain ⟨u20, eu20, hf⟩ := Option.bind_eq_some_iff.mp hf
      obtain ⟨q21, eq21, hf⟩ := Option.bind_eq_some_iff.mp hf
      refine R_callV (mj := mi_X3_columnOf) (ci := 3) (q := (RX3, TX3, 7)) (As := [.int x3]) (rest := [va_rf q18.1, .int x3, va_rf t14]) (T_X3_columnOf eq21) eu20 rfl lV_X19_142 ⟨rfl, oky_X3_columnOf⟩ (by decide) (by decide) rfl (C1_r (C1_i (C1_r C1_0))) (Nat.le_of_ble_eq_true rfl) dX19_page_184 ?_
      obtain ⟨u22, eu22, hf⟩ := Option.bind_eq_some_iff.mp hf
      obtain ⟨q23, eq23, hf⟩ := Option.bind_eq_some_iff.mp hf
      refine R_callV (mj := mi_X20_charAt) (ci := 17) (q := (RX20, TX20, 3)) (As := [.int q21.1]) (rest := [.int x3, va_rf t14]) (T_X20_charAt eq23) eu22 rfl lV_X19_96 ⟨rfl, oky_X20_charAt⟩ (by decide) (by decide) rfl (C1_i (C1_r C1_0)) (Nat.le_of_ble_eq_true rfl) dX19_page_187 ?_
      obtain ⟨h24, eh24, hf⟩ := Option.bind_eq_some_iff.mp hf
      refine R_iastore eh24 dX19_page_190 ?_
      refine R_iinc (L' := [(3, .int (x3 + 1)), (0, va_rf x0), (1, va_rf x1), (2, va_rf x2)]) 3 dX19_page_191 rfl (k_inc_1 _) (by decide) rfl ?_
      refine R_goto (tgt := 155) dX19_page_194 (by decide) ?_
      refine R.sub [1, 2, 3, 0] (L' := [(0, va_rf x0), (1, va_rf x1), (2, va_rf x2), (3, .int (x3 + 1))]) rfl ?_
      exact ih x0 x1 x2 (x3 + 1) h24 hf
noncomputable def f_X19_page_B123  (x0 : Option Nat) (x1 : Option Nat) (s0 : Option Nat) (s1 : Int32) (h : PH) : Option ((Unit ⊕ Nat) × PH) := (rcv 16 s0 h).bind (fun u1 => (f_X19_need s0 s1 h).bind (fun rv2 => match rv2 with | (.inl _, h3) => ((nwO 3 7 [.int 0, .int 0, .null, .null, .null, .null, .null] h3).bind (fun q5 => (rcv 29 x1 q5.2).bind (fun u6 => (f_J24_size x1 q5.2).bind (fun q7 => (rcv 29 x1 q7.2).bind (fun u8 => (f_J24_get x1 0 q7.2).bind (fun q9 => (chk 17 q9.1 q9.2).bind (fun u10 => (rcv 17 q9.1 q9.2).bind (fun u11 => (f_X20_length q9.1 q9.2).bind (fun q12 => (nn q5.1).bind (fun u13 => (f_X3_init q5.1 q7.1 q12.1 q12.2).bind (fun h14 => f_X19_page_L155  FU x0 x1 q5.1 0 h14))))))))))) | (.inr a4, h3) => (some (.inr a4, h3))))
theorem f_X19_page_B123_ok {K : KT} {h0 : PH} {a0 : List Value} {q : ((Unit ⊕ Nat) × PH)}  (x0 : Option Nat) (x1 : Option Nat) (s0 : Option Nat) (s1 : Int32) (h : PH) (hf : f_X19_page_B123  x0 x1 s0 s1 h = some q) : R K mi_X19_page h0 a0 (rsV q.1) q.2 123 [(0, va_rf x0), (1, va_rf x1)] [.int s1, va_rf s0] h := by
  unfold f_X19_page_B123 at hf
  obtain ⟨u1, eu1, hf⟩ := Option.bind_eq_some_iff.mp hf
  obtain ⟨⟨rv2, h3⟩, ev2, hf⟩ := Option.bind_eq_some_iff.mp hf
  cases rv2 with
  | inr a4 =>
    obtain rfl := Option.some.inj hf
    exact R_propV (mj := mi_X19_need) (ci := 16) (q := (RX19, TX19, 4)) (As := [.int s1]) (rest := []) (T_X19_need ev2) eu1 rfl lV_X19_84 ⟨rfl, oky_X19_need⟩ (by decide) (by decide) rfl C1_0 (Nat.le_of_ble_eq_true rfl) dX19_page_123 (by decide +kernel)
  | inl v2 =>
    dsimp only at hf
    refine R_callV (v := none) (mj := mi_X19_need) (ci := 16) (q := (RX19, TX19, 4)) (As := [.int s1]) (rest := []) (T_X19_need ev2) eu1 rfl lV_X19_84 ⟨rfl, oky_X19_need⟩ (by decide) (by decide) rfl C1_0 (Nat.le_of_ble_eq_true rfl) dX19_page_123 ?_
    obtain ⟨q5, eq5, hf⟩ := Option.bind_eq_some_iff.mp hf
    refine R_newO eq5 ty_3 ck_3 ct_3 q2129 q196 q128 (by decide +kernel) dX19_page_126 ?_
    refine R_dup dX19_page_129 (rf_cat _) ?_
    refine R_aload_n 1 dX19_page_130 rfl rfl ?_
    obtain ⟨u6, eu6, hf⟩ := Option.bind_eq_some_iff.mp hf
    obtain ⟨q7, eq7, hf⟩ := Option.bind_eq_some_iff.mp hf
    refine R_callF (y0 := (⟨"java/util/List", "size", "()I"⟩ : MethodName)) (mj := mi_J24_size) (ci := 29) (q := (RJ24, TJ24, 3)) (As := []) (rest := [va_rf q5.1, va_rf q5.1]) (T_J24_size eq7) eu6 rfl lF_X19_103_J24 fw_J24_java_util_Listsize__I okx_java_util_List_size__I (by decide) (by decide) rfl (C1_r (C1_r C1_0)) (Nat.le_of_ble_eq_true rfl) dX19_page_131 ?_
    refine R_aload_n 1 dX19_page_136 rfl rfl ?_
    refine R_iconst dX19_page_137 k_iconst_0 ?_
    obtain ⟨u8, eu8, hf⟩ := Option.bind_eq_some_iff.mp hf
    obtain ⟨q9, eq9, hf⟩ := Option.bind_eq_some_iff.mp hf
    refine R_callF (y0 := (⟨"java/util/List", "get", "(I)Ljava/lang/Object;"⟩ : MethodName)) (mj := mi_J24_get) (ci := 29) (q := (RJ24, TJ24, 3)) (As := [.int 0]) (rest := [.int q7.1, va_rf q5.1, va_rf q5.1]) (T_J24_get eq9) eu8 rfl lF_X19_115_J24 fw_J24_java_util_Listget_I_Ljava_lang_Object_ okx_java_util_List_get_I_Ljava_lang_Object_ (by decide) (by decide) rfl (C1_i (C1_r (C1_r C1_0))) (Nat.le_of_ble_eq_true rfl) dX19_page_138 ?_
    obtain ⟨u10, eu10, hf⟩ := Option.bind_eq_some_iff.mp hf
    refine R_cast eu10 rfl q1816 (Or.inr rfl) dX19_page_143 ?_
    obtain ⟨u11, eu11, hf⟩ := Option.bind_eq_some_iff.mp hf
    obtain ⟨q12, eq12, hf⟩ := Option.bind_eq_some_iff.mp hf
    refine R_callV (mj := mi_X20_length) (ci := 17) (q := (RX20, TX20, 3)) (As := []) (rest := [.int q7.1, va_rf q5.1, va_rf q5.1]) (T_X20_length eq12) eu11 rfl lV_X19_95 ⟨rfl, oky_X20_length⟩ (by decide) (by decide) rfl (C1_i (C1_r (C1_r C1_0))) (Nat.le_of_ble_eq_true rfl) dX19_page_146 ?_
    obtain ⟨u13, eu13, hf⟩ := Option.bind_eq_some_iff.mp hf
    obtain ⟨h14, eh14, hf⟩ := Option.bind_eq_some_iff.mp hf
    refine R_callIx (mj := mi_X3_init) (As := [.int q7.1, .int q12.1]) (rest := [va_rf q5.1]) eu13 (T_X3_init eh14) (lw_meth q199) rfl q128 q2130 q198 rfl oky_X3_init (by decide) (by decide) rfl (C1_r C1_0) (Nat.le_of_ble_eq_true rfl) dX19_page_149 ?_
    refine R_astore_n (L' := [(2, va_rf q5.1), (0, va_rf x0), (1, va_rf x1)]) dX19_page_152 rfl (by decide) rfl ?_
    refine R_iconst dX19_page_153 k_iconst_0 ?_
    refine R_istore_n (L' := [(3, .int 0), (2, va_rf q5.1), (0, va_rf x0), (1, va_rf x1)]) dX19_page_154 rfl (by decide) rfl ?_
    refine R.sub [2, 3, 1, 0] (L' := [(0, va_rf x0), (1, va_rf x1), (2, va_rf q5.1), (3, .int 0)]) rfl ?_
    exact f_X19_page_L155_ok  FU x0 x1 q5.1 0 h14 hf
noncomputable def f_X19_page_B100  (x0 : Option Nat) (x1 : Option Nat) (h : PH) : Option ((Unit ⊕ Nat) × PH) := (rcv 16 x0 h).bind (fun u1 => (f_X19_isStop x0 h).bind (fun q2 => if q2.1 = 0 then (f_X19_page_B123  x0 x1 x0 0 q2.2) else ((rcv 29 x1 q2.2).bind (fun u3 => (f_J24_size x1 q2.2).bind (fun q4 => if q4.1 < 2 then (f_X19_page_B123  x0 x1 x0 0 q4.2) else (f_X19_page_B123  x0 x1 x0 1 q4.2))))))
theorem f_X19_page_B100_ok {K : KT} {h0 : PH} {a0 : List Value} {q : ((Unit ⊕ Nat) × PH)}  (x0 : Option Nat) (x1 : Option Nat) (h : PH) (hf : f_X19_page_B100  x0 x1 h = some q) : R K mi_X19_page h0 a0 (rsV q.1) q.2 100 [(0, va_rf x0), (1, va_rf x1)] [] h := by
  unfold f_X19_page_B100 at hf
  refine R_aload_n 0 dX19_page_100 rfl rfl ?_
  refine R_aload_n 0 dX19_page_101 rfl rfl ?_
  obtain ⟨u1, eu1, hf⟩ := Option.bind_eq_some_iff.mp hf
  obtain ⟨q2, eq2, hf⟩ := Option.bind_eq_some_iff.mp hf
  refine R_callV (mj := mi_X19_isStop) (ci := 16) (q := (RX19, TX19, 4)) (As := []) (rest := [va_rf x0]) (T_X19_isStop eq2) eu1 rfl lV_X19_123 ⟨rfl, oky_X19_isStop⟩ (by decide) (by decide) rfl (C1_r C1_0) (Nat.le_of_ble_eq_true rfl) dX19_page_102 ?_
  refine R_ifeq (tgt := 122) dX19_page_105 (by decide) (fun hc => ?_) (fun hc => ?_)
  · rw [if_pos hc] at hf
    refine R_iconst dX19_page_122 k_iconst_0 ?_
    exact f_X19_page_B123_ok  x0 x1 x0 0 q2.2 hf
  · rw [if_neg hc] at hf
    refine R_aload_n 1 dX19_page_108 rfl rfl ?_
    obtain ⟨u3, eu3, hf⟩ := Option.bind_eq_some_iff.mp hf
    obtain ⟨q4, eq4, hf⟩ := Option.bind_eq_some_iff.mp hf
    refine R_callF (y0 := (⟨"java/util/List", "size", "()I"⟩ : MethodName)) (mj := mi_J24_size) (ci := 29) (q := (RJ24, TJ24, 3)) (As := []) (rest := [va_rf x0]) (T_J24_size eq4) eu3 rfl lF_X19_103_J24 fw_J24_java_util_Listsize__I okx_java_util_List_size__I (by decide) (by decide) rfl (C1_r C1_0) (Nat.le_of_ble_eq_true rfl) dX19_page_109 ?_
    refine R_iconst dX19_page_114 k_iconst_2 ?_
    refine R_iclt (tgt := 122) dX19_page_115 (by decide) (fun hc => ?_) (fun hc => ?_)
    · rw [if_pos hc] at hf
      refine R_iconst dX19_page_122 k_iconst_0 ?_
      exact f_X19_page_B123_ok  x0 x1 x0 0 q4.2 hf
    · rw [if_neg hc] at hf
      refine R_iconst dX19_page_118 k_iconst_1 ?_
      refine R_goto (tgt := 123) dX19_page_119 (by decide) ?_
      exact f_X19_page_B123_ok  x0 x1 x0 1 q4.2 hf
noncomputable def f_X19_page_B79 (r8 : Option Nat → Option Nat → PH → Option ((Unit ⊕ Nat) × PH)) (x0 : Option Nat) (x1 : Option Nat) (s0 : Option Nat) (s1 : Int32) (h : PH) : Option ((Unit ⊕ Nat) × PH) := (rcv 16 s0 h).bind (fun u1 => (f_X19_need s0 s1 h).bind (fun rv2 => match rv2 with | (.inl _, h3) => ((gfr 16 2 x0 h3).bind (fun t5 => (rcv 29 x1 h3).bind (fun u6 => (f_J24_add x1 t5 h3).bind (fun q7 => (rcv 16 x0 q7.2).bind (fun u8 => (f_X19_advance x0 q7.2).bind (fun h9 => r8 x0 x1 h9)))))) | (.inr a4, h3) => (some (.inr a4, h3))))
theorem f_X19_page_B79_ok {K : KT} {h0 : PH} {a0 : List Value} {q : ((Unit ⊕ Nat) × PH)} {r8 : Option Nat → Option Nat → PH → Option ((Unit ⊕ Nat) × PH)} (hr8 : ∀ (y0 : Option Nat) (y1 : Option Nat) (h : PH), r8 y0 y1 h = some q → R K mi_X19_page h0 a0 (rsV q.1) q.2 8 [(0, va_rf y0), (1, va_rf y1)] [] h) (x0 : Option Nat) (x1 : Option Nat) (s0 : Option Nat) (s1 : Int32) (h : PH) (hf : f_X19_page_B79 r8 x0 x1 s0 s1 h = some q) : R K mi_X19_page h0 a0 (rsV q.1) q.2 79 [(0, va_rf x0), (1, va_rf x1)] [.int s1, va_rf s0] h := by
  unfold f_X19_page_B79 at hf
  obtain ⟨u1, eu1, hf⟩ := Option.bind_eq_some_iff.mp hf
  obtain ⟨⟨rv2, h3⟩, ev2, hf⟩ := Option.bind_eq_some_iff.mp hf
  cases rv2 with
  | inr a4 =>
    obtain rfl := Option.some.inj hf
    exact R_propV (mj := mi_X19_need) (ci := 16) (q := (RX19, TX19, 4)) (As := [.int s1]) (rest := []) (T_X19_need ev2) eu1 rfl lV_X19_84 ⟨rfl, oky_X19_need⟩ (by decide) (by decide) rfl C1_0 (Nat.le_of_ble_eq_true rfl) dX19_page_79 (by decide +kernel)
  | inl v2 =>
    dsimp only at hf
    refine R_callV (v := none) (mj := mi_X19_need) (ci := 16) (q := (RX19, TX19, 4)) (As := [.int s1]) (rest := []) (T_X19_need ev2) eu1 rfl lV_X19_84 ⟨rfl, oky_X19_need⟩ (by decide) (by decide) rfl C1_0 (Nat.le_of_ble_eq_true rfl) dX19_page_79 ?_
    refine R_aload_n 1 dX19_page_82 rfl rfl ?_
    refine R_aload_n 0 dX19_page_83 rfl rfl ?_
    obtain ⟨t5, et5, hf⟩ := Option.bind_eq_some_iff.mp hf
    refine R_getr lg_X19_69 et5 dX19_page_84 ?_
    obtain ⟨u6, eu6, hf⟩ := Option.bind_eq_some_iff.mp hf
    obtain ⟨q7, eq7, hf⟩ := Option.bind_eq_some_iff.mp hf
    refine R_callF (y0 := (⟨"java/util/List", "add", "(Ljava/lang/Object;)Z"⟩ : MethodName)) (mj := mi_J24_add) (ci := 29) (q := (RJ24, TJ24, 3)) (As := [va_rf t5]) (rest := []) (T_J24_add eq7) eu6 rfl lF_X19_119_J24 fw_J24_java_util_Listadd_Ljava_lang_Object__Z okx_java_util_List_add_Ljava_lang_Object__Z (by decide) (by decide) rfl C1_0 (Nat.le_of_ble_eq_true rfl) dX19_page_87 ?_
    refine R_pop dX19_page_92 rfl ?_
    refine R_aload_n 0 dX19_page_93 rfl rfl ?_
    obtain ⟨u8, eu8, hf⟩ := Option.bind_eq_some_iff.mp hf
    obtain ⟨h9, eh9, hf⟩ := Option.bind_eq_some_iff.mp hf
    refine R_callV (mj := mi_X19_advance) (ci := 16) (q := (RX19, TX19, 4)) (As := []) (rest := []) (T_X19_advance eh9) eu8 rfl lV_X19_88 ⟨rfl, oky_X19_advance⟩ (by decide) (by decide) rfl C1_0 (Nat.le_of_ble_eq_true rfl) dX19_page_94 ?_
    refine R_goto (tgt := 8) dX19_page_97 (by decide) ?_
    exact hr8 x0 x1 h9 hf
noncomputable def f_X19_page_L8  : Nat → Option Nat → Option Nat → PH → Option ((Unit ⊕ Nat) × PH)
  | 0, _, _, _ => none
  | k + 1, x0, x1, h => (gfr 16 2 x0 h).bind (fun t1 => (rcv 17 t1 h).bind (fun u2 => (f_X20_isLetters t1 h).bind (fun q3 => if q3.1 = 0 then (f_X19_page_B100  x0 x1 q3.2) else ((rcv 29 x1 q3.2).bind (fun u4 => (f_J24_size x1 q3.2).bind (fun q5 => if 5 ≤ q5.1 then (f_X19_page_B100  x0 x1 q5.2) else ((gfr 16 2 x0 q5.2).bind (fun t6 => (rcv 17 t6 q5.2).bind (fun u7 => (f_X20_length t6 q5.2).bind (fun q8 => (f_X0_isSide q8.1 q8.2).bind (fun q9 => if q9.1 = 0 then (f_X19_page_B79 (f_X19_page_L8 k) x0 x1 x0 0 q9.2) else ((rcv 29 x1 q9.2).bind (fun u10 => (f_J24_isEmpty x1 q9.2).bind (fun q11 => if q11.1 = 0 then ((rcv 29 x1 q11.2).bind (fun u12 => (f_J24_get x1 0 q11.2).bind (fun q13 => (chk 17 q13.1 q13.2).bind (fun u14 => (rcv 17 q13.1 q13.2).bind (fun u15 => (f_X20_length q13.1 q13.2).bind (fun q16 => (gfr 16 2 x0 q16.2).bind (fun t17 => (rcv 17 t17 q16.2).bind (fun u18 => (f_X20_length t17 q16.2).bind (fun q19 => if q16.1 = q19.1 then (f_X19_page_B79 (f_X19_page_L8 k) x0 x1 x0 1 q19.2) else (f_X19_page_B79 (f_X19_page_L8 k) x0 x1 x0 0 q19.2)))))))))) else (f_X19_page_B79 (f_X19_page_L8 k) x0 x1 x0 1 q11.2)))))))))))))))
theorem f_X19_page_L8_ok {K : KT} {h0 : PH} {a0 : List Value} {q : ((Unit ⊕ Nat) × PH)}  : ∀ (k : Nat) (x0 : Option Nat) (x1 : Option Nat) (h : PH), f_X19_page_L8  k x0 x1 h = some q → R K mi_X19_page h0 a0 (rsV q.1) q.2 8 [(0, va_rf x0), (1, va_rf x1)] [] h := by
  intro k
  induction k with
  | zero => intro _ _ _ hf; cases hf
  | succ k ih =>
    intro x0 x1 h hf
    unfold f_X19_page_L8 at hf
    refine R_aload_n 0 dX19_page_8 rfl rfl ?_
    obtain ⟨t1, et1, hf⟩ := Option.bind_eq_some_iff.mp hf
    refine R_getr lg_X19_69 et1 dX19_page_9 ?_
    obtain ⟨u2, eu2, hf⟩ := Option.bind_eq_some_iff.mp hf
    obtain ⟨q3, eq3, hf⟩ := Option.bind_eq_some_iff.mp hf
    refine R_callV (mj := mi_X20_isLetters) (ci := 17) (q := (RX20, TX20, 3)) (As := []) (rest := []) (T_X20_isLetters eq3) eu2 rfl lV_X19_100 ⟨rfl, oky_X20_isLetters⟩ (by decide) (by decide) rfl C1_0 (Nat.le_of_ble_eq_true rfl) dX19_page_12 ?_
    refine R_ifeq (tgt := 100) dX19_page_15 (by decide) (fun hc => ?_) (fun hc => ?_)
    · rw [if_pos hc] at hf
      exact f_X19_page_B100_ok  x0 x1 q3.2 hf
    · rw [if_neg hc] at hf
      refine R_aload_n 1 dX19_page_18 rfl rfl ?_
      obtain ⟨u4, eu4, hf⟩ := Option.bind_eq_some_iff.mp hf
      obtain ⟨q5, eq5, hf⟩ := Option.bind_eq_some_iff.mp hf
      refine R_callF (y0 := (⟨"java/util/List", "size", "()I"⟩ : MethodName)) (mj := mi_J24_size) (ci := 29) (q := (RJ24, TJ24, 3)) (As := []) (rest := []) (T_J24_size eq5) eu4 rfl lF_X19_103_J24 fw_J24_java_util_Listsize__I okx_java_util_List_size__I (by decide) (by decide) rfl C1_0 (Nat.le_of_ble_eq_true rfl) dX19_page_19 ?_
      refine R_iconst dX19_page_24 k_iconst_5 ?_
      refine R_icge (tgt := 100) dX19_page_25 (by decide) (fun hc => ?_) (fun hc => ?_)
      · rw [if_pos hc] at hf
        exact f_X19_page_B100_ok  x0 x1 q5.2 hf
      · rw [if_neg hc] at hf
        refine R_aload_n 0 dX19_page_28 rfl rfl ?_
        refine R_aload_n 0 dX19_page_29 rfl rfl ?_
        obtain ⟨t6, et6, hf⟩ := Option.bind_eq_some_iff.mp hf
        refine R_getr lg_X19_69 et6 dX19_page_30 ?_
        obtain ⟨u7, eu7, hf⟩ := Option.bind_eq_some_iff.mp hf
        obtain ⟨q8, eq8, hf⟩ := Option.bind_eq_some_iff.mp hf
        refine R_callV (mj := mi_X20_length) (ci := 17) (q := (RX20, TX20, 3)) (As := []) (rest := [va_rf x0]) (T_X20_length eq8) eu7 rfl lV_X19_95 ⟨rfl, oky_X20_length⟩ (by decide) (by decide) rfl (C1_r C1_0) (Nat.le_of_ble_eq_true rfl) dX19_page_33 ?_
        obtain ⟨q9, eq9, hf⟩ := Option.bind_eq_some_iff.mp hf
        refine R_callSN (mj := mi_X0_isSide) (As := [.int q8.1]) (rest := [va_rf x0]) (T_X0_isSide eq9) (lw_meth q1008) q2072 q125 q1007 oky_X0_isSide (by decide) (by decide) rfl (C1_r C1_0) (Nat.le_of_ble_eq_true rfl) dX19_page_36 ?_
        refine R_ifeq (tgt := 78) dX19_page_39 (by decide) (fun hc => ?_) (fun hc => ?_)
        · rw [if_pos hc] at hf
          refine R_iconst dX19_page_78 k_iconst_0 ?_
          exact f_X19_page_B79_ok ih x0 x1 x0 0 q9.2 hf
        · rw [if_neg hc] at hf
          refine R_aload_n 1 dX19_page_42 rfl rfl ?_
          obtain ⟨u10, eu10, hf⟩ := Option.bind_eq_some_iff.mp hf
          obtain ⟨q11, eq11, hf⟩ := Option.bind_eq_some_iff.mp hf
          refine R_callF (y0 := (⟨"java/util/List", "isEmpty", "()Z"⟩ : MethodName)) (mj := mi_J24_isEmpty) (ci := 29) (q := (RJ24, TJ24, 3)) (As := []) (rest := [va_rf x0]) (T_J24_isEmpty eq11) eu10 rfl lF_X19_112_J24 fw_J24_java_util_ListisEmpty__Z okx_java_util_List_isEmpty__Z (by decide) (by decide) rfl (C1_r C1_0) (Nat.le_of_ble_eq_true rfl) dX19_page_43 ?_
          refine R_ifne (tgt := 74) dX19_page_48 (by decide) (fun hc => ?_) (fun hc => ?_)
          · rw [if_pos hc] at hf
            refine R_aload_n 1 dX19_page_51 rfl rfl ?_
            refine R_iconst dX19_page_52 k_iconst_0 ?_
            obtain ⟨u12, eu12, hf⟩ := Option.bind_eq_some_iff.mp hf
            obtain ⟨q13, eq13, hf⟩ := Option.bind_eq_some_iff.mp hf
            refine R_callF (y0 := (⟨"java/util/List", "get", "(I)Ljava/lang/Object;"⟩ : MethodName)) (mj := mi_J24_get) (ci := 29) (q := (RJ24, TJ24, 3)) (As := [.int 0]) (rest := [va_rf x0]) (T_J24_get eq13) eu12 rfl lF_X19_115_J24 fw_J24_java_util_Listget_I_Ljava_lang_Object_ okx_java_util_List_get_I_Ljava_lang_Object_ (by decide) (by decide) rfl (C1_r C1_0) (Nat.le_of_ble_eq_true rfl) dX19_page_53 ?_
            obtain ⟨u14, eu14, hf⟩ := Option.bind_eq_some_iff.mp hf
            refine R_cast eu14 rfl q1816 (Or.inr rfl) dX19_page_58 ?_
            obtain ⟨u15, eu15, hf⟩ := Option.bind_eq_some_iff.mp hf
            obtain ⟨q16, eq16, hf⟩ := Option.bind_eq_some_iff.mp hf
            refine R_callV (mj := mi_X20_length) (ci := 17) (q := (RX20, TX20, 3)) (As := []) (rest := [va_rf x0]) (T_X20_length eq16) eu15 rfl lV_X19_95 ⟨rfl, oky_X20_length⟩ (by decide) (by decide) rfl (C1_r C1_0) (Nat.le_of_ble_eq_true rfl) dX19_page_61 ?_
            refine R_aload_n 0 dX19_page_64 rfl rfl ?_
            obtain ⟨t17, et17, hf⟩ := Option.bind_eq_some_iff.mp hf
            refine R_getr lg_X19_69 et17 dX19_page_65 ?_
            obtain ⟨u18, eu18, hf⟩ := Option.bind_eq_some_iff.mp hf
            obtain ⟨q19, eq19, hf⟩ := Option.bind_eq_some_iff.mp hf
            refine R_callV (mj := mi_X20_length) (ci := 17) (q := (RX20, TX20, 3)) (As := []) (rest := [.int q16.1, va_rf x0]) (T_X20_length eq19) eu18 rfl lV_X19_95 ⟨rfl, oky_X20_length⟩ (by decide) (by decide) rfl (C1_i (C1_r C1_0)) (Nat.le_of_ble_eq_true rfl) dX19_page_68 ?_
            refine R_icne (tgt := 78) dX19_page_71 (by decide) (fun hc => ?_) (fun hc => ?_)
            · rw [if_pos hc] at hf
              refine R_iconst dX19_page_74 k_iconst_1 ?_
              refine R_goto (tgt := 79) dX19_page_75 (by decide) ?_
              exact f_X19_page_B79_ok ih x0 x1 x0 1 q19.2 hf
            · rw [if_neg hc] at hf
              refine R_iconst dX19_page_78 k_iconst_0 ?_
              exact f_X19_page_B79_ok ih x0 x1 x0 0 q19.2 hf
          · rw [if_neg hc] at hf
            refine R_iconst dX19_page_74 k_iconst_1 ?_
            refine R_goto (tgt := 79) dX19_page_75 (by decide) ?_
            exact f_X19_page_B79_ok ih x0 x1 x0 1 q11.2 hf
noncomputable def f_X19_page (x0 : Option Nat) (h : PH) : Option ((Unit ⊕ Nat) × PH) := (nwO 29 3 [.int 0, .null, .int 0] h).bind (fun q1 => (nn q1.1).bind (fun u2 => (f_J24_init q1.1 q1.2).bind (fun h3 => f_X19_page_L8  FU x0 q1.1 h3)))
theorem T_X19_page {K : KT} {x0 : Option Nat} {h : PH} {q : ((Unit ⊕ Nat) × PH)} (hf : f_X19_page x0 h = some q) : T K mi_X19_page [va_rf x0] h (rsV q.1) q.2 := by
  unfold f_X19_page at hf
  refine T_of (by decide +kernel) rfl (C1_r C1_0) (Nat.le_of_ble_eq_true rfl) ?_
  show R K mi_X19_page h [va_rf x0] _ _ 0 [(0, va_rf x0)] [] h
  obtain ⟨q1, eq1, hf⟩ := Option.bind_eq_some_iff.mp hf
  refine R_newO eq1 ty_29 ck_29 ct_29 q2029 q2030 q174 (by decide +kernel) dX19_page_0 ?_
  refine R_dup dX19_page_3 (rf_cat _) ?_
  obtain ⟨u2, eu2, hf⟩ := Option.bind_eq_some_iff.mp hf
  obtain ⟨h3, eh3, hf⟩ := Option.bind_eq_some_iff.mp hf
  refine R_callIx (mj := mi_J24_init) (As := []) (rest := [va_rf q1.1]) eu2 (T_J24_init eh3) (lw_meth q2033) rfl q174 q2031 q2032 rfl oky_J24_init (by decide) (by decide) rfl (C1_r C1_0) (Nat.le_of_ble_eq_true rfl) dX19_page_4 ?_
  refine R_astore_n (L' := [(1, va_rf q1.1), (0, va_rf x0)]) dX19_page_7 rfl (by decide) rfl ?_
  refine R.sub [1, 0] (L' := [(0, va_rf x0), (1, va_rf q1.1)]) rfl ?_
  exact f_X19_page_L8_ok  FU x0 q1.1 h3 hf
theorem lg_X19_215 : LG "EdgeSums$Parser" 215 2 3 := ⟨_, _, _, ck_2, by decide, Or.inr (Or.inl ⟨_, q769⟩)⟩
theorem lV_X19_218 : GoodIn lw_all (wsV "EdgeSums$Parser" 218 "EdgeSums$Parser" yX19_take (ws_ yX19_take cX19_take 2 none)) := lw_V q1953 q1955 qs29 q168 q1956
theorem oky_X19_take : okY yX19_take 1 := ⟨by decide +kernel, by decide +kernel, by decide +kernel⟩
abbrev mi_X19_costs : MI := (RX19, yX19_costs, cX19_costs, 2, none, 10)
noncomputable def f_X19_costs_L2  : Nat → Option Nat → Int32 → PH → Option ((Unit ⊕ Nat) × PH)
  | 0, _, _, _ => none
  | k + 1, x0, x1, h => if 5 ≤ x1 then (some (.inl (), h)) else ((gfr 16 0 x0 h).bind (fun t1 => (gfr 1 0 t1 h).bind (fun t2 => (gfr 2 3 t2 h).bind (fun t3 => (rcv 16 x0 h).bind (fun u4 => (f_X19_value x0 h).bind (fun q5 => (asi 0 t3 x1 q5.1 q5.2).bind (fun h6 => (gfr 16 0 x0 h6).bind (fun t7 => (gfr 1 0 t7 h6).bind (fun t8 => (gfr 2 3 t8 h6).bind (fun t9 => (ald 0 t9 x1 h6).bind (fun t10 => (f_X0_isBetween t10 1 9 h6).bind (fun q11 => (rcv 16 x0 q11.2).bind (fun u12 => (f_X19_take x0 q11.1 q11.2).bind (fun rv13 => match rv13 with | (.inl _, h14) => ((f_X19_costs_L2 k) x0 (x1 + 1) h14) | (.inr a15, h14) => (some (.inr a15, h14))))))))))))))))
theorem f_X19_costs_L2_ok {K : KT} {h0 : PH} {a0 : List Value} {q : ((Unit ⊕ Nat) × PH)}  : ∀ (k : Nat) (x0 : Option Nat) (x1 : Int32) (h : PH), f_X19_costs_L2  k x0 x1 h = some q → R K mi_X19_costs h0 a0 (rsV q.1) q.2 2 [(0, va_rf x0), (1, .int x1)] [] h := by
  intro k
  induction k with
  | zero => intro _ _ _ hf; cases hf
  | succ k ih =>
    intro x0 x1 h hf
    unfold f_X19_costs_L2 at hf
    refine R_iload_n 1 dX19_costs_2 rfl rfl ?_
    refine R_iconst dX19_costs_3 k_iconst_5 ?_
    refine R_icge (tgt := 51) dX19_costs_4 (by decide) (fun hc => ?_) (fun hc => ?_)
    · rw [if_pos hc] at hf
      obtain rfl := Option.some.inj hf
      exact R_return rfl dX19_costs_51
    · rw [if_neg hc] at hf
      refine R_aload_n 0 dX19_costs_7 rfl rfl ?_
      obtain ⟨t1, et1, hf⟩ := Option.bind_eq_some_iff.mp hf
      refine R_getr lg_X19_25 et1 dX19_costs_8 ?_
      obtain ⟨t2, et2, hf⟩ := Option.bind_eq_some_iff.mp hf
      refine R_getr lg_X19_151 et2 dX19_costs_11 ?_
      obtain ⟨t3, et3, hf⟩ := Option.bind_eq_some_iff.mp hf
      refine R_getr lg_X19_215 et3 dX19_costs_14 ?_
      refine R_iload_n 1 dX19_costs_17 rfl rfl ?_
      refine R_aload_n 0 dX19_costs_18 rfl rfl ?_
      obtain ⟨u4, eu4, hf⟩ := Option.bind_eq_some_iff.mp hf
      obtain ⟨q5, eq5, hf⟩ := Option.bind_eq_some_iff.mp hf
      refine R_callV (mj := mi_X19_value) (ci := 16) (q := (RX19, TX19, 4)) (As := []) (rest := [.int x1, va_rf t3]) (T_X19_value eq5) eu4 rfl lV_X19_196 ⟨rfl, oky_X19_value⟩ (by decide) (by decide) rfl (C1_i (C1_r C1_0)) (Nat.le_of_ble_eq_true rfl) dX19_costs_19 ?_
      obtain ⟨h6, eh6, hf⟩ := Option.bind_eq_some_iff.mp hf
      refine R_iastore eh6 dX19_costs_22 ?_
      refine R_aload_n 0 dX19_costs_23 rfl rfl ?_
      refine R_aload_n 0 dX19_costs_24 rfl rfl ?_
      obtain ⟨t7, et7, hf⟩ := Option.bind_eq_some_iff.mp hf
      refine R_getr lg_X19_25 et7 dX19_costs_25 ?_
      obtain ⟨t8, et8, hf⟩ := Option.bind_eq_some_iff.mp hf
      refine R_getr lg_X19_151 et8 dX19_costs_28 ?_
      obtain ⟨t9, et9, hf⟩ := Option.bind_eq_some_iff.mp hf
      refine R_getr lg_X19_215 et9 dX19_costs_31 ?_
      refine R_iload_n 1 dX19_costs_34 rfl rfl ?_
      obtain ⟨t10, et10, hf⟩ := Option.bind_eq_some_iff.mp hf
      refine R_iaload et10 dX19_costs_35 ?_
      refine R_iconst dX19_costs_36 k_iconst_1 ?_
      refine R_bipush dX19_costs_37 k_bipush_9 ?_
      obtain ⟨q11, eq11, hf⟩ := Option.bind_eq_some_iff.mp hf
      refine R_callSN (mj := mi_X0_isBetween) (As := [.int t10, .int 1, .int 9]) (rest := [va_rf x0]) (T_X0_isBetween eq11) (lw_meth q1011) q1814 q125 q1010 oky_X0_isBetween (by decide) (by decide) rfl (C1_r C1_0) (Nat.le_of_ble_eq_true rfl) dX19_costs_39 ?_
      obtain ⟨u12, eu12, hf⟩ := Option.bind_eq_some_iff.mp hf
      obtain ⟨⟨rv13, h14⟩, ev13, hf⟩ := Option.bind_eq_some_iff.mp hf
      cases rv13 with
      | inr a15 =>
        obtain rfl := Option.some.inj hf
        exact R_propV (mj := mi_X19_take) (ci := 16) (q := (RX19, TX19, 4)) (As := [.int q11.1]) (rest := []) (T_X19_take ev13) eu12 rfl lV_X19_218 ⟨rfl, oky_X19_take⟩ (by decide) (by decide) rfl C1_0 (Nat.le_of_ble_eq_true rfl) dX19_costs_42 (by decide +kernel)
      | inl v13 =>
        dsimp only at hf
        refine R_callV (v := none) (mj := mi_X19_take) (ci := 16) (q := (RX19, TX19, 4)) (As := [.int q11.1]) (rest := []) (T_X19_take ev13) eu12 rfl lV_X19_218 ⟨rfl, oky_X19_take⟩ (by decide) (by decide) rfl C1_0 (Nat.le_of_ble_eq_true rfl) dX19_costs_42 ?_
        refine R_iinc (L' := [(1, .int (x1 + 1)), (0, va_rf x0)]) 1 dX19_costs_45 rfl (k_inc_1 _) (by decide) rfl ?_
        refine R_goto (tgt := 2) dX19_costs_48 (by decide) ?_
        refine R.sub [1, 0] (L' := [(0, va_rf x0), (1, .int (x1 + 1))]) rfl ?_
        exact ih x0 (x1 + 1) h14 hf
noncomputable def f_X19_costs (x0 : Option Nat) (h : PH) : Option ((Unit ⊕ Nat) × PH) := f_X19_costs_L2  FU x0 0 h
theorem T_X19_costs {K : KT} {x0 : Option Nat} {h : PH} {q : ((Unit ⊕ Nat) × PH)} (hf : f_X19_costs x0 h = some q) : T K mi_X19_costs [va_rf x0] h (rsV q.1) q.2 := by
  unfold f_X19_costs at hf
  refine T_of (by decide +kernel) rfl (C1_r C1_0) (Nat.le_of_ble_eq_true rfl) ?_
  show R K mi_X19_costs h [va_rf x0] _ _ 0 [(0, va_rf x0)] [] h
  refine R_iconst dX19_costs_0 k_iconst_0 ?_
  refine R_istore_n (L' := [(1, .int 0), (0, va_rf x0)]) dX19_costs_1 rfl (by decide) rfl ?_
  refine R.sub [1, 0] (L' := [(0, va_rf x0), (1, .int 0)]) rfl ?_
  exact f_X19_costs_L2_ok  FU x0 0 h hf
theorem lV_X19_221 : GoodIn lw_all (wsV "EdgeSums$Parser" 221 "EdgeSums$Parser" yX19_page (ws_ yX19_page cX19_page 4 none)) := lw_V q2025 q2027 qs32 q168 q2028
theorem oky_X19_page : okY yX19_page 0 := ⟨by decide +kernel, by decide +kernel, by decide +kernel⟩
theorem lV_X19_223 : GoodIn lw_all (wsV "EdgeSums$Parser" 223 "EdgeSums$Parser" yX19_answer (ws_ yX19_answer cX19_answer 6 none)) := lw_V q2142 q2144 qs37 q168 q2145
theorem oky_X19_answer : okY yX19_answer 0 := ⟨by decide +kernel, by decide +kernel, by decide +kernel⟩
theorem lV_X19_226 : GoodIn lw_all (wsV "EdgeSums$Parser" 226 "EdgeSums$Parser" yX19_clues (ws_ yX19_clues cX19_clues 6 none)) := lw_V q2154 q2156 qs38 q168 q2157
theorem oky_X19_clues : okY yX19_clues 1 := ⟨by decide +kernel, by decide +kernel, by decide +kernel⟩
theorem fp_X19_229 {mi : MI} (ho : mi.own = "EdgeSums$Parser") : FP mi 229 2 2 .int := ⟨_, _, _, ck_2, by decide, by decide +kernel, Or.inl ⟨rfl, by rw [ho]; exact Or.inr (Or.inl ⟨_, q765⟩)⟩⟩
theorem lV_X19_232 : GoodIn lw_all (wsV "EdgeSums$Parser" 232 "EdgeSums$Parser" yX19_costs (ws_ yX19_costs cX19_costs 2 none)) := lw_V q2173 q2175 qs41 q168 q2176
theorem oky_X19_costs : okY yX19_costs 0 := ⟨by decide +kernel, by decide +kernel, by decide +kernel⟩
abbrev mi_X19_item : MI := (RX19, yX19_item, cX19_item, 2, none, 12)
noncomputable def f_X19_item_B100  (x0 : Option Nat) (h : PH) : Option ((Unit ⊕ Nat) × PH) := (rcv 16 x0 h).bind (fun u1 => (f_X19_isStop x0 h).bind (fun q2 => (rcv 16 x0 q2.2).bind (fun u3 => (f_X19_take x0 q2.1 q2.2).bind (fun rv4 => match rv4 with | (.inl _, h5) => (some (.inl (), h5)) | (.inr a6, h5) => (some (.inr a6, h5))))))
theorem f_X19_item_B100_ok {K : KT} {h0 : PH} {a0 : List Value} {q : ((Unit ⊕ Nat) × PH)}  (x0 : Option Nat) (h : PH) (hf : f_X19_item_B100  x0 h = some q) : R K mi_X19_item h0 a0 (rsV q.1) q.2 100 [(0, va_rf x0)] [] h := by
  unfold f_X19_item_B100 at hf
  refine R_aload_n 0 dX19_item_100 rfl rfl ?_
  refine R_aload_n 0 dX19_item_101 rfl rfl ?_
  obtain ⟨u1, eu1, hf⟩ := Option.bind_eq_some_iff.mp hf
  obtain ⟨q2, eq2, hf⟩ := Option.bind_eq_some_iff.mp hf
  refine R_callV (mj := mi_X19_isStop) (ci := 16) (q := (RX19, TX19, 4)) (As := []) (rest := [va_rf x0]) (T_X19_isStop eq2) eu1 rfl lV_X19_123 ⟨rfl, oky_X19_isStop⟩ (by decide) (by decide) rfl (C1_r C1_0) (Nat.le_of_ble_eq_true rfl) dX19_item_102 ?_
  obtain ⟨u3, eu3, hf⟩ := Option.bind_eq_some_iff.mp hf
  obtain ⟨⟨rv4, h5⟩, ev4, hf⟩ := Option.bind_eq_some_iff.mp hf
  cases rv4 with
  | inr a6 =>
    obtain rfl := Option.some.inj hf
    exact R_propV (mj := mi_X19_take) (ci := 16) (q := (RX19, TX19, 4)) (As := [.int q2.1]) (rest := []) (T_X19_take ev4) eu3 rfl lV_X19_218 ⟨rfl, oky_X19_take⟩ (by decide) (by decide) rfl C1_0 (Nat.le_of_ble_eq_true rfl) dX19_item_105 (by decide +kernel)
  | inl v4 =>
    dsimp only at hf
    refine R_callV (v := none) (mj := mi_X19_take) (ci := 16) (q := (RX19, TX19, 4)) (As := [.int q2.1]) (rest := []) (T_X19_take ev4) eu3 rfl lV_X19_218 ⟨rfl, oky_X19_take⟩ (by decide) (by decide) rfl C1_0 (Nat.le_of_ble_eq_true rfl) dX19_item_105 ?_
    obtain rfl := Option.some.inj hf
    exact R_return rfl dX19_item_108
noncomputable def f_X19_item_B66  (x0 : Option Nat) (x1 : Int32) (h : PH) : Option ((Unit ⊕ Nat) × PH) := (rcv 16 x0 h).bind (fun u1 => (f_X19_clues x0 (x1 - 2) h).bind (fun rv2 => match rv2 with | (.inl _, h3) => (f_X19_item_B100  x0 h3) | (.inr a4, h3) => (some (.inr a4, h3))))
theorem f_X19_item_B66_ok {K : KT} {h0 : PH} {a0 : List Value} {q : ((Unit ⊕ Nat) × PH)}  (x0 : Option Nat) (x1 : Int32) (h : PH) (hf : f_X19_item_B66  x0 x1 h = some q) : R K mi_X19_item h0 a0 (rsV q.1) q.2 66 [(0, va_rf x0), (1, .int x1)] [] h := by
  unfold f_X19_item_B66 at hf
  refine R_aload_n 0 dX19_item_66 rfl rfl ?_
  refine R_iload_n 1 dX19_item_67 rfl rfl ?_
  refine R_iconst dX19_item_68 k_iconst_2 ?_
  refine R_isub dX19_item_69 ?_
  obtain ⟨u1, eu1, hf⟩ := Option.bind_eq_some_iff.mp hf
  obtain ⟨⟨rv2, h3⟩, ev2, hf⟩ := Option.bind_eq_some_iff.mp hf
  cases rv2 with
  | inr a4 =>
    obtain rfl := Option.some.inj hf
    exact R_propV (mj := mi_X19_clues) (ci := 16) (q := (RX19, TX19, 4)) (As := [.int (x1 - 2)]) (rest := []) (T_X19_clues ev2) eu1 rfl lV_X19_226 ⟨rfl, oky_X19_clues⟩ (by decide) (by decide) rfl C1_0 (Nat.le_of_ble_eq_true rfl) dX19_item_70 (by decide +kernel)
  | inl v2 =>
    dsimp only at hf
    refine R_callV (v := none) (mj := mi_X19_clues) (ci := 16) (q := (RX19, TX19, 4)) (As := [.int (x1 - 2)]) (rest := []) (T_X19_clues ev2) eu1 rfl lV_X19_226 ⟨rfl, oky_X19_clues⟩ (by decide) (by decide) rfl C1_0 (Nat.le_of_ble_eq_true rfl) dX19_item_70 ?_
    refine R_goto (tgt := 100) dX19_item_73 (by decide) ?_
    refine R.sub [0] (L' := [(0, va_rf x0)]) rfl ?_
    exact f_X19_item_B100_ok  x0 h3 hf
noncomputable def f_X19_item_B12  (x0 : Option Nat) (x1 : Int32) (s0 : Option Nat) (s1 : Int32) (h : PH) : Option ((Unit ⊕ Nat) × PH) := (rcv 16 s0 h).bind (fun u1 => (f_X19_take s0 s1 h).bind (fun rv2 => match rv2 with | (.inl _, h3) => (if x1 = 0 then ((rcv 16 x0 h3).bind (fun u5 => (f_X19_page x0 h3).bind (fun rv6 => match rv6 with | (.inl _, h7) => (f_X19_item_B100  x0 h7) | (.inr a8, h7) => (some (.inr a8, h7))))) else (if x1 = 1 then ((rcv 16 x0 h3).bind (fun u9 => (f_X19_answer x0 h3).bind (fun rv10 => match rv10 with | (.inl _, h11) => (f_X19_item_B100  x0 h11) | (.inr a12, h11) => (some (.inr a12, h11))))) else (if x1 = 2 then (f_X19_item_B66  x0 x1 h3) else (if x1 = 3 then (f_X19_item_B66  x0 x1 h3) else (if x1 = 4 then ((gfr 16 0 x0 h3).bind (fun t13 => (gfr 1 0 t13 h3).bind (fun t14 => (rcv 16 x0 h3).bind (fun u15 => (f_X19_which x0 5 31 h3).bind (fun rv16 => match rv16 with | (.inl v16, h17) => ((pf 2 2 t14 (.int v16) h17).bind (fun h19 => f_X19_item_B100  x0 h19)) | (.inr a18, h17) => (some (.inr a18, h17))))))) else ((rcv 16 x0 h3).bind (fun u20 => (f_X19_costs x0 h3).bind (fun rv21 => match rv21 with | (.inl _, h22) => (f_X19_item_B100  x0 h22) | (.inr a23, h22) => (some (.inr a23, h22)))))))))) | (.inr a4, h3) => (some (.inr a4, h3))))
theorem f_X19_item_B12_ok {K : KT} {h0 : PH} {a0 : List Value} {q : ((Unit ⊕ Nat) × PH)}  (x0 : Option Nat) (x1 : Int32) (s0 : Option Nat) (s1 : Int32) (h : PH) (hf : f_X19_item_B12  x0 x1 s0 s1 h = some q) : R K mi_X19_item h0 a0 (rsV q.1) q.2 12 [(0, va_rf x0), (1, .int x1)] [.int s1, va_rf s0] h := by
  unfold f_X19_item_B12 at hf
  obtain ⟨u1, eu1, hf⟩ := Option.bind_eq_some_iff.mp hf
  obtain ⟨⟨rv2, h3⟩, ev2, hf⟩ := Option.bind_eq_some_iff.mp hf
  cases rv2 with
  | inr a4 =>
    obtain rfl := Option.some.inj hf
    exact R_propV (mj := mi_X19_take) (ci := 16) (q := (RX19, TX19, 4)) (As := [.int s1]) (rest := []) (T_X19_take ev2) eu1 rfl lV_X19_218 ⟨rfl, oky_X19_take⟩ (by decide) (by decide) rfl C1_0 (Nat.le_of_ble_eq_true rfl) dX19_item_12 (by decide +kernel)
  | inl v2 =>
    dsimp only at hf
    refine R_callV (v := none) (mj := mi_X19_take) (ci := 16) (q := (RX19, TX19, 4)) (As := [.int s1]) (rest := []) (T_X19_take ev2) eu1 rfl lV_X19_218 ⟨rfl, oky_X19_take⟩ (by decide) (by decide) rfl C1_0 (Nat.le_of_ble_eq_true rfl) dX19_item_12 ?_
    refine R_iload_n 1 dX19_item_15 rfl rfl ?_
    by_cases hc0 : x1 = 0
    · rw [if_pos hc0] at hf
      refine R_tswIn (tgt := 52) dX19_item_16 (by rw [hc0]; decide) (by rw [hc0]; decide) (by rw [hc0]; rfl) (by decide) ?_
      refine R_aload_n 0 dX19_item_52 rfl rfl ?_
      obtain ⟨u5, eu5, hf⟩ := Option.bind_eq_some_iff.mp hf
      obtain ⟨⟨rv6, h7⟩, ev6, hf⟩ := Option.bind_eq_some_iff.mp hf
      cases rv6 with
      | inr a8 =>
        obtain rfl := Option.some.inj hf
        exact R_propV (mj := mi_X19_page) (ci := 16) (q := (RX19, TX19, 4)) (As := []) (rest := []) (T_X19_page ev6) eu5 rfl lV_X19_221 ⟨rfl, oky_X19_page⟩ (by decide) (by decide) rfl C1_0 (Nat.le_of_ble_eq_true rfl) dX19_item_53 (by decide +kernel)
      | inl v6 =>
        dsimp only at hf
        refine R_callV (v := none) (mj := mi_X19_page) (ci := 16) (q := (RX19, TX19, 4)) (As := []) (rest := []) (T_X19_page ev6) eu5 rfl lV_X19_221 ⟨rfl, oky_X19_page⟩ (by decide) (by decide) rfl C1_0 (Nat.le_of_ble_eq_true rfl) dX19_item_53 ?_
        refine R_goto (tgt := 100) dX19_item_56 (by decide) ?_
        refine R.sub [0] (L' := [(0, va_rf x0)]) rfl ?_
        exact f_X19_item_B100_ok  x0 h7 hf
    · rw [if_neg hc0] at hf
      by_cases hc1 : x1 = 1
      · rw [if_pos hc1] at hf
        refine R_tswIn (tgt := 59) dX19_item_16 (by rw [hc1]; decide) (by rw [hc1]; decide) (by rw [hc1]; rfl) (by decide) ?_
        refine R_aload_n 0 dX19_item_59 rfl rfl ?_
        obtain ⟨u9, eu9, hf⟩ := Option.bind_eq_some_iff.mp hf
        obtain ⟨⟨rv10, h11⟩, ev10, hf⟩ := Option.bind_eq_some_iff.mp hf
        cases rv10 with
        | inr a12 =>
          obtain rfl := Option.some.inj hf
          exact R_propV (mj := mi_X19_answer) (ci := 16) (q := (RX19, TX19, 4)) (As := []) (rest := []) (T_X19_answer ev10) eu9 rfl lV_X19_223 ⟨rfl, oky_X19_answer⟩ (by decide) (by decide) rfl C1_0 (Nat.le_of_ble_eq_true rfl) dX19_item_60 (by decide +kernel)
        | inl v10 =>
          dsimp only at hf
          refine R_callV (v := none) (mj := mi_X19_answer) (ci := 16) (q := (RX19, TX19, 4)) (As := []) (rest := []) (T_X19_answer ev10) eu9 rfl lV_X19_223 ⟨rfl, oky_X19_answer⟩ (by decide) (by decide) rfl C1_0 (Nat.le_of_ble_eq_true rfl) dX19_item_60 ?_
          refine R_goto (tgt := 100) dX19_item_63 (by decide) ?_
          refine R.sub [0] (L' := [(0, va_rf x0)]) rfl ?_
          exact f_X19_item_B100_ok  x0 h11 hf
      · rw [if_neg hc1] at hf
        by_cases hc2 : x1 = 2
        · rw [if_pos hc2] at hf
          refine R_tswIn (tgt := 66) dX19_item_16 (by rw [hc2]; decide) (by rw [hc2]; decide) (by rw [hc2]; rfl) (by decide) ?_
          exact f_X19_item_B66_ok  x0 x1 h3 hf
        · rw [if_neg hc2] at hf
          by_cases hc3 : x1 = 3
          · rw [if_pos hc3] at hf
            refine R_tswIn (tgt := 66) dX19_item_16 (by rw [hc3]; decide) (by rw [hc3]; decide) (by rw [hc3]; rfl) (by decide) ?_
            exact f_X19_item_B66_ok  x0 x1 h3 hf
          · rw [if_neg hc3] at hf
            by_cases hc4 : x1 = 4
            · rw [if_pos hc4] at hf
              refine R_tswIn (tgt := 76) dX19_item_16 (by rw [hc4]; decide) (by rw [hc4]; decide) (by rw [hc4]; rfl) (by decide) ?_
              refine R_aload_n 0 dX19_item_76 rfl rfl ?_
              obtain ⟨t13, et13, hf⟩ := Option.bind_eq_some_iff.mp hf
              refine R_getr lg_X19_25 et13 dX19_item_77 ?_
              obtain ⟨t14, et14, hf⟩ := Option.bind_eq_some_iff.mp hf
              refine R_getr lg_X19_151 et14 dX19_item_80 ?_
              refine R_aload_n 0 dX19_item_83 rfl rfl ?_
              refine R_iconst dX19_item_84 k_iconst_5 ?_
              refine R_bipush dX19_item_85 k_bipush_31 ?_
              obtain ⟨u15, eu15, hf⟩ := Option.bind_eq_some_iff.mp hf
              obtain ⟨⟨rv16, h17⟩, ev16, hf⟩ := Option.bind_eq_some_iff.mp hf
              cases rv16 with
              | inr a18 =>
                obtain rfl := Option.some.inj hf
                exact R_propV (mj := mi_X19_which) (ci := 16) (q := (RX19, TX19, 4)) (As := [.int 5, .int 31]) (rest := [va_rf t14]) (T_X19_which ev16) eu15 rfl lV_X19_208 ⟨rfl, oky_X19_which⟩ (by decide) (by decide) rfl (C1_r C1_0) (Nat.le_of_ble_eq_true rfl) dX19_item_87 (by decide +kernel)
              | inl v16 =>
                dsimp only at hf
                refine R_callV (v := some (.int v16)) (mj := mi_X19_which) (ci := 16) (q := (RX19, TX19, 4)) (As := [.int 5, .int 31]) (rest := [va_rf t14]) (T_X19_which ev16) eu15 rfl lV_X19_208 ⟨rfl, oky_X19_which⟩ (by decide) (by decide) rfl (C1_r C1_0) (Nat.le_of_ble_eq_true rfl) dX19_item_87 ?_
                obtain ⟨h19, eh19, hf⟩ := Option.bind_eq_some_iff.mp hf
                refine R_putI (fp_X19_229 rfl) eh19 dX19_item_90 ?_
                refine R_goto (tgt := 100) dX19_item_93 (by decide) ?_
                refine R.sub [0] (L' := [(0, va_rf x0)]) rfl ?_
                exact f_X19_item_B100_ok  x0 h19 hf
            · rw [if_neg hc4] at hf
              refine R_tswOut (tgt := 96) dX19_item_16 (by have := (⟨i32_ne hc0, i32_ne hc1, i32_ne hc2, i32_ne hc3, i32_ne hc4, trivial⟩ : x1.toInt ≠ 0 ∧ x1.toInt ≠ 1 ∧ x1.toInt ≠ 2 ∧ x1.toInt ≠ 3 ∧ x1.toInt ≠ 4 ∧ True); omega) (by decide) ?_
              refine R_aload_n 0 dX19_item_96 rfl rfl ?_
              obtain ⟨u20, eu20, hf⟩ := Option.bind_eq_some_iff.mp hf
              obtain ⟨⟨rv21, h22⟩, ev21, hf⟩ := Option.bind_eq_some_iff.mp hf
              cases rv21 with
              | inr a23 =>
                obtain rfl := Option.some.inj hf
                exact R_propV (mj := mi_X19_costs) (ci := 16) (q := (RX19, TX19, 4)) (As := []) (rest := []) (T_X19_costs ev21) eu20 rfl lV_X19_232 ⟨rfl, oky_X19_costs⟩ (by decide) (by decide) rfl C1_0 (Nat.le_of_ble_eq_true rfl) dX19_item_97 (by decide +kernel)
              | inl v21 =>
                dsimp only at hf
                refine R_callV (v := none) (mj := mi_X19_costs) (ci := 16) (q := (RX19, TX19, 4)) (As := []) (rest := []) (T_X19_costs ev21) eu20 rfl lV_X19_232 ⟨rfl, oky_X19_costs⟩ (by decide) (by decide) rfl C1_0 (Nat.le_of_ble_eq_true rfl) dX19_item_97 ?_
                refine R.sub [0] (L' := [(0, va_rf x0)]) rfl ?_
                exact f_X19_item_B100_ok  x0 h22 hf
noncomputable def f_X19_item (x0 : Option Nat) (x1 : Int32) (h : PH) : Option ((Unit ⊕ Nat) × PH) := if x1 = (-99) then (f_X19_item_B12  x0 x1 x0 0 h) else (f_X19_item_B12  x0 x1 x0 1 h)
theorem T_X19_item {K : KT} {x0 : Option Nat} {x1 : Int32} {h : PH} {q : ((Unit ⊕ Nat) × PH)} (hf : f_X19_item x0 x1 h = some q) : T K mi_X19_item [va_rf x0, .int x1] h (rsV q.1) q.2 := by
  unfold f_X19_item at hf
  refine T_of (by decide +kernel) rfl (C1_r (C1_i C1_0)) (Nat.le_of_ble_eq_true rfl) ?_
  show R K mi_X19_item h [va_rf x0, .int x1] _ _ 0 [(0, va_rf x0), (1, .int x1)] [] h
  refine R_aload_n 0 dX19_item_0 rfl rfl ?_
  refine R_iload_n 1 dX19_item_1 rfl rfl ?_
  refine R_bipush dX19_item_2 k_bipush_m99 ?_
  refine R_iceq (tgt := 11) dX19_item_4 (by decide) (fun hc => ?_) (fun hc => ?_)
  · rw [if_pos hc] at hf
    refine R_iconst dX19_item_11 k_iconst_0 ?_
    exact f_X19_item_B12_ok  x0 x1 x0 0 h hf
  · rw [if_neg hc] at hf
    refine R_iconst dX19_item_7 k_iconst_1 ?_
    refine R_goto (tgt := 12) dX19_item_8 (by decide) ?_
    exact f_X19_item_B12_ok  x0 x1 x0 1 h hf
theorem lV_X19_253 : GoodIn lw_all (wsV "EdgeSums$Parser" 253 "EdgeSums$Sheet" yX2_reset (ws_ yX2_reset cX2_reset 1 none)) := lw_V q2177 q725 q726 q127 q727
theorem lS_X19_246 : GoodIn lw_all (va_wsS "EdgeSums$Parser" 246 yX19_kind (ws_ yX19_kind cX19_kind 3 (some FieldType.int))) := lw_S q1837 q1838 q168 q1839
theorem oky_X19_kind : okY yX19_kind 1 := ⟨by decide +kernel, by decide +kernel, by decide +kernel⟩
theorem lV_X19_250 : GoodIn lw_all (wsV "EdgeSums$Parser" 250 "EdgeSums$Parser" yX19_item (ws_ yX19_item cX19_item 2 none)) := lw_V q1949 q1951 qs28 q168 q1952
theorem oky_X19_item : okY yX19_item 1 := ⟨by decide +kernel, by decide +kernel, by decide +kernel⟩
abbrev mi_X19_items : MI := (RX19, yX19_items, cX19_items, 2, (some FieldType.int), 13)
noncomputable def f_X19_items_L6  : Nat → Option Nat → Int32 → PH → Option ((Int32 ⊕ Nat) × PH)
  | 0, _, _, _ => none
  | k + 1, x0, x1, h => (gfr 16 2 x0 h).bind (fun t1 => (rcv 17 t1 h).bind (fun u2 => (f_X20_length t1 h).bind (fun q3 => if q3.1 ≤ 0 then ((gfr 16 0 x0 q3.2).bind (fun t4 => (gfr 1 0 t4 q3.2).bind (fun t5 => (rcv 2 t5 q3.2).bind (fun u6 => (f_X2_reset t5 q3.2).bind (fun h7 => some (.inl x1, h7)))))) else ((gfr 16 2 x0 q3.2).bind (fun t8 => (f_X19_kind t8 q3.2).bind (fun q9 => (rcv 16 x0 q9.2).bind (fun u10 => (f_X19_item x0 q9.1 q9.2).bind (fun rv11 => match rv11 with | (.inl _, h12) => ((f_X19_items_L6 k) x0 (x1 + 1) h12) | (.inr a13, h12) => (some (.inr a13, h12))))))))))
theorem f_X19_items_L6_ok {K : KT} {h0 : PH} {a0 : List Value} {q : ((Int32 ⊕ Nat) × PH)}  : ∀ (k : Nat) (x0 : Option Nat) (x1 : Int32) (h : PH), f_X19_items_L6  k x0 x1 h = some q → R K mi_X19_items h0 a0 (rsI q.1) q.2 6 [(0, va_rf x0), (1, .int x1)] [] h := by
  intro k
  induction k with
  | zero => intro _ _ _ hf; cases hf
  | succ k ih =>
    intro x0 x1 h hf
    unfold f_X19_items_L6 at hf
    refine R_aload_n 0 dX19_items_6 rfl rfl ?_
    obtain ⟨t1, et1, hf⟩ := Option.bind_eq_some_iff.mp hf
    refine R_getr lg_X19_69 et1 dX19_items_7 ?_
    obtain ⟨u2, eu2, hf⟩ := Option.bind_eq_some_iff.mp hf
    obtain ⟨q3, eq3, hf⟩ := Option.bind_eq_some_iff.mp hf
    refine R_callV (mj := mi_X20_length) (ci := 17) (q := (RX20, TX20, 3)) (As := []) (rest := []) (T_X20_length eq3) eu2 rfl lV_X19_95 ⟨rfl, oky_X20_length⟩ (by decide) (by decide) rfl C1_0 (Nat.le_of_ble_eq_true rfl) dX19_items_10 ?_
    refine R_ifle (tgt := 33) dX19_items_13 (by decide) (fun hc => ?_) (fun hc => ?_)
    · rw [if_pos hc] at hf
      refine R_aload_n 0 dX19_items_33 rfl rfl ?_
      obtain ⟨t4, et4, hf⟩ := Option.bind_eq_some_iff.mp hf
      refine R_getr lg_X19_25 et4 dX19_items_34 ?_
      obtain ⟨t5, et5, hf⟩ := Option.bind_eq_some_iff.mp hf
      refine R_getr lg_X19_151 et5 dX19_items_37 ?_
      obtain ⟨u6, eu6, hf⟩ := Option.bind_eq_some_iff.mp hf
      obtain ⟨h7, eh7, hf⟩ := Option.bind_eq_some_iff.mp hf
      refine R_callV (mj := mi_X2_reset) (ci := 2) (q := (RX2, TX2, 4)) (As := []) (rest := []) (T_X2_reset eh7) eu6 rfl lV_X19_253 ⟨rfl, oky_X2_reset⟩ (by decide) (by decide) rfl C1_0 (Nat.le_of_ble_eq_true rfl) dX19_items_40 ?_
      refine R_iload_n 1 dX19_items_43 rfl rfl ?_
      obtain rfl := Option.some.inj hf
      exact R_iretI rfl dX19_items_44
    · rw [if_neg hc] at hf
      refine R_aload_n 0 dX19_items_16 rfl rfl ?_
      refine R_aload_n 0 dX19_items_17 rfl rfl ?_
      obtain ⟨t8, et8, hf⟩ := Option.bind_eq_some_iff.mp hf
      refine R_getr lg_X19_69 et8 dX19_items_18 ?_
      obtain ⟨q9, eq9, hf⟩ := Option.bind_eq_some_iff.mp hf
      refine R_callS (mj := mi_X19_kind) (As := [va_rf t8]) (rest := [va_rf x0]) (T_X19_kind eq9) lS_X19_246 oky_X19_kind (by decide) (by decide) rfl (C1_r C1_0) (Nat.le_of_ble_eq_true rfl) dX19_items_21 ?_
      obtain ⟨u10, eu10, hf⟩ := Option.bind_eq_some_iff.mp hf
      obtain ⟨⟨rv11, h12⟩, ev11, hf⟩ := Option.bind_eq_some_iff.mp hf
      cases rv11 with
      | inr a13 =>
        obtain rfl := Option.some.inj hf
        exact R_propV (mj := mi_X19_item) (ci := 16) (q := (RX19, TX19, 4)) (As := [.int q9.1]) (rest := []) (T_X19_item ev11) eu10 rfl lV_X19_250 ⟨rfl, oky_X19_item⟩ (by decide) (by decide) rfl C1_0 (Nat.le_of_ble_eq_true rfl) dX19_items_24 (by decide +kernel)
      | inl v11 =>
        dsimp only at hf
        refine R_callV (v := none) (mj := mi_X19_item) (ci := 16) (q := (RX19, TX19, 4)) (As := [.int q9.1]) (rest := []) (T_X19_item ev11) eu10 rfl lV_X19_250 ⟨rfl, oky_X19_item⟩ (by decide) (by decide) rfl C1_0 (Nat.le_of_ble_eq_true rfl) dX19_items_24 ?_
        refine R_iinc (L' := [(1, .int (x1 + 1)), (0, va_rf x0)]) 1 dX19_items_27 rfl (k_inc_1 _) (by decide) rfl ?_
        refine R_goto (tgt := 6) dX19_items_30 (by decide) ?_
        refine R.sub [1, 0] (L' := [(0, va_rf x0), (1, .int (x1 + 1))]) rfl ?_
        exact ih x0 (x1 + 1) h12 hf
noncomputable def f_X19_items (x0 : Option Nat) (h : PH) : Option ((Int32 ⊕ Nat) × PH) := (rcv 16 x0 h).bind (fun u1 => (f_X19_advance x0 h).bind (fun h2 => f_X19_items_L6  FU x0 0 h2))
theorem T_X19_items {K : KT} {x0 : Option Nat} {h : PH} {q : ((Int32 ⊕ Nat) × PH)} (hf : f_X19_items x0 h = some q) : T K mi_X19_items [va_rf x0] h (rsI q.1) q.2 := by
  unfold f_X19_items at hf
  refine T_of (by decide +kernel) rfl (C1_r C1_0) (Nat.le_of_ble_eq_true rfl) ?_
  show R K mi_X19_items h [va_rf x0] _ _ 0 [(0, va_rf x0)] [] h
  refine R_iconst dX19_items_0 k_iconst_0 ?_
  refine R_istore_n (L' := [(1, .int 0), (0, va_rf x0)]) dX19_items_1 rfl (by decide) rfl ?_
  refine R_aload_n 1 dX19_items_2 rfl rfl ?_
  obtain ⟨u1, eu1, hf⟩ := Option.bind_eq_some_iff.mp hf
  obtain ⟨h2, eh2, hf⟩ := Option.bind_eq_some_iff.mp hf
  refine R_callV (mj := mi_X19_advance) (ci := 16) (q := (RX19, TX19, 4)) (As := []) (rest := []) (T_X19_advance eh2) eu1 rfl lV_X19_88 ⟨rfl, oky_X19_advance⟩ (by decide) (by decide) rfl C1_0 (Nat.le_of_ble_eq_true rfl) dX19_items_3 ?_
  refine R.sub [1, 0] (L' := [(0, va_rf x0), (1, .int 0)]) rfl ?_
  exact f_X19_items_L6_ok  FU x0 0 h2 hf
theorem oky_X19_init : okY yX19_init 1 := ⟨by decide +kernel, by decide +kernel, by decide +kernel⟩
theorem lV_X0_313 : GoodIn lw_all (wsV "EdgeSums" 313 "EdgeSums$Parser" yX19_items (ws_ yX19_items cX19_items 2 (some FieldType.int))) := lw_V q1787 q1788 q1789 q168 q1790
theorem oky_X19_items : okY yX19_items 0 := ⟨by decide +kernel, by decide +kernel, by decide +kernel⟩
theorem lg_X0_321 : LG "EdgeSums" 321 16 0 := ⟨_, _, _, ck_16, by decide, Or.inr (Or.inl ⟨_, q1774⟩)⟩
theorem ck_18 : CK 18 RX21 TX21 7 := ⟨rfl, in_X21, ⟨tyX21, tyX21_ok⟩, nmX21⟩
abbrev ty_18 : Nat → FieldType := tyX21
theorem ct_18 : ∀ k, k < 7 → parseFieldDescriptor (TX21 k).2.2.1 = some (ty_18 k) := tyX21_ok
theorem lg_X0_318 : LG "EdgeSums" 318 18 6 := ⟨_, _, _, ck_18, by decide, Or.inr (Or.inl ⟨_, q2009⟩)⟩
abbrev mi_X0_load : MI := (RX0, yX0_load, cX0_load, 4, (some FieldType.int), 14)
noncomputable def f_X0_load (x0 : Option Nat) (h : PH) : Option (Int32 × PH) := (nwO 16 4 [.null, .int 0, .null, .null] h).bind (fun q1 => (nn q1.1).bind (fun u2 => (f_X19_init q1.1 x0 q1.2).bind (fun h3 => (rcv 16 q1.1 h3).bind (fun u4 => (f_X19_items q1.1 h3).bind (fun rv5 => match rv5 with | (.inl v5, h6) => ((gfr 16 0 q1.1 h6).bind (fun t8 => (rcv 0 x0 h6).bind (fun u9 => (f_X0_replace x0 t8 h6).bind (fun h10 => (gfr 0 2 x0 h10).bind (fun t11 => (rcv 27 t11 h10).bind (fun u12 => (f_J17_setLength t11 0 h10).bind (fun h13 => some (v5, h13)))))))) | (.inr a7, h6) => ((gfi 18 6 (some a7) h6).bind (fun t14 => some ((-1000) - t14, h6))))))))
theorem T_X0_load {K : KT} {x0 : Option Nat} {h : PH} {q : (Int32 × PH)} (hf : f_X0_load x0 h = some q) : TL K mi_X0_load [va_rf x0] h (some (.int q.1)) q.2 := by
  unfold f_X0_load at hf
  refine TL_of (by decide +kernel) rfl (C1_r C1_0) (Nat.le_of_ble_eq_true rfl) ?_ rfl
  show R K mi_X0_load h [va_rf x0] _ _ 0 [(0, va_rf x0)] [] h
  obtain ⟨q1, eq1, hf⟩ := Option.bind_eq_some_iff.mp hf
  refine R_newO eq1 ty_16 ck_16 ct_16 q1766 q1767 q168 (by decide +kernel) dX0_load_0 ?_
  refine R_dup dX0_load_3 (rf_cat _) ?_
  refine R_aload_n 0 dX0_load_4 rfl rfl ?_
  obtain ⟨u2, eu2, hf⟩ := Option.bind_eq_some_iff.mp hf
  obtain ⟨h3, eh3, hf⟩ := Option.bind_eq_some_iff.mp hf
  refine R_callINx (mj := mi_X19_init) (As := [va_rf x0]) (rest := [va_rf q1.1]) eu2 (T_X19_init eh3) (lw_meth q1770) rfl q1768 q168 q1769 rfl oky_X19_init (by decide) (by decide) rfl (C1_r C1_0) (Nat.le_of_ble_eq_true rfl) dX0_load_5 ?_
  refine R_astore_n (L' := [(1, va_rf q1.1), (0, va_rf x0)]) dX0_load_8 rfl (by decide) rfl ?_
  refine R_aload_n 0 dX0_load_9 rfl rfl ?_
  obtain ⟨u4, eu4, hf⟩ := Option.bind_eq_some_iff.mp hf
  obtain ⟨⟨rv5, h6⟩, ev5, hf⟩ := Option.bind_eq_some_iff.mp hf
  cases rv5 with
  | inr a7 =>
    refine R_catchV (mj := mi_X19_items) (ci := 16) (q := (RX19, TX19, 4)) (As := []) (rest := []) (T_X19_items ev5) eu4 rfl lV_X0_313 ⟨rfl, oky_X19_items⟩ (by decide) (by decide) rfl C1_0 (Nat.le_of_ble_eq_true rfl) dX0_load_10 rfl rfl (by decide) ?_
    refine R_astore_n (L' := [(3, va_rf (some a7)), (1, va_rf q1.1), (0, va_rf x0)]) dX0_load_17 rfl (by decide) rfl ?_
    refine R_sipush dX0_load_18 k_sipush_m1000 ?_
    refine R_aload_n 0 dX0_load_21 rfl rfl ?_
    obtain ⟨t14, et14, hf⟩ := Option.bind_eq_some_iff.mp hf
    refine R_geti lg_X0_318 et14 dX0_load_22 ?_
    refine R_isub dX0_load_25 ?_
    obtain rfl := Option.some.inj hf
    exact R_iretI rfl dX0_load_26
  | inl v5 =>
    dsimp only at hf
    refine R_callV (v := some (.int v5)) (mj := mi_X19_items) (ci := 16) (q := (RX19, TX19, 4)) (As := []) (rest := []) (T_X19_items ev5) eu4 rfl lV_X0_313 ⟨rfl, oky_X19_items⟩ (by decide) (by decide) rfl C1_0 (Nat.le_of_ble_eq_true rfl) dX0_load_10 ?_
    refine R_istore_n (L' := [(2, .int v5), (1, va_rf q1.1), (0, va_rf x0)]) dX0_load_13 rfl (by decide) rfl ?_
    refine R_goto (tgt := 27) dX0_load_14 (by decide) ?_
    refine R_aload_n 2 dX0_load_27 rfl rfl ?_
    refine R_aload_n 1 dX0_load_28 rfl rfl ?_
    obtain ⟨t8, et8, hf⟩ := Option.bind_eq_some_iff.mp hf
    refine R_getr lg_X0_321 et8 dX0_load_29 ?_
    obtain ⟨u9, eu9, hf⟩ := Option.bind_eq_some_iff.mp hf
    obtain ⟨h10, eh10, hf⟩ := Option.bind_eq_some_iff.mp hf
    refine R_callV (mj := mi_X0_replace) (ci := 0) (q := (RX0, TX0, 4)) (As := [va_rf t8]) (rest := []) (T_X0_replace eh10) eu9 rfl lV_X0_86 ⟨rfl, oky_X0_replace⟩ (by decide) (by decide) rfl C1_0 (Nat.le_of_ble_eq_true rfl) dX0_load_32 ?_
    refine R_aload_n 2 dX0_load_35 rfl rfl ?_
    obtain ⟨t11, et11, hf⟩ := Option.bind_eq_some_iff.mp hf
    refine R_getr lg_X0_47 et11 dX0_load_36 ?_
    refine R_iconst dX0_load_39 k_iconst_0 ?_
    obtain ⟨u12, eu12, hf⟩ := Option.bind_eq_some_iff.mp hf
    obtain ⟨h13, eh13, hf⟩ := Option.bind_eq_some_iff.mp hf
    refine R_callV (mj := mi_J17_setLength) (ci := 27) (q := (RJ17, TJ17, 4)) (As := [.int 0]) (rest := []) (T_J17_setLength eh13) eu12 rfl lV_X0_305 ⟨rfl, oky_J17_setLength⟩ (by decide) (by decide) rfl C1_0 (Nat.le_of_ble_eq_true rfl) dX0_load_40 ?_
    refine R_iload_n 0 dX0_load_43 rfl rfl ?_
    obtain rfl := Option.some.inj hf
    exact R_iretI rfl dX0_load_44
