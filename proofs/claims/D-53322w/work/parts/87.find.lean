/-! PLAIN LAW: the class: the solver finds -/
set_option maxRecDepth 100000
theorem clr_dec : ∀ S, S < 128 → S ≠ 0 → (S &&& (S - 1)) < S ∧ ∀ j, j < 7 → (S &&& (S - 1)).testBit j = (S.testBit j && !(j == lo S)) := by decide +kernel
section CF87
variable {h : PH} {p mm b v ra : Nat} {ms ru : Nat → Nat} {s w : Nat → Nat}
theorem cs_L20 {r2 : Option Nat → Option Nat → Int32 → PH → Option (Int32 × PH)} {c r : Nat} (C : CU h p mm ms s w b v ra ru) (hb : WB s w) (hr : r < 5) (hc : c < nc s) : ∀ (N S k : Nat) (q : Int32 × Int32 × Int32), S < N → N ≤ 128 → S < k → S.testBit 0 = false →
    ∃ q', f_X5_findCell_L20 r2 k (some v) (some b) (I c) (I S) (sol h v ra (I r, q)) = (match firstI (fun j => S.testBit (j + 1) && (causeC s w r c (j + 1)).isSome) 6 with | some j => some (I 1, sol h v ra (I r, I c, I (j + 1), cz (causeC s w r c (j + 1)))) | none => r2 (some v) (some b) (I (c + 1)) (sol h v ra (I r, q'))) := by
  intro N
  induction N with
  | zero => intro S k q h1; omega
  | succ N ih =>
    intro S k q h1 hN hk h0
    obtain ⟨k, rfl⟩ : ∃ k', k = k' + 1 := ⟨k - 1, by omega⟩
    by_cases z : S = 0
    · subst z
      have e : firstI (fun j => (0 : Nat).testBit (j + 1) && (causeC s w r c (j + 1)).isSome) 6 = none := by
        rw [firstI_none]; intro i hi; simp
      rw [e]
      refine ⟨q, ?_⟩
      simp (disch := first | omega | assumption) only [f_X5_findCell_L20, lit_I, if_true, I_add]
    · have hS : S < 128 := by omega
      obtain ⟨b1, b2⟩ := clr_dec S hS z
      obtain ⟨l1, l2, l3⟩ := lo_spec z (show S < 2147483648 by omega)
      have l7 := lo_lt7 z hS
      have lp : 1 ≤ lo S := by
        rcases Nat.eq_zero_or_pos (lo S) with e | e
        · rw [e, h0] at l2; cases l2
        · exact e
      have hst := cs_isStrike (q2 := q.1) (q3 := q.2.1) (q4 := q.2.2) C hb hr hc (show lo S ≤ 6 by omega)
      have hle := cl_least (h := sol h v ra (I r, q)) z (show S < 2147483648 by omega)
      cases ho : (causeC s w r c (lo S)).isSome with
      | true =>
        have e : firstI (fun j => S.testBit (j + 1) && (causeC s w r c (j + 1)).isSome) 6 = some (lo S - 1) := by
          rw [firstI_some]
          have e1 : lo S - 1 + 1 = lo S := by omega
          refine ⟨by omega, by simp only [e1, l2, ho, Bool.and_self], fun i hi => ?_⟩
          simp only [l3 (i + 1) (by omega), Bool.false_and]
        rw [e]
        rw [ho] at hst
        refine ⟨q, ?_⟩
        have e1 : lo S - 1 + 1 = lo S := by omega
        show _ = some (I 1, sol h v ra (I r, I c, I (lo S - 1 + 1), cz (causeC s w r c (lo S - 1 + 1))))
        rw [e1]
        simp (disch := first | omega | assumption) only [f_X5_findCell_L20, I_eq, if_neg, lit_I, hle, Option.bind_some, sv_rc, hst, bit_0, not_true_eq_false, if_false]
      | false =>
        rw [ho] at hst
        obtain ⟨q', hq⟩ := ih (S &&& (S - 1)) k (I c, I (lo S), cz (causeC s w r c (lo S))) (by omega) (by omega) (by omega) (by rw [b2 0 (by omega), h0]; rfl)
        refine ⟨q', ?_⟩
        have e : firstI (fun j => (S &&& (S - 1)).testBit (j + 1) && (causeC s w r c (j + 1)).isSome) 6 = firstI (fun j => S.testBit (j + 1) && (causeC s w r c (j + 1)).isSome) 6 := by
          refine firstI_congr (fun j hj => ?_)
          rw [b2 (j + 1) (by omega)]
          by_cases e : j + 1 = lo S
          · rw [e, ho]; simp
          · rw [beq_false_of_ne e, Bool.not_false, Bool.and_true]
        rw [e] at hq
        rw [← hq]
        simp (disch := first | omega | assumption) only [f_X5_findCell_L20, I_eq, if_neg, lit_I, hle, Option.bind_some, sv_rc, hst, Bool.false_eq_true, bit_F', if_true, I_sub, I_and]
theorem cs_L2 {r : Nat} (C : CU h p mm ms s w b v ra ru) (hb : WB s w) (hr : r < 5) : ∀ (d c k : Nat) (q : Int32 × Int32 × Int32), c + d = nc s → d < k →
    ∃ q', f_X5_findCell_L2 k (some v) (some b) (I c) (sol h v ra (I r, q)) = some (I (bit (((firstFrom (fun c => (numC s w r c).isSome) d c).bind (fun c => stepRC s w r c)).isSome = true)), sol h v ra (I r, q')) ∧ ∀ t, (firstFrom (fun c => (numC s w r c).isSome) d c).bind (fun c => stepRC s w r c) = some t → t.1 = r ∧ q' = (I t.2.1, I t.2.2.1, I t.2.2.2) := by
  have hn := nc_le C.2.2.2.1
  intro d
  induction d with
  | zero =>
    intro c k q hc hk
    obtain ⟨k, rfl⟩ : ∃ k', k = k' + 1 := ⟨k - 1, by omega⟩
    have C1 := C.sol (q := (I r, q))
    refine ⟨q, ?_, fun t ht => by simp [firstFrom] at ht⟩
    have e : ((firstFrom (fun c => (numC s w r c).isSome) 0 c).bind (fun c => stepRC s w r c)).isSome = false := rfl
    rw [e]
    simp (disch := first | omega | assumption) only [f_X5_findCell_L2, C1.2.1.r0, C1.1.rc, cp_cells C1.1, Option.bind_some, I_le, if_pos, lit_I, Bool.false_eq_true, bit_F']
  | succ d ih =>
    intro c k q hc hk
    obtain ⟨k, rfl⟩ : ∃ k', k = k' + 1 := ⟨k - 1, by omega⟩
    have C1 := C.sol (q := (I r, q))
    have hcc : c < nc s := by omega
    have hw := hb c hcc
    have h0 := C.2.2.2.2.2.2.2.2.2 c hcc
    obtain ⟨q', hq⟩ := cs_L20 (r2 := f_X5_findCell_L2 k) C hb hr hcc 128 (w c) FU q (by omega) (by omega) (by rw [FU_eq]; omega) h0
    have e0 : (fun j => (w c).testBit (j + 1) && (causeC s w r c (j + 1)).isSome) = fun k => numP s w r c (k + 1) := rfl
    rw [e0] at hq
    cases hnum : numC s w r c with
    | some j =>
      have hnum' := hnum
      unfold numC at hnum
      rw [hnum] at hq
      have hnum2 := hnum
      rw [firstI_some] at hnum2
      obtain ⟨z, hz⟩ := isSome_ex ((Bool.and_eq_true _ _ ▸ hnum2.2.1).2)
      have e : (firstFrom (fun c => (numC s w r c).isSome) (d + 1) c).bind (fun c => stepRC s w r c) = some (r, c, j + 1, z) := by
        simp [firstFrom, hnum', stepRC, hz]
      refine ⟨(I c, I (j + 1), I z), ?_, fun t ht => ?_⟩
      · have e' : ((firstFrom (fun c => (numC s w r c).isSome) (d + 1) c).bind (fun c => stepRC s w r c)).isSome = true := by rw [e]; rfl
        rw [e']
        have hq2 : f_X5_findCell_L20 (f_X5_findCell_L2 k) FU (some v) (some b) (I c) (I (w c)) (sol h v ra (I r, q)) = some (I 1, sol h v ra (I r, I c, I (j + 1), cz (causeC s w r c (j + 1)))) := hq
        rw [hz] at hq2
        simp only [cz] at hq2
        simp (disch := first | omega | assumption) only [f_X5_findCell_L2, C1.2.1.r0, C1.2.1.r1, C1.2.1.c hcc, C1.1.rc, cp_cells C1.1, Option.bind_some, I_le, if_neg, lit_I, hq2, bit_T]
      · rw [e] at ht; cases ht; exact ⟨rfl, rfl⟩
    | none =>
      have hnum' := hnum
      unfold numC at hnum
      rw [hnum] at hq
      obtain ⟨q2, g1, g2⟩ := ih (c + 1) k q' (by omega) (by omega)
      have e : firstFrom (fun c => (numC s w r c).isSome) (d + 1) c = firstFrom (fun c => (numC s w r c).isSome) d (c + 1) := by
        simp [firstFrom, hnum']
      rw [e]
      refine ⟨q2, ?_, g2⟩
      rw [← g1]
      simp (disch := first | omega | assumption) only [f_X5_findCell_L2, C1.2.1.r0, C1.2.1.r1, C1.2.1.c hcc, C1.1.rc, cp_cells C1.1, Option.bind_some, I_le, if_neg, lit_I, hq]
theorem cs_findCell {r : Nat} (C : CU h p mm ms s w b v ra ru) (hb : WB s w) (hr : r < 5) (q : Int32 × Int32 × Int32) :
    ∃ q', f_X5_findCell (some v) (some b) (sol h v ra (I r, q)) = some (I (bit ((stepR s w r).isSome = true)), sol h v ra (I r, q')) ∧ ∀ t, stepR s w r = some t → t.1 = r ∧ q' = (I t.2.1, I t.2.2.1, I t.2.2.2) := by
  have hn := nc_le C.2.2.2.1
  exact cs_L2 C hb hr (nc s) 0 FU q (by omega) (by rw [FU_eq]; omega)
/-- a step as the solver keeps it -/
def qS (t : SP4) : Int32 × Int32 × Int32 × Int32 := (I t.1, I t.2.1, I t.2.2.1, I t.2.2.2)
theorem cs_L5 {rules : Nat} (C : CU h p mm ms s w b v ra ru) (hb : WB s w) (hru : rules < 1000000) : ∀ (d r k : Nat) (q : Int32 × Int32 × Int32), r + d = 5 → d < k →
    ∃ q', f_X5_find_L5 k (some v) (some b) (I rules) (sol h v ra (I r, q)) = some (I (bit (((firstFrom (fun r => rules.testBit r && (cellC s w r).isSome) d r).bind (fun r => stepR s w r)).isSome = true)), sol h v ra q') ∧ ∀ t, (firstFrom (fun r => rules.testBit r && (cellC s w r).isSome) d r).bind (fun r => stepR s w r) = some t → q' = qS t := by
  have hbr : brk s w = false := by
    refine Bool.eq_false_iff.mpr (fun z => ?_)
    unfold brk at z
    rw [anyB_iff] at z
    obtain ⟨c, hc, h0⟩ := z
    exact (hb c hc).1 (by simpa using h0)
  intro d
  induction d with
  | zero =>
    intro r k q hr hk
    obtain ⟨k, rfl⟩ : ∃ k', k = k' + 1 := ⟨k - 1, by omega⟩
    refine ⟨(I r, q), ?_, fun t ht => by simp [firstFrom] at ht⟩
    have e : ((firstFrom (fun r => rules.testBit r && (cellC s w r).isSome) 0 r).bind (fun r => stepR s w r)).isSome = false := rfl
    rw [e]
    simp (disch := first | omega | assumption) only [f_X5_find_L5, sv_1, Option.bind_some, lit_I, I_le, if_pos, Bool.false_eq_true, bit_F']
  | succ d ih =>
    intro r k q hr hk
    obtain ⟨k, rfl⟩ : ∃ k', k = k' + 1 := ⟨k - 1, by omega⟩
    have C1 := C.sol (q := (I r, q))
    have hib := cb_isBroken C1.1 C1.2.1 C1.2.2.2.1 C1.2.2.2.2.2.2.2.2.1
    rw [hbr] at hib
    have hhas := cl_has (g := sol h v ra (I r, q)) (show rules < 2147483648 by omega) (show r < 32 by omega)
    cases ht : rules.testBit r with
    | false =>
      rw [ht] at hhas
      obtain ⟨q2, g1, g2⟩ := ih (r + 1) k q (by omega) (by omega)
      have e : firstFrom (fun r => rules.testBit r && (cellC s w r).isSome) (d + 1) r = firstFrom (fun r => rules.testBit r && (cellC s w r).isSome) d (r + 1) := by simp [firstFrom, ht]
      rw [e]
      refine ⟨q2, ?_, g2⟩
      rw [← g1]
      simp (disch := first | omega | assumption) only [f_X5_find_L5, f_X5_find_B41, sv_1, sv_p1, C1.2.1.rc, hib, hhas, Option.bind_some, lit_I, I_le, if_neg, Bool.false_eq_true, bit_F', if_true, I_add]
    | true =>
      rw [ht] at hhas
      obtain ⟨q', f1, f2⟩ := cs_findCell C hb (show r < 5 by omega) q
      cases hcell : (cellC s w r).isSome with
      | true =>
        have e : (firstFrom (fun r => rules.testBit r && (cellC s w r).isSome) (d + 1) r).bind (fun r => stepR s w r) = stepR s w r := by simp [firstFrom, ht, hcell]
        have h2 := stepR_some hcell
        rw [e, h2]
        rw [h2] at f1
        refine ⟨(I r, q'), ?_, fun t ht => ?_⟩
        · simp (disch := first | omega | assumption) only [f_X5_find_L5, sv_1, sv_rc, C1.2.1.rc, hib, hhas, f1, Option.bind_some, lit_I, I_le, if_neg, Bool.false_eq_true, bit_F', if_true, bit_T, I_10, if_false]
        · obtain ⟨z1, z2⟩ := f2 t ht
          rw [z2, ← z1]; rfl
      | false =>
        have h2 := stepR_none hcell
        rw [h2] at f1
        obtain ⟨q2, g1, g2⟩ := ih (r + 1) k q' (by omega) (by omega)
        have e : firstFrom (fun r => rules.testBit r && (cellC s w r).isSome) (d + 1) r = firstFrom (fun r => rules.testBit r && (cellC s w r).isSome) d (r + 1) := by simp [firstFrom, hcell]
        rw [e]
        refine ⟨q2, ?_, g2⟩
        rw [← g1]
        simp only [Option.isSome_none] at f1
        simp (disch := first | omega | assumption) only [f_X5_find_L5, f_X5_find_B41, sv_1, sv_rc, sv_p1, C1.2.1.rc, hib, hhas, f1, Option.bind_some, lit_I, I_le, if_neg, Bool.false_eq_true, bit_F', if_true, bit_0, not_true_eq_false, if_false, I_add]
theorem cs_find {rules : Nat} (C : CU h p mm ms s w b v ra ru) (hru : rules < 1000000) :
    ∃ q', f_X5_find (some v) (some b) (I rules) h = some (I (bit ((findS s w rules).isSome = true)), sol h v ra q') ∧ ∀ t, findS s w rules = some t → q' = qS t := by
  obtain ⟨q0, hq0⟩ := C.2.2.1.self
  have e1 : pf 5 1 (some v) (.int 0) h = some (sol h v ra (0, q0.2)) := by
    have := sv_p1 (h := h) (v := v) (ra := ra) (q := q0) (x := 0)
    rw [← hq0] at this
    exact this
  cases hbr : brk s w with
  | false =>
    have hb := WB_of C.2.2.2.2.2.2.2.2.1 hbr
    obtain ⟨q', g1, g2⟩ := cs_L5 C hb hru 5 0 FU q0.2 (by omega) (by rw [FU_eq]; omega)
    have e : findS s w rules = (firstFrom (fun r => rules.testBit r && (cellC s w r).isSome) 5 0).bind (fun r => stepR s w r) := by
      unfold findS ruleC firstI; rw [hbr]; rfl
    rw [e]
    refine ⟨q', ?_, g2⟩
    simp only [f_X5_find, e1, Option.bind_some]
    exact g1
  | true =>
    have e : findS s w rules = none := by unfold findS; rw [hbr]; rfl
    rw [e]
    obtain ⟨f0, hF⟩ : ∃ f, FU = f + 1 := ⟨999999, FU_eq⟩
    have C1 := C.sol (q := (I 0, q0.2))
    have hib := cb_isBroken C1.1 C1.2.1 C1.2.2.2.1 C1.2.2.2.2.2.2.2.2.1
    rw [hbr] at hib
    refine ⟨(I 0, q0.2), ?_, fun t ht => by cases ht⟩
    simp only [f_X5_find, e1, Option.bind_some, hF]
    simp only [Option.isSome_none]
    simp (disch := first | omega | assumption) only [f_X5_find_L5, sv_1, C1.2.1.rc, hib, Option.bind_some, lit_I, I_le, if_neg, bit_0, not_true_eq_false, if_false, Bool.false_eq_true, bit_F']
end CF87
