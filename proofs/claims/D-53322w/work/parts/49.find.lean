/-! PLAIN LAW: the next step of the reference -/
set_option maxRecDepth 100000
def numP (s w : Nat → Nat) (r c n : Nat) : Bool := (w c).testBit n && (causeC s w r c n).isSome
def numC (s w : Nat → Nat) (r c : Nat) : Option Nat := firstI (fun k => numP s w r c (k + 1)) 6
def cellC (s w : Nat → Nat) (r : Nat) : Option Nat := firstI (fun c => (numC s w r c).isSome) (nc s)
def ruleC (s w : Nat → Nat) (rules : Nat) : Option Nat := firstI (fun r => rules.testBit r && (cellC s w r).isSome) 5
/-- rule, cell, number, cause -/
abbrev SP4 : Type := Nat × Nat × Nat × Nat
def stepRC (s w : Nat → Nat) (r c : Nat) : Option SP4 := (numC s w r c).bind fun k => (causeC s w r c (k + 1)).map fun z => (r, c, k + 1, z)
def stepR (s w : Nat → Nat) (r : Nat) : Option SP4 := (cellC s w r).bind fun c => stepRC s w r c
def findS (s w : Nat → Nat) (rules : Nat) : Option SP4 := if brk s w = true then none else (ruleC s w rules).bind fun r => stepR s w r
def stp (v : Nat → Int32) (t : SP4) : Nat → Int32 := vup (vup (vup (vup v 8 (I t.1)) 9 (I t.2.1)) 10 (I t.2.2.1)) 11 (I t.2.2.2)
theorem isSome_ex {α : Type} {x : Option α} (h : x.isSome = true) : ∃ y, x = some y := Option.isSome_iff_exists.mp h
theorem isSome_no {α : Type} {x : Option α} (h : x.isSome = false) : x = none := by cases x with | none => rfl | some y => cases h
theorem sole_lt {s w : Nat → Nat} {c n z : Nat} (h : sole s w c n = some z) : z < nc s := by
  unfold sole at h; rw [firstI_some] at h; exact h.1
theorem pair_lt {s w : Nat → Nat} {c n z : Nat} (h : pairC s w c n = some z) : z < nc s := by
  unfold pairC at h; rw [firstI_some] at h; exact h.1
theorem only_lt {s w : Nat → Nat} {c n z : Nat} (hw : w c < 128) (h : only s w c n = some z) : z < 7 := by
  unfold only at h
  split at h
  · cases h
  · rename_i h0
    cases h
    have h6 := andn_le (andn (w c) (els s w c (nc s))) (1 <<< n)
    have h7 := andn_le (w c) (els s w c (nc s))
    exact lo_lt7 h0 (show onlyN s w c n < 128 by unfold onlyN; omega)
theorem line_lt {s w : Nat → Nat} {r c n z : Nat} (hP : PG' s) (hc : c < nc s) (h : lineC s w r c n = some z) : z < 10 := by
  have hd := dv_lt hP hc
  obtain ⟨a1, a2, a3, a4⟩ := hP
  unfold lineC at h
  split at h
  · cases h; omega
  · split at h
    · cases h; omega
    · cases h
theorem cause_lt {s w : Nat → Nat} {r c n z : Nat} (hP : PG' s) (hc : c < nc s) (hw : w c < 128) (h : causeC s w r c n = some z) : z < 25 := by
  have hn := nc_le hP
  unfold causeC at h
  split at h
  · have := sole_lt h; omega
  · split at h
    · have := only_lt hw h; omega
    · split at h
      · have := line_lt hP hc h; omega
      · split at h
        · have := line_lt hP hc h; omega
        · have := pair_lt h; omega
theorem cz_none_ne {z : Nat} (h : z < 1000000) : (I z = - I 99) = False := eq_false (I_neg_ne (by omega) (by decide) (by decide))
/-- what a found step is -/
theorem findS_some {s w : Nat → Nat} {rules : Nat} {t : SP4} (h : findS s w rules = some t) : brk s w = false ∧ t.1 < 5 ∧ rules.testBit t.1 = true ∧ t.2.1 < nc s ∧ 1 ≤ t.2.2.1 ∧ t.2.2.1 ≤ 6 ∧ (w t.2.1).testBit t.2.2.1 = true ∧ causeC s w t.1 t.2.1 t.2.2.1 = some t.2.2.2 := by
  unfold findS at h
  split at h
  · cases h
  · rename_i hb
    simp only [Option.bind_eq_some_iff, stepR, stepRC, Option.map_eq_some_iff, ruleC, cellC, numC, firstI_some, numP, Bool.and_eq_true] at h
    obtain ⟨r, ⟨h1, ⟨h2, -⟩, -⟩, c, ⟨h3, -, -⟩, k, ⟨h4, ⟨h5, -⟩, -⟩, z, h6, rfl⟩ := h
    exact ⟨by simpa using hb, h1, h2, h3, by simp, by simp only; omega, h5, h6⟩
section TWf
variable {m : Nat} {v : Nat → Int32} {A : Nat → Nat → Nat} {h : PH}
theorem tw_f37 {r11 : Option Nat → Int32 → Int32 → PH → Option (Int32 × PH)} {r18 : Option Nat → Int32 → Int32 → Int32 → PH → Option (Int32 × PH)} {r c : Nat} {x1 : Int32} (hr : r < 5) (hc : c < nc (A 1)) (hW : WB (A 1) (A 5)) (hA : SB (A 1)) (hS : SB (A 5)) (hP : PG' (A 1)) (hN : NB (A 1)) : f_X13_findStep_L37 r11 r18 FU (some m) x1 (I r) (I c) (I 1) (TW m v A h) = (match stepRC (A 1) (A 5) r c with | some t => some (I 1, TW m (stp v t) A h) | none => r18 (some m) x1 (I r) (I (c + 1)) (TW m v A h)) := by
  have hn := nc_le hP
  have hw := hW c hc
  refine (loop_first (fun k (p : Nat) => f_X13_findStep_L37 r11 r18 k (some m) x1 (I r) (I c) (I (p + 1)) (TW m v A h)) (fun i => i) 6 (fun k => numP (A 1) (A 5) r c (k + 1)) (fun k => match causeC (A 1) (A 5) r c (k + 1) with | some z => some (I 1, TW m (stp v (r, c, k + 1, z)) A h) | none => none) (r18 (some m) x1 (I r) (I (c + 1)) (TW m v A h)) (by omega) (fun k j hj hp => ?_) (fun k j hj hp => ?_) (fun k => ?_)).trans ?_
  · cases h1 : (A 5 c).testBit (j + 1) with
    | false => simp (disch := first | omega | assumption) only [tw_rcv, tw_r1, tw_r2, tw_r3, tw_r5, tw_r7, tw_r12, tw_r14, tw_r15, tw_r16, tw_r17, tw_r18, Option.bind_some, lit_I, I_add, I_mul, I_le, I_lt, I_eq, if_neg, if_pos, if_true, if_false, I_10, I_01, bit_T, bit_F, bit_F', bit_0, bit_1, gb_bit, tw_s, tw_rw, tw_cells, tw_blockOf, tw_numberOf, aset_eq, aset_ne, aset_aset, Bool.false_eq_true, not_true_eq_false, not_false_eq_true, f_X13_findStep_L37, f_X13_findStep_B71, tw_has, h1, not_false_eq_true]
    | true =>
      have h2 : causeC (A 1) (A 5) r c (j + 1) = none := isSome_no (by simpa [numP, h1] using hp)
      simp (disch := first | omega | assumption) only [tw_rcv, tw_r1, tw_r2, tw_r3, tw_r5, tw_r7, tw_r12, tw_r14, tw_r15, tw_r16, tw_r17, tw_r18, Option.bind_some, lit_I, I_add, I_mul, I_le, I_lt, I_eq, if_neg, if_pos, if_true, if_false, I_10, I_01, bit_T, bit_F, bit_F', bit_0, bit_1, gb_bit, tw_s, tw_rw, tw_cells, tw_blockOf, tw_numberOf, aset_eq, aset_ne, aset_aset, Bool.false_eq_true, not_true_eq_false, not_false_eq_true, f_X13_findStep_L37, f_X13_findStep_B71, tw_has, h1, not_true_eq_false, tw_causeOf, h2, cz]
  · obtain ⟨h1, h2⟩ : (A 5 c).testBit (j + 1) = true ∧ (causeC (A 1) (A 5) r c (j + 1)).isSome = true := by simpa [numP] using hp
    obtain ⟨z, h3⟩ := isSome_ex h2
    have h4 := cause_lt hP hc hw.2 h3
    simp (disch := first | omega | assumption) only [tw_rcv, tw_r1, tw_r2, tw_r3, tw_r5, tw_r7, tw_r12, tw_r14, tw_r15, tw_r16, tw_r17, tw_r18, Option.bind_some, lit_I, I_add, I_mul, I_le, I_lt, I_eq, if_neg, if_pos, if_true, if_false, I_10, I_01, bit_T, bit_F, bit_F', bit_0, bit_1, gb_bit, tw_s, tw_rw, tw_cells, tw_blockOf, tw_numberOf, aset_eq, aset_ne, aset_aset, Bool.false_eq_true, not_true_eq_false, not_false_eq_true, f_X13_findStep_L37, f_X13_findStep_B71, tw_has, h1, not_true_eq_false, tw_causeOf, h3, cz, cz_none_ne, tw_pf (k := 8) rfl, tw_pf (k := 9) rfl, tw_pf (k := 10) rfl, tw_pf (k := 11) rfl, stp]
  · simp (disch := first | omega | assumption) only [tw_rcv, tw_r1, tw_r2, tw_r3, tw_r5, tw_r7, tw_r12, tw_r14, tw_r15, tw_r16, tw_r17, tw_r18, Option.bind_some, lit_I, I_add, I_mul, I_le, I_lt, I_eq, if_neg, if_pos, if_true, if_false, I_10, I_01, bit_T, bit_F, bit_F', bit_0, bit_1, gb_bit, tw_s, tw_rw, tw_cells, tw_blockOf, tw_numberOf, aset_eq, aset_ne, aset_aset, Bool.false_eq_true, not_true_eq_false, not_false_eq_true, f_X13_findStep_L37]
  · unfold stepRC numC
    cases h1 : firstI (fun k => numP (A 1) (A 5) r c (k + 1)) 6 with
    | none => rfl
    | some k => cases h2 : causeC (A 1) (A 5) r c (k + 1) with
      | some z => simp [h2]
      | none =>
        rw [firstI_some] at h1
        have := h1.2.1
        simp [numP, h2] at this
theorem tw_f18 {r11 : Option Nat → Int32 → Int32 → PH → Option (Int32 × PH)} {rules r : Nat} (hru : rules < 1000000) (hr : r < 5) (hW : WB (A 1) (A 5)) (hA : SB (A 1)) (hS : SB (A 5)) (hP : PG' (A 1)) (hN : NB (A 1)) : f_X13_findStep_L18 r11 FU (some m) (I rules) (I r) (I 0) (TW m v A h) = (match (if rules.testBit r = true then stepR (A 1) (A 5) r else none) with | some t => some (I 1, TW m (stp v t) A h) | none => r11 (some m) (I rules) (I (r + 1)) (TW m v A h)) := by
  have hn := nc_le hP
  cases hb : rules.testBit r with
  | false =>
    obtain ⟨f0, hF⟩ : ∃ f, FU = f + 1 := ⟨999999, FU_eq⟩
    rw [hF]
    simp (disch := first | omega | assumption) only [tw_rcv, tw_r1, tw_r2, tw_r3, tw_r5, tw_r7, tw_r12, tw_r14, tw_r15, tw_r16, tw_r17, tw_r18, Option.bind_some, lit_I, I_add, I_mul, I_le, I_lt, I_eq, if_neg, if_pos, if_true, if_false, I_10, I_01, bit_T, bit_F, bit_F', bit_0, bit_1, gb_bit, tw_s, tw_rw, tw_cells, tw_blockOf, tw_numberOf, aset_eq, aset_ne, aset_aset, Bool.false_eq_true, not_true_eq_false, not_false_eq_true, f_X13_findStep_L18, tw_has, hb, not_false_eq_true]
  | true =>
    rw [if_pos rfl]
    refine (loop_first (fun k (p : Nat) => f_X13_findStep_L18 r11 k (some m) (I rules) (I r) (I p) (TW m v A h)) (fun i => i) (nc (A 1)) (fun c => (numC (A 1) (A 5) r c).isSome) (fun c => match stepRC (A 1) (A 5) r c with | some t => some (I 1, TW m (stp v t) A h) | none => none) (r11 (some m) (I rules) (I (r + 1)) (TW m v A h)) (by omega) (fun k j hj hp => ?_) (fun k j hj hp => ?_) (fun k => ?_)).trans ?_
    · have h1 : stepRC (A 1) (A 5) r j = none := by unfold stepRC; rw [isSome_no hp]; rfl
      simp (disch := first | omega | assumption) only [tw_rcv, tw_r1, tw_r2, tw_r3, tw_r5, tw_r7, tw_r12, tw_r14, tw_r15, tw_r16, tw_r17, tw_r18, Option.bind_some, lit_I, I_add, I_mul, I_le, I_lt, I_eq, if_neg, if_pos, if_true, if_false, I_10, I_01, bit_T, bit_F, bit_F', bit_0, bit_1, gb_bit, tw_s, tw_rw, tw_cells, tw_blockOf, tw_numberOf, aset_eq, aset_ne, aset_aset, Bool.false_eq_true, not_true_eq_false, not_false_eq_true, f_X13_findStep_L18, tw_has, hb, not_true_eq_false, tw_f37, h1]
    · obtain ⟨k', h1⟩ := isSome_ex hp
      have h2 := h1
      unfold numC at h2
      rw [firstI_some] at h2
      have h3 := h2.2.1
      simp only [numP, Bool.and_eq_true] at h3
      obtain ⟨z, h4⟩ := isSome_ex h3.2
      have h5 : stepRC (A 1) (A 5) r j = some (r, j, k' + 1, z) := by unfold stepRC; rw [h1]; simp [h4]
      simp (disch := first | omega | assumption) only [tw_rcv, tw_r1, tw_r2, tw_r3, tw_r5, tw_r7, tw_r12, tw_r14, tw_r15, tw_r16, tw_r17, tw_r18, Option.bind_some, lit_I, I_add, I_mul, I_le, I_lt, I_eq, if_neg, if_pos, if_true, if_false, I_10, I_01, bit_T, bit_F, bit_F', bit_0, bit_1, gb_bit, tw_s, tw_rw, tw_cells, tw_blockOf, tw_numberOf, aset_eq, aset_ne, aset_aset, Bool.false_eq_true, not_true_eq_false, not_false_eq_true, f_X13_findStep_L18, tw_has, hb, not_true_eq_false, tw_f37, h5]
    · simp (disch := first | omega | assumption) only [tw_rcv, tw_r1, tw_r2, tw_r3, tw_r5, tw_r7, tw_r12, tw_r14, tw_r15, tw_r16, tw_r17, tw_r18, Option.bind_some, lit_I, I_add, I_mul, I_le, I_lt, I_eq, if_neg, if_pos, if_true, if_false, I_10, I_01, bit_T, bit_F, bit_F', bit_0, bit_1, gb_bit, tw_s, tw_rw, tw_cells, tw_blockOf, tw_numberOf, aset_eq, aset_ne, aset_aset, Bool.false_eq_true, not_true_eq_false, not_false_eq_true, f_X13_findStep_L18]
    · unfold stepR cellC
      cases h1 : firstI (fun c => (numC (A 1) (A 5) r c).isSome) (nc (A 1)) with
      | none => rfl
      | some c =>
        cases h2 : stepRC (A 1) (A 5) r c with
        | some t => simp [h2]
        | none =>
          rw [firstI_some] at h1
          obtain ⟨k, h3⟩ := isSome_ex h1.2.1
          have h4 := h3
          unfold numC at h4
          rw [firstI_some] at h4
          have h5 := h4.2.1
          simp only [numP, Bool.and_eq_true] at h5
          obtain ⟨z, h6⟩ := isSome_ex h5.2
          simp [stepRC, h3, h6] at h2
theorem stepR_some {s w : Nat → Nat} {r : Nat} (h : (cellC s w r).isSome = true) : (stepR s w r).isSome = true := by
  obtain ⟨c, h1⟩ := isSome_ex h
  have h2 := h1
  unfold cellC at h2
  rw [firstI_some] at h2
  obtain ⟨k, h3⟩ := isSome_ex h2.2.1
  have h4 := h3
  unfold numC at h4
  rw [firstI_some] at h4
  have h5 := h4.2.1
  simp only [numP, Bool.and_eq_true] at h5
  obtain ⟨z, h6⟩ := isSome_ex h5.2
  simp [stepR, h1, stepRC, h3, h6]
theorem stepR_none {s w : Nat → Nat} {r : Nat} (h : (cellC s w r).isSome = false) : stepR s w r = none := by
  unfold stepR; rw [isSome_no h]; rfl
theorem tw_findStep {rules : Nat} (hru : rules < 1000000) (hW : W7 (A 1) (A 5)) (hA : SB (A 1)) (hS : SB (A 5)) (hP : PG' (A 1)) (hN : NB (A 1)) : f_X13_findStep (some m) (I rules) (TW m v A h) = (match findS (A 1) (A 5) rules with | some t => some (I 1, TW m (stp v t) A h) | none => some (I 0, TW m v A h)) := by
  cases hb : brk (A 1) (A 5) with
  | true => simp (disch := first | omega | assumption) only [tw_rcv, tw_r1, tw_r2, tw_r3, tw_r5, tw_r7, tw_r12, tw_r14, tw_r15, tw_r16, tw_r17, tw_r18, Option.bind_some, lit_I, I_add, I_mul, I_le, I_lt, I_eq, if_neg, if_pos, if_true, if_false, I_10, I_01, bit_T, bit_F, bit_F', bit_0, bit_1, gb_bit, tw_s, tw_rw, tw_cells, tw_blockOf, tw_numberOf, aset_eq, aset_ne, aset_aset, Bool.false_eq_true, not_true_eq_false, not_false_eq_true, f_X13_findStep, tw_isBroken, hb, findS, not_true_eq_false]
  | false =>
    have hWB := WB_of hW hb
    simp (disch := first | omega | assumption) only [tw_rcv, tw_r1, tw_r2, tw_r3, tw_r5, tw_r7, tw_r12, tw_r14, tw_r15, tw_r16, tw_r17, tw_r18, Option.bind_some, lit_I, I_add, I_mul, I_le, I_lt, I_eq, if_neg, if_pos, if_true, if_false, I_10, I_01, bit_T, bit_F, bit_F', bit_0, bit_1, gb_bit, tw_s, tw_rw, tw_cells, tw_blockOf, tw_numberOf, aset_eq, aset_ne, aset_aset, Bool.false_eq_true, not_true_eq_false, not_false_eq_true, f_X13_findStep, tw_isBroken, hb, findS, not_false_eq_true]
    refine (loop_first (fun k (p : Nat) => f_X13_findStep_L11 k (some m) (I rules) (I p) (TW m v A h)) (fun i => i) 5 (fun r => rules.testBit r && (cellC (A 1) (A 5) r).isSome) (fun r => match stepR (A 1) (A 5) r with | some t => some (I 1, TW m (stp v t) A h) | none => none) (some (I 0, TW m v A h)) (by omega) (fun k j hj hp => ?_) (fun k j hj hp => ?_) (fun k => ?_)).trans ?_
    · have h1 : (if rules.testBit j = true then stepR (A 1) (A 5) j else none) = none := by
        cases hq : rules.testBit j with
        | false => rfl
        | true => rw [if_pos rfl]; exact stepR_none (by simpa [hq] using hp)
      simp (disch := first | omega | assumption) only [tw_rcv, tw_r1, tw_r2, tw_r3, tw_r5, tw_r7, tw_r12, tw_r14, tw_r15, tw_r16, tw_r17, tw_r18, Option.bind_some, lit_I, I_add, I_mul, I_le, I_lt, I_eq, if_neg, if_pos, if_true, if_false, I_10, I_01, bit_T, bit_F, bit_F', bit_0, bit_1, gb_bit, tw_s, tw_rw, tw_cells, tw_blockOf, tw_numberOf, aset_eq, aset_ne, aset_aset, Bool.false_eq_true, not_true_eq_false, not_false_eq_true, f_X13_findStep_L11, tw_f18, h1]
    · obtain ⟨h1, h2⟩ : rules.testBit j = true ∧ (cellC (A 1) (A 5) j).isSome = true := by simpa using hp
      obtain ⟨t, h3⟩ := isSome_ex (stepR_some h2)
      have h4 : (if rules.testBit j = true then stepR (A 1) (A 5) j else none) = some t := by rw [if_pos h1, h3]
      simp (disch := first | omega | assumption) only [tw_rcv, tw_r1, tw_r2, tw_r3, tw_r5, tw_r7, tw_r12, tw_r14, tw_r15, tw_r16, tw_r17, tw_r18, Option.bind_some, lit_I, I_add, I_mul, I_le, I_lt, I_eq, if_neg, if_pos, if_true, if_false, I_10, I_01, bit_T, bit_F, bit_F', bit_0, bit_1, gb_bit, tw_s, tw_rw, tw_cells, tw_blockOf, tw_numberOf, aset_eq, aset_ne, aset_aset, Bool.false_eq_true, not_true_eq_false, not_false_eq_true, f_X13_findStep_L11, tw_f18, h4, h3]
    · simp (disch := first | omega | assumption) only [tw_rcv, tw_r1, tw_r2, tw_r3, tw_r5, tw_r7, tw_r12, tw_r14, tw_r15, tw_r16, tw_r17, tw_r18, Option.bind_some, lit_I, I_add, I_mul, I_le, I_lt, I_eq, if_neg, if_pos, if_true, if_false, I_10, I_01, bit_T, bit_F, bit_F', bit_0, bit_1, gb_bit, tw_s, tw_rw, tw_cells, tw_blockOf, tw_numberOf, aset_eq, aset_ne, aset_aset, Bool.false_eq_true, not_true_eq_false, not_false_eq_true, f_X13_findStep_L11]
    · unfold ruleC
      cases h1 : firstI (fun r => rules.testBit r && (cellC (A 1) (A 5) r).isSome) 5 with
      | none => rfl
      | some r =>
        rw [firstI_some] at h1
        obtain ⟨t, h3⟩ := isSome_ex (stepR_some (s := A 1) (w := A 5) (r := r) (by simpa using (Bool.and_eq_true _ _ ▸ h1.2.1).2))
        simp [h3]
end TWf
