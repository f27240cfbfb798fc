/-! PLAIN LAW: the reference's looks: counts, cells, lines -/
set_option maxRecDepth 100000
theorem shr1_bit (a k : Nat) : a >>> k &&& 1 = bit (a.testBit k = true) := by
  have h := and1_tb a k
  have hle : a >>> k &&& 1 ≤ 1 := Nat.and_le_right
  cases hb : a.testBit k with
  | true => rw [hb] at h; rw [h.mpr rfl]; rfl
  | false =>
    rw [hb] at h
    have : ¬ (a >>> k &&& 1 = 1) := fun q => by have := h.mp q; cases this
    rw [bit_F]; omega
def r_count (g : GS) (x : Int32) : Int32 :=
  if x = I 0 then I (g.1 0) else if x = I 1 then I (g.1 1) else if x = I 2 then I (nblk g.1) else if x = I 3 then I (nemp g.1) else if x = I 4 then I (ngiv g.1) else if x = I 5 then I (nshw g.1) else if x = I 6 then I (pc (g.1 2)) else if x = I 7 then I (pcs g.1 (bd g.1)) else if x = I 8 then I (sgl g.1 (bd g.1)) else if x = I 9 then I (g.1 118 + g.1 237) else if x = I 10 then I g.2.1.length else if x = I 11 then I g.2.2.1 else -1
def strg (s : Nat → Nat) (c : Nat) : Nat := sumTo (fun d => if adjb (s 1) c d = true ∧ ¬ s (8 + d) = s (8 + c) then 1 else 0) (nc s)
def r_cell (g : GS) (x y : Int32) : Int32 :=
  if bt x 0 (nc g.1 - 1) = true then
    (if y = I 0 then I (g.1 (8 + na x)) else if y = I 1 then I (g.1 (33 + na x)) else if y = I 2 then I (g.1 (58 + na x)) else if y = I 3 then I (pc (g.1 (93 + na x))) else if y = I 4 then (if pc (g.1 (93 + na x)) = 1 then I (lo (g.1 (93 + na x))) else -99) else if y = I 5 then I (strg g.1 (na x)) else -1) else -1
def r_line (g : GS) (x y : Int32) : Int32 :=
  if (bt x 0 (g.1 0 + g.1 1 - 1) && bt y 0 4) = true then
    (if na y = 0 then I (lsum g.1 (na x)) else if na y = 1 then I (g.1 (83 + na x)) else
      (if lsums g.1 (bd g.1) (na x) none (ln g.1 (na x)) = 0 then (if na y = 4 then I 0 else -99) else
        (if na y = 2 then I (lo (lsums g.1 (bd g.1) (na x) none (ln g.1 (na x)))) else if na y = 3 then I (hi (lsums g.1 (bd g.1) (na x) none (ln g.1 (na x)))) else I (pc (lsums g.1 (bd g.1) (na x) none (ln g.1 (na x))))))) else -1
theorem pc_pos {a : Nat} (h0 : pc a = 1) : a ≠ 0 := by
  rintro rfl
  have : pc 0 = 0 := by decide
  omega
section TW63
variable {m : Nat} {v : Nat → Int32} {A : Nat → Nat → Nat} {h : PH} {g : GS}
theorem tw_count {x : Int32} (hT : TI v A g) (hI : RInv g.1) : ∃ v' A', f_X13_count (some m) x (TW m v A h) = some (r_count g x, TW m v' A' h) ∧ TI v' A' g := by
  have hP := hI.1.1.1
  obtain ⟨A2, b1, b2, b3, b4, b5, -⟩ := tw_layPT (m := m) (h := h) (TI_v0 (x := I 0) hT) hI
  have s2 : A2 1 = g.1 := b2.2.1
  have hA2 : SB (A2 1) := b2.1 1
  have hP2 : PG' (A2 1) := by rw [s2]; exact hP
  refine ⟨_, A2, ?_, b2⟩
  have i4 := b2.2.2.2.1
  have i5 := b2.2.2.2.2.1
  have hb := hA2 2
  rw [s2] at hb
  simp only [f_X13_count, lit_I, tw_p0, tw_rcv, Option.bind_some, b1, r_count]
  by_cases e0 : x = I 0
  · simp only [e0, if_true]; simp (disch := first | omega | assumption) only [tw_rcv, tw_r1, tw_r2, tw_r3, tw_r5, tw_r7, tw_r12, tw_r14, tw_r15, tw_r16, tw_r17, tw_r18, Option.bind_some, lit_I, I_add, I_mul, I_le, I_lt, I_eq, if_neg, if_pos, if_true, if_false, I_10, I_01, bit_T, bit_F, bit_F', bit_0, bit_1, gb_bit, tw_s, tw_rw, tw_cells, tw_blockOf, tw_numberOf, aset_eq, aset_ne, aset_aset, Bool.false_eq_true, not_true_eq_false, not_false_eq_true, s2]
  simp only [e0, if_false]
  by_cases e1 : x = I 1
  · simp only [e1, if_true]; simp (disch := first | omega | assumption) only [tw_rcv, tw_r1, tw_r2, tw_r3, tw_r5, tw_r7, tw_r12, tw_r14, tw_r15, tw_r16, tw_r17, tw_r18, Option.bind_some, lit_I, I_add, I_mul, I_le, I_lt, I_eq, if_neg, if_pos, if_true, if_false, I_10, I_01, bit_T, bit_F, bit_F', bit_0, bit_1, gb_bit, tw_s, tw_rw, tw_cells, tw_blockOf, tw_numberOf, aset_eq, aset_ne, aset_aset, Bool.false_eq_true, not_true_eq_false, not_false_eq_true, s2]
  simp only [e1, if_false]
  by_cases e2 : x = I 2
  · simp only [e2, if_true]; simp (disch := first | omega | assumption) only [tw_rcv, tw_r1, tw_r2, tw_r3, tw_r5, tw_r7, tw_r12, tw_r14, tw_r15, tw_r16, tw_r17, tw_r18, Option.bind_some, lit_I, I_add, I_mul, I_le, I_lt, I_eq, if_neg, if_pos, if_true, if_false, I_10, I_01, bit_T, bit_F, bit_F', bit_0, bit_1, gb_bit, tw_s, tw_rw, tw_cells, tw_blockOf, tw_numberOf, aset_eq, aset_ne, aset_aset, Bool.false_eq_true, not_true_eq_false, not_false_eq_true, tw_blocks hA2 hP2, s2]
  simp only [e2, if_false]
  by_cases e3 : x = I 3
  · simp only [e3, if_true]; simp (disch := first | omega | assumption) only [tw_rcv, tw_r1, tw_r2, tw_r3, tw_r5, tw_r7, tw_r12, tw_r14, tw_r15, tw_r16, tw_r17, tw_r18, Option.bind_some, lit_I, I_add, I_mul, I_le, I_lt, I_eq, if_neg, if_pos, if_true, if_false, I_10, I_01, bit_T, bit_F, bit_F', bit_0, bit_1, gb_bit, tw_s, tw_rw, tw_cells, tw_blockOf, tw_numberOf, aset_eq, aset_ne, aset_aset, Bool.false_eq_true, not_true_eq_false, not_false_eq_true, tw_emptyMany hA2 hP2, s2]
  simp only [e3, if_false]
  by_cases e4 : x = I 4
  · simp only [e4, if_true]; simp (disch := first | omega | assumption) only [tw_rcv, tw_r1, tw_r2, tw_r3, tw_r5, tw_r7, tw_r12, tw_r14, tw_r15, tw_r16, tw_r17, tw_r18, Option.bind_some, lit_I, I_add, I_mul, I_le, I_lt, I_eq, if_neg, if_pos, if_true, if_false, I_10, I_01, bit_T, bit_F, bit_F', bit_0, bit_1, gb_bit, tw_s, tw_rw, tw_cells, tw_blockOf, tw_numberOf, aset_eq, aset_ne, aset_aset, Bool.false_eq_true, not_true_eq_false, not_false_eq_true, tw_givenMany hP2, s2]
  simp only [e4, if_false]
  by_cases e5 : x = I 5
  · simp only [e5, if_true]; simp (disch := first | omega | assumption) only [tw_rcv, tw_r1, tw_r2, tw_r3, tw_r5, tw_r7, tw_r12, tw_r14, tw_r15, tw_r16, tw_r17, tw_r18, Option.bind_some, lit_I, I_add, I_mul, I_le, I_lt, I_eq, if_neg, if_pos, if_true, if_false, I_10, I_01, bit_T, bit_F, bit_F', bit_0, bit_1, gb_bit, tw_s, tw_rw, tw_cells, tw_blockOf, tw_numberOf, aset_eq, aset_ne, aset_aset, Bool.false_eq_true, not_true_eq_false, not_false_eq_true, tw_shownMany hP2, s2]
  simp only [e5, if_false]
  by_cases e6 : x = I 6
  · simp only [e6, if_true]; simp (disch := first | omega | assumption) only [tw_rcv, tw_r1, tw_r2, tw_r3, tw_r5, tw_r7, tw_r12, tw_r14, tw_r15, tw_r16, tw_r17, tw_r18, Option.bind_some, lit_I, I_add, I_mul, I_le, I_lt, I_eq, if_neg, if_pos, if_true, if_false, I_10, I_01, bit_T, bit_F, bit_F', bit_0, bit_1, gb_bit, tw_s, tw_rw, tw_cells, tw_blockOf, tw_numberOf, aset_eq, aset_ne, aset_aset, Bool.false_eq_true, not_true_eq_false, not_false_eq_true, tw_ones, s2]
  simp only [e6, if_false]
  by_cases e7 : x = I 7
  · simp only [e7, if_true]; simp (disch := first | omega | assumption) only [tw_rcv, tw_r1, tw_r2, tw_r3, tw_r5, tw_r7, tw_r12, tw_r14, tw_r15, tw_r16, tw_r17, tw_r18, Option.bind_some, lit_I, I_add, I_mul, I_le, I_lt, I_eq, if_neg, if_pos, if_true, if_false, I_10, I_01, bit_T, bit_F, bit_F', bit_0, bit_1, gb_bit, tw_s, tw_rw, tw_cells, tw_blockOf, tw_numberOf, aset_eq, aset_ne, aset_aset, Bool.false_eq_true, not_true_eq_false, not_false_eq_true, tw_possibleMany b5 hP2, s2, pcs_congr b3]
  simp only [e7, if_false]
  by_cases e8 : x = I 8
  · simp only [e8, if_true]; simp (disch := first | omega | assumption) only [tw_rcv, tw_r1, tw_r2, tw_r3, tw_r5, tw_r7, tw_r12, tw_r14, tw_r15, tw_r16, tw_r17, tw_r18, Option.bind_some, lit_I, I_add, I_mul, I_le, I_lt, I_eq, if_neg, if_pos, if_true, if_false, I_10, I_01, bit_T, bit_F, bit_F', bit_0, bit_1, gb_bit, tw_s, tw_rw, tw_cells, tw_blockOf, tw_numberOf, aset_eq, aset_ne, aset_aset, Bool.false_eq_true, not_true_eq_false, not_false_eq_true, tw_singleMany b5 hP2, s2, sgl_congr b3]
  simp only [e8, if_false]
  by_cases e9 : x = I 9
  · simp only [e9, if_true]; simp (disch := first | omega | assumption) only [tw_rcv, tw_r1, tw_r2, tw_r3, tw_r5, tw_r7, tw_r12, tw_r14, tw_r15, tw_r16, tw_r17, tw_r18, Option.bind_some, lit_I, I_add, I_mul, I_le, I_lt, I_eq, if_neg, if_pos, if_true, if_false, I_10, I_01, bit_T, bit_F, bit_F', bit_0, bit_1, gb_bit, tw_s, tw_rw, tw_cells, tw_blockOf, tw_numberOf, aset_eq, aset_ne, aset_aset, Bool.false_eq_true, not_true_eq_false, not_false_eq_true, s2]
  simp only [e9, if_false]
  by_cases e10 : x = I 10
  · simp only [e10, if_true]; simp (disch := first | omega | assumption) only [tw_rcv, tw_r1, tw_r2, tw_r3, tw_r5, tw_r7, tw_r12, tw_r14, tw_r15, tw_r16, tw_r17, tw_r18, Option.bind_some, lit_I, I_add, I_mul, I_le, I_lt, I_eq, if_neg, if_pos, if_true, if_false, I_10, I_01, bit_T, bit_F, bit_F', bit_0, bit_1, gb_bit, tw_s, tw_rw, tw_cells, tw_blockOf, tw_numberOf, aset_eq, aset_ne, aset_aset, Bool.false_eq_true, not_true_eq_false, not_false_eq_true, tw_int (k := 4) rfl, i4]
  simp only [e10, if_false]
  by_cases e11 : x = I 11
  · simp only [e11, if_true]; simp (disch := first | omega | assumption) only [tw_rcv, tw_r1, tw_r2, tw_r3, tw_r5, tw_r7, tw_r12, tw_r14, tw_r15, tw_r16, tw_r17, tw_r18, Option.bind_some, lit_I, I_add, I_mul, I_le, I_lt, I_eq, if_neg, if_pos, if_true, if_false, I_10, I_01, bit_T, bit_F, bit_F', bit_0, bit_1, gb_bit, tw_s, tw_rw, tw_cells, tw_blockOf, tw_numberOf, aset_eq, aset_ne, aset_aset, Bool.false_eq_true, not_true_eq_false, not_false_eq_true, tw_int (k := 6) rfl, i5]
  simp only [e11, if_false]
theorem tw_strangers {c : Nat} (hc : c < nc (A 1)) (hA : SB (A 1)) (hP : PG' (A 1)) : f_X13_strangers (some m) (I c) (TW m v A h) = some (I (strg (A 1) c), TW m v A h) := by
  have hn := nc_le hP
  have h3 := hA (8 + c)
  unfold f_X13_strangers
  refine loop_FU (fun k (p : Nat × Nat) => f_X13_strangers_L4 k (some m) (I c) (I p.1) (I p.2) (TW m v A h)) (fun k => (sumTo (fun d => if adjb (A 1 1) c d = true ∧ ¬ A 1 (8 + d) = A 1 (8 + c) then 1 else 0) k, k)) (nc (A 1)) _ (by omega) (fun k j hj => ?_) (fun k => ?_)
  · have h1 := hA (8 + j)
    have had := tw_adj (m := m) (v := v) (h := h) (A := A) (a := c) (b := j) (by omega) (by omega) hP
    cases ha : adjb (A 1 1) c j with
    | false => simp (disch := first | omega | assumption) only [tw_rcv, tw_r1, tw_r2, tw_r3, tw_r5, tw_r7, tw_r12, tw_r14, tw_r15, tw_r16, tw_r17, tw_r18, Option.bind_some, lit_I, I_add, I_mul, I_le, I_lt, I_eq, if_neg, if_pos, if_true, if_false, I_10, I_01, bit_T, bit_F, bit_F', bit_0, bit_1, gb_bit, tw_s, tw_rw, tw_cells, tw_blockOf, tw_numberOf, aset_eq, aset_ne, aset_aset, Bool.false_eq_true, not_true_eq_false, not_false_eq_true, f_X13_strangers_L4, had, ha, sumTo, false_and]
    | true =>
      by_cases h2 : A 1 (8 + j) = A 1 (8 + c)
      · simp (disch := first | omega | assumption) only [tw_rcv, tw_r1, tw_r2, tw_r3, tw_r5, tw_r7, tw_r12, tw_r14, tw_r15, tw_r16, tw_r17, tw_r18, Option.bind_some, lit_I, I_add, I_mul, I_le, I_lt, I_eq, if_neg, if_pos, if_true, if_false, I_10, I_01, bit_T, bit_F, bit_F', bit_0, bit_1, gb_bit, tw_s, tw_rw, tw_cells, tw_blockOf, tw_numberOf, aset_eq, aset_ne, aset_aset, Bool.false_eq_true, not_true_eq_false, not_false_eq_true, f_X13_strangers_L4, had, ha, sumTo, true_and, h2]
      · simp (disch := first | omega | assumption) only [tw_rcv, tw_r1, tw_r2, tw_r3, tw_r5, tw_r7, tw_r12, tw_r14, tw_r15, tw_r16, tw_r17, tw_r18, Option.bind_some, lit_I, I_add, I_mul, I_le, I_lt, I_eq, if_neg, if_pos, if_true, if_false, I_10, I_01, bit_T, bit_F, bit_F', bit_0, bit_1, gb_bit, tw_s, tw_rw, tw_cells, tw_blockOf, tw_numberOf, aset_eq, aset_ne, aset_aset, Bool.false_eq_true, not_true_eq_false, not_false_eq_true, f_X13_strangers_L4, had, ha, sumTo, true_and, h2]
  · simp (disch := first | omega | assumption) only [tw_rcv, tw_r1, tw_r2, tw_r3, tw_r5, tw_r7, tw_r12, tw_r14, tw_r15, tw_r16, tw_r17, tw_r18, Option.bind_some, lit_I, I_add, I_mul, I_le, I_lt, I_eq, if_neg, if_pos, if_true, if_false, I_10, I_01, bit_T, bit_F, bit_F', bit_0, bit_1, gb_bit, tw_s, tw_rw, tw_cells, tw_blockOf, tw_numberOf, aset_eq, aset_ne, aset_aset, Bool.false_eq_true, not_true_eq_false, not_false_eq_true, f_X13_strangers_L4]
    rfl
theorem tw_cell {x y : Int32} (hT : TI v A g) (hI : RInv g.1) : ∃ v' A', f_X13_cell (some m) x y (TW m v A h) = some (r_cell g x y, TW m v' A' h) ∧ TI v' A' g := by
  have hP := hI.1.1.1
  have hn := nc_le hP
  have hT0 := TI_v0 (x := I 0) hT
  have s1 : A 1 = g.1 := hT.2.1
  have hP1 : PG' (A 1) := by rw [s1]; exact hP
  have hA1 : SB (A 1) := hT.1 1
  have hs := TI_SB hT
  refine ⟨_, _, ?_, hT0⟩
  unfold r_cell
  cases h1 : bt x 0 (nc g.1 - 1) with
  | false =>
    simp (disch := first | omega | assumption) only [tw_rcv, tw_r1, tw_r2, tw_r3, tw_r5, tw_r7, tw_r12, tw_r14, tw_r15, tw_r16, tw_r17, tw_r18, Option.bind_some, lit_I, I_add, I_mul, I_le, I_lt, I_eq, if_neg, if_pos, if_true, if_false, I_10, I_01, bit_T, bit_F, bit_F', bit_0, bit_1, gb_bit, tw_s, tw_rw, tw_cells, tw_blockOf, tw_numberOf, aset_eq, aset_ne, aset_aset, Bool.false_eq_true, not_true_eq_false, not_false_eq_true, f_X13_cell, tw_p0, isCellZ hP1, s1, h1]
  | true =>
  obtain ⟨c, rfl, hna, -, hx⟩ := bt_ex (by decide) (by omega) h1
  simp only [hna]
  have hc : c < nc (A 1) := by rw [s1]; omega
  have h93 := (hI.1.2.2 c (by omega)).1
  have hst := tw_strangers (m := m) (v := vup v 0 (I 0)) (h := h) hc hA1 hP1
  rw [s1] at hst
  have hpl := pc_le (g.1 (93 + c))
  simp only [f_X13_cell, lit_I, tw_p0, tw_rcv, Option.bind_some, isCellZ hP1, s1, h1, bit_0, not_true_eq_false, if_false, if_true]
  by_cases e0 : y = I 0
  · simp only [e0, if_true]; simp (disch := first | omega | assumption) only [tw_rcv, tw_r1, tw_r2, tw_r3, tw_r5, tw_r7, tw_r12, tw_r14, tw_r15, tw_r16, tw_r17, tw_r18, Option.bind_some, lit_I, I_add, I_mul, I_le, I_lt, I_eq, if_neg, if_pos, if_true, if_false, I_10, I_01, bit_T, bit_F, bit_F', bit_0, bit_1, gb_bit, tw_s, tw_rw, tw_cells, tw_blockOf, tw_numberOf, aset_eq, aset_ne, aset_aset, Bool.false_eq_true, not_true_eq_false, not_false_eq_true, s1]
  simp only [e0, if_false]
  by_cases e1 : y = I 1
  · simp only [e1, if_true]; simp (disch := first | omega | assumption) only [tw_rcv, tw_r1, tw_r2, tw_r3, tw_r5, tw_r7, tw_r12, tw_r14, tw_r15, tw_r16, tw_r17, tw_r18, Option.bind_some, lit_I, I_add, I_mul, I_le, I_lt, I_eq, if_neg, if_pos, if_true, if_false, I_10, I_01, bit_T, bit_F, bit_F', bit_0, bit_1, gb_bit, tw_s, tw_rw, tw_cells, tw_blockOf, tw_numberOf, aset_eq, aset_ne, aset_aset, Bool.false_eq_true, not_true_eq_false, not_false_eq_true, s1]
  simp only [e1, if_false]
  by_cases e2 : y = I 2
  · simp only [e2, if_true]; simp (disch := first | omega | assumption) only [tw_rcv, tw_r1, tw_r2, tw_r3, tw_r5, tw_r7, tw_r12, tw_r14, tw_r15, tw_r16, tw_r17, tw_r18, Option.bind_some, lit_I, I_add, I_mul, I_le, I_lt, I_eq, if_neg, if_pos, if_true, if_false, I_10, I_01, bit_T, bit_F, bit_F', bit_0, bit_1, gb_bit, tw_s, tw_rw, tw_cells, tw_blockOf, tw_numberOf, aset_eq, aset_ne, aset_aset, Bool.false_eq_true, not_true_eq_false, not_false_eq_true, s1]
  simp only [e2, if_false]
  by_cases e3 : y = I 3
  · simp only [e3, if_true]; simp (disch := first | omega | assumption) only [tw_rcv, tw_r1, tw_r2, tw_r3, tw_r5, tw_r7, tw_r12, tw_r14, tw_r15, tw_r16, tw_r17, tw_r18, Option.bind_some, lit_I, I_add, I_mul, I_le, I_lt, I_eq, if_neg, if_pos, if_true, if_false, I_10, I_01, bit_T, bit_F, bit_F', bit_0, bit_1, gb_bit, tw_s, tw_rw, tw_cells, tw_blockOf, tw_numberOf, aset_eq, aset_ne, aset_aset, Bool.false_eq_true, not_true_eq_false, not_false_eq_true, tw_ones, s1]
  simp only [e3, if_false]
  by_cases e4 : y = I 4
  · simp only [e4, if_true]
    by_cases h4 : pc (g.1 (93 + c)) = 1
    · have h0 := pc_pos h4
      have hlo := tw_lowest (h := TW m (vup v 0 (I 0)) A h) h0 (by omega)
      simp (disch := first | omega | assumption) only [tw_rcv, tw_r1, tw_r2, tw_r3, tw_r5, tw_r7, tw_r12, tw_r14, tw_r15, tw_r16, tw_r17, tw_r18, Option.bind_some, lit_I, I_add, I_mul, I_le, I_lt, I_eq, if_neg, if_pos, if_true, if_false, I_10, I_01, bit_T, bit_F, bit_F', bit_0, bit_1, gb_bit, tw_s, tw_rw, tw_cells, tw_blockOf, tw_numberOf, aset_eq, aset_ne, aset_aset, Bool.false_eq_true, not_true_eq_false, not_false_eq_true, s1, tw_ones, h4, hlo]
    · simp (disch := first | omega | assumption) only [tw_rcv, tw_r1, tw_r2, tw_r3, tw_r5, tw_r7, tw_r12, tw_r14, tw_r15, tw_r16, tw_r17, tw_r18, Option.bind_some, lit_I, I_add, I_mul, I_le, I_lt, I_eq, if_neg, if_pos, if_true, if_false, I_10, I_01, bit_T, bit_F, bit_F', bit_0, bit_1, gb_bit, tw_s, tw_rw, tw_cells, tw_blockOf, tw_numberOf, aset_eq, aset_ne, aset_aset, Bool.false_eq_true, not_true_eq_false, not_false_eq_true, s1, tw_ones, h4]
  simp only [e4, if_false]
  by_cases e5 : y = I 5
  · simp only [e5, if_true]; simp (disch := first | omega | assumption) only [tw_rcv, tw_r1, tw_r2, tw_r3, tw_r5, tw_r7, tw_r12, tw_r14, tw_r15, tw_r16, tw_r17, tw_r18, Option.bind_some, lit_I, I_add, I_mul, I_le, I_lt, I_eq, if_neg, if_pos, if_true, if_false, I_10, I_01, bit_T, bit_F, bit_F', bit_0, bit_1, gb_bit, tw_s, tw_rw, tw_cells, tw_blockOf, tw_numberOf, aset_eq, aset_ne, aset_aset, Bool.false_eq_true, not_true_eq_false, not_false_eq_true, hst]
  simp only [e5, if_false]
theorem tw_line {x y : Int32} (hT : TI v A g) (hI : RInv g.1) : ∃ v' A', f_X13_line (some m) x y (TW m v A h) = some (r_line g x y, TW m v' A' h) ∧ TI v' A' g := by
  have hP := hI.1.1.1
  have hn := nc_le hP
  have hT0 := TI_v0 (x := I 0) hT
  have s1 : A 1 = g.1 := hT.2.1
  have hP1 : PG' (A 1) := by rw [s1]; exact hP
  have hA1 : SB (A 1) := hT.1 1
  have hs := TI_SB hT
  have hPP := hP
  obtain ⟨p1, p2, p3, p4⟩ := hPP
  unfold r_line
  cases h1 : bt x 0 (g.1 0 + g.1 1 - 1) with
  | false =>
    refine ⟨_, _, ?_, hT0⟩
    simp (disch := first | omega | assumption) only [tw_rcv, tw_r1, tw_r2, tw_r3, tw_r5, tw_r7, tw_r12, tw_r14, tw_r15, tw_r16, tw_r17, tw_r18, Option.bind_some, lit_I, I_add, I_mul, I_le, I_lt, I_eq, if_neg, if_pos, if_true, if_false, I_10, I_01, bit_T, bit_F, bit_F', bit_0, bit_1, gb_bit, tw_s, tw_rw, tw_cells, tw_blockOf, tw_numberOf, aset_eq, aset_ne, aset_aset, Bool.false_eq_true, not_true_eq_false, not_false_eq_true, f_X13_line, tw_p0, isLineZ hP1, s1, h1, Bool.false_and]
  | true =>
  obtain ⟨i, rfl, hna, -, hx⟩ := bt_ex (by decide) (by omega) h1
  simp only [hna]
  cases h2 : bt y 0 4 with
  | false =>
    refine ⟨_, _, ?_, hT0⟩
    simp (disch := first | omega | assumption) only [tw_rcv, tw_r1, tw_r2, tw_r3, tw_r5, tw_r7, tw_r12, tw_r14, tw_r15, tw_r16, tw_r17, tw_r18, Option.bind_some, lit_I, I_add, I_mul, I_le, I_lt, I_eq, if_neg, if_pos, if_true, if_false, I_10, I_01, bit_T, bit_F, bit_F', bit_0, bit_1, gb_bit, tw_s, tw_rw, tw_cells, tw_blockOf, tw_numberOf, aset_eq, aset_ne, aset_aset, Bool.false_eq_true, not_true_eq_false, not_false_eq_true, f_X13_line, tw_p0, isLineZ hP1, s1, h1, inZ, h2, Bool.true_and]
  | true =>
  obtain ⟨k, rfl, hnk, -, hy⟩ := bt_ex (by decide) (by decide) h2
  simp only [hnk]
  have hsum := tw_sumOf (m := m) (v := vup v 0 (I 0)) (h := h) (A := A) (i := i) (by rw [s1]; omega) hA1 hP1
  rw [s1] at hsum
  by_cases hk : k < 2
  · refine ⟨_, _, ?_, hT0⟩
    have : k = 0 ∨ k = 1 := by omega
    rcases this with rfl | rfl
    · simp (disch := first | omega | assumption) only [tw_rcv, tw_r1, tw_r2, tw_r3, tw_r5, tw_r7, tw_r12, tw_r14, tw_r15, tw_r16, tw_r17, tw_r18, Option.bind_some, lit_I, I_add, I_mul, I_le, I_lt, I_eq, if_neg, if_pos, if_true, if_false, I_10, I_01, bit_T, bit_F, bit_F', bit_0, bit_1, gb_bit, tw_s, tw_rw, tw_cells, tw_blockOf, tw_numberOf, aset_eq, aset_ne, aset_aset, Bool.false_eq_true, not_true_eq_false, not_false_eq_true, f_X13_line, tw_p0, isLineZ hP1, s1, h1, inZ, h2, Bool.true_and, hsum]
    · simp (disch := first | omega | assumption) only [tw_rcv, tw_r1, tw_r2, tw_r3, tw_r5, tw_r7, tw_r12, tw_r14, tw_r15, tw_r16, tw_r17, tw_r18, Option.bind_some, lit_I, I_add, I_mul, I_le, I_lt, I_eq, if_neg, if_pos, if_true, if_false, I_10, I_01, bit_T, bit_F, bit_F', bit_0, bit_1, gb_bit, tw_s, tw_rw, tw_cells, tw_blockOf, tw_numberOf, aset_eq, aset_ne, aset_aset, Bool.false_eq_true, not_true_eq_false, not_false_eq_true, f_X13_line, tw_p0, isLineZ hP1, s1, h1, inZ, h2, Bool.true_and]
  · obtain ⟨A2, b1, b2, b3, b4, b5, -⟩ := tw_layPT (m := m) (h := h) hT0 hI
    have s2 : A2 1 = g.1 := b2.2.1
    have hP2 : PG' (A2 1) := by rw [s2]; exact hP
    have hso := tw_sumsOf (m := m) (v := vup v 0 (I 0)) (h := h) (A := A2) (i := i) (b := none) (by rw [s2]; omega) (fun j hj => by cases hj) b5 hP2
    rw [s2, lsums_congr hP (by omega) b3 _ (Nat.le_refl _)] at hso
    have hbz : bz none = - I 1 := rfl
    rw [hbz] at hso
    have h31 := lsums_31 (s := g.1) (w := bd g.1) (i := i) (b := none) hP
    generalize lsums g.1 (bd g.1) i none (ln g.1 i) = L at hso h31 ⊢
    refine ⟨_, _, ?_, b2⟩
    by_cases hL : L = 0
    · subst hL
      have : k = 2 ∨ k = 3 ∨ k = 4 := by omega
      rcases this with rfl | rfl | rfl <;> simp (disch := first | omega | assumption) only [tw_rcv, tw_r1, tw_r2, tw_r3, tw_r5, tw_r7, tw_r12, tw_r14, tw_r15, tw_r16, tw_r17, tw_r18, Option.bind_some, lit_I, I_add, I_mul, I_le, I_lt, I_eq, if_neg, if_pos, if_true, if_false, I_10, I_01, bit_T, bit_F, bit_F', bit_0, bit_1, gb_bit, tw_s, tw_rw, tw_cells, tw_blockOf, tw_numberOf, aset_eq, aset_ne, aset_aset, Bool.false_eq_true, not_true_eq_false, not_false_eq_true, f_X13_line, tw_p0, isLineZ hP1, s1, h1, inZ, h2, Bool.true_and, b1, hso]
    · have hlo := tw_lowest (h := TW m (vup v 0 (I 0)) A2 h) hL h31
      have hhi := tw_highest (h := TW m (vup v 0 (I 0)) A2 h) hL h31
      have hon := tw_ones (h := TW m (vup v 0 (I 0)) A2 h) h31
      have : k = 2 ∨ k = 3 ∨ k = 4 := by omega
      rcases this with rfl | rfl | rfl <;> simp (disch := first | omega | assumption) only [tw_rcv, tw_r1, tw_r2, tw_r3, tw_r5, tw_r7, tw_r12, tw_r14, tw_r15, tw_r16, tw_r17, tw_r18, Option.bind_some, lit_I, I_add, I_mul, I_le, I_lt, I_eq, if_neg, if_pos, if_true, if_false, I_10, I_01, bit_T, bit_F, bit_F', bit_0, bit_1, gb_bit, tw_s, tw_rw, tw_cells, tw_blockOf, tw_numberOf, aset_eq, aset_ne, aset_aset, Bool.false_eq_true, not_true_eq_false, not_false_eq_true, f_X13_line, tw_p0, isLineZ hP1, s1, h1, inZ, h2, Bool.true_and, b1, hso, hlo, hhi, hon]
end TW63
