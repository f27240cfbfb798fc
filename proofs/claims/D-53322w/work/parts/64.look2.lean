/-! PLAIN LAW: the reference's looks: blocks, rules, the next step, the run -/
set_option maxRecDepth 100000
def brdC (s : Nat → Nat) (b c : Nat) : Nat → Nat := orTo (fun d => if adjb (s 1) c d = true ∧ ¬ s (8 + d) = b then 1 <<< s (8 + d) else 0)
def brdS (s : Nat → Nat) (b : Nat) : Nat → Nat := orTo (fun c => if s (8 + c) = b then brdC s b c (nc s) else 0)
def r_block (g : GS) (x y : Int32) : Int32 :=
  if (bt x 0 (nblk g.1 - 1) && bt y 0 4) = true then
    (if na y = 4 then I (pc (brdS g.1 (na x) (nc g.1))) else if na y = 0 then I (bsz g.1 (na x)) else if na y = 1 then cz (firstI (fun c => g.1 (8 + c) == na x) (nc g.1)) else if na y = 2 then I (sumTo (fun c => if g.1 (8 + c) = na x then g.1 (58 + c) else 0) (nc g.1)) else I (sumTo (fun c => if g.1 (8 + c) = na x ∧ pc (g.1 (93 + c)) = 1 then 1 else 0) (nc g.1))) else -1
theorem orTo_lt {f : Nat → Nat} {e : Nat} : ∀ {n}, (∀ i, i < n → f i < 2 ^ e) → orTo f n < 2 ^ e := by
  intro n
  induction n with
  | zero => intro _; exact Nat.two_pow_pos _
  | succ n ih => intro hf; exact Nat.or_lt_two_pow (ih (fun i hi => hf i (by omega))) (hf n (by omega))
theorem Nrm_lt {s : Nat → Nat} (hP : PG' s) (hN : Nrm s) {c : Nat} (hc : c < nc s) : s (8 + c) < 25 := by
  have hn := nc_le hP
  rw [hN c hc]
  have h2 := fst_spec hc
  have h3 := rkTo_le s (fst s c)
  unfold rk; omega
theorem brdC_lt {s : Nat → Nat} (hP : PG' s) (hN : Nrm s) {b c n : Nat} (hn : n ≤ nc s) : brdC s b c n < 2 ^ 25 := by
  refine orTo_lt (fun i hi => ?_)
  split
  · have := Nrm_lt hP hN (show i < nc s by omega)
    rw [Nat.one_shiftLeft]; exact Nat.pow_lt_pow_right (by decide) this
  · exact Nat.two_pow_pos _
theorem brdS_lt {s : Nat → Nat} (hP : PG' s) (hN : Nrm s) {b n : Nat} : brdS s b n < 2 ^ 25 := by
  refine orTo_lt (fun i hi => ?_)
  split
  · exact brdC_lt hP hN (Nat.le_refl _)
  · exact Nat.two_pow_pos _
section TW64
variable {m : Nat} {v : Nat → Int32} {A : Nat → Nat → Nat} {h : PH} {g : GS}
theorem orTo_or0 {a b : Nat} : a ||| (0 ||| b) = a ||| b := by rw [Nat.zero_or]
theorem tw_b15 {r4 : Option Nat → Int32 → Int32 → Int32 → PH → Option (Int32 × PH)} {b c st : Nat} (hb : b < 1000000) (hc : c < nc (A 1)) (hA : SB (A 1)) (hP : PG' (A 1)) (hN : Nrm (A 1)) : f_X13_borders_L15 r4 FU (some m) (I b) (I st) (I c) (I 0) (TW m v A h) = r4 (some m) (I b) (I (st ||| (if A 1 (8 + c) = b then brdC (A 1) b c (nc (A 1)) else 0))) (I (c + 1)) (TW m v A h) := by
  have hn := nc_le hP
  have h3 := hA (8 + c)
  by_cases h1 : A 1 (8 + c) = b
  · rw [if_pos h1]
    have key := loop_FU (fun k (p : Nat × Nat) => f_X13_borders_L15 r4 k (some m) (I b) (I p.1) (I c) (I p.2) (TW m v A h)) (fun k => (st ||| brdC (A 1) b c k, k)) (nc (A 1)) (r4 (some m) (I b) (I (st ||| brdC (A 1) b c (nc (A 1)))) (I (c + 1)) (TW m v A h)) (by omega) (fun k j hj => ?_) (fun k => ?_)
    · simp only [brdC, orTo, Nat.or_zero] at key
      exact key
    · have h4 := hA (8 + j)
      have h5 := Nrm_lt hP hN hj
      have had := tw_adj (m := m) (v := v) (h := h) (A := A) (a := c) (b := j) (by omega) (by omega) hP
      cases ha : adjb (A 1 1) c j with
      | false => simp (disch := first | omega | assumption) only [tw_rcv, tw_r1, tw_r2, tw_r3, tw_r5, tw_r7, tw_r12, tw_r14, tw_r15, tw_r16, tw_r17, tw_r18, Option.bind_some, lit_I, I_add, I_mul, I_le, I_lt, I_eq, if_neg, if_pos, if_true, if_false, I_10, I_01, bit_T, bit_F, bit_F', bit_0, bit_1, gb_bit, tw_s, tw_rw, tw_cells, tw_blockOf, tw_numberOf, aset_eq, aset_ne, aset_aset, Bool.false_eq_true, not_true_eq_false, not_false_eq_true, f_X13_borders_L15, h1, had, ha, brdC, orTo, false_and, I_or, Nat.or_assoc]
      | true =>
        by_cases h2 : A 1 (8 + j) = b
        · simp (disch := first | omega | assumption) only [tw_rcv, tw_r1, tw_r2, tw_r3, tw_r5, tw_r7, tw_r12, tw_r14, tw_r15, tw_r16, tw_r17, tw_r18, Option.bind_some, lit_I, I_add, I_mul, I_le, I_lt, I_eq, if_neg, if_pos, if_true, if_false, I_10, I_01, bit_T, bit_F, bit_F', bit_0, bit_1, gb_bit, tw_s, tw_rw, tw_cells, tw_blockOf, tw_numberOf, aset_eq, aset_ne, aset_aset, Bool.false_eq_true, not_true_eq_false, not_false_eq_true, f_X13_borders_L15, h1, had, ha, brdC, orTo, true_and, h2, I_or, Nat.or_assoc]
        · simp (disch := first | omega | assumption) only [tw_rcv, tw_r1, tw_r2, tw_r3, tw_r5, tw_r7, tw_r12, tw_r14, tw_r15, tw_r16, tw_r17, tw_r18, Option.bind_some, lit_I, I_add, I_mul, I_le, I_lt, I_eq, if_neg, if_pos, if_true, if_false, I_10, I_01, bit_T, bit_F, bit_F', bit_0, bit_1, gb_bit, tw_s, tw_rw, tw_cells, tw_blockOf, tw_numberOf, aset_eq, aset_ne, aset_aset, Bool.false_eq_true, not_true_eq_false, not_false_eq_true, f_X13_borders_L15, h1, had, ha, brdC, orTo, true_and, h2, I_or, I_shlM, I_and, Nat.or_assoc]
    · simp (disch := first | omega | assumption) only [tw_rcv, tw_r1, tw_r2, tw_r3, tw_r5, tw_r7, tw_r12, tw_r14, tw_r15, tw_r16, tw_r17, tw_r18, Option.bind_some, lit_I, I_add, I_mul, I_le, I_lt, I_eq, if_neg, if_pos, if_true, if_false, I_10, I_01, bit_T, bit_F, bit_F', bit_0, bit_1, gb_bit, tw_s, tw_rw, tw_cells, tw_blockOf, tw_numberOf, aset_eq, aset_ne, aset_aset, Bool.false_eq_true, not_true_eq_false, not_false_eq_true, f_X13_borders_L15]
  · rw [if_neg h1, Nat.or_zero]
    obtain ⟨f0, hF⟩ : ∃ f, FU = f + 1 := ⟨999999, FU_eq⟩
    rw [hF]
    simp (disch := first | omega | assumption) only [tw_rcv, tw_r1, tw_r2, tw_r3, tw_r5, tw_r7, tw_r12, tw_r14, tw_r15, tw_r16, tw_r17, tw_r18, Option.bind_some, lit_I, I_add, I_mul, I_le, I_lt, I_eq, if_neg, if_pos, if_true, if_false, I_10, I_01, bit_T, bit_F, bit_F', bit_0, bit_1, gb_bit, tw_s, tw_rw, tw_cells, tw_blockOf, tw_numberOf, aset_eq, aset_ne, aset_aset, Bool.false_eq_true, not_true_eq_false, not_false_eq_true, f_X13_borders_L15]
theorem tw_borders {b : Nat} (hb : b < 1000000) (hA : SB (A 1)) (hP : PG' (A 1)) (hN : Nrm (A 1)) : f_X13_borders (some m) (I b) (TW m v A h) = some (I (pc (brdS (A 1) b (nc (A 1)))), TW m v A h) := by
  have hn := nc_le hP
  unfold f_X13_borders
  refine loop_FU (fun k (p : Nat × Nat) => f_X13_borders_L4 k (some m) (I b) (I p.1) (I p.2) (TW m v A h)) (fun k => (brdS (A 1) b k, k)) (nc (A 1)) _ (by omega) (fun k j hj => ?_) (fun k => ?_)
  · simp (disch := first | omega | assumption) only [tw_rcv, tw_r1, tw_r2, tw_r3, tw_r5, tw_r7, tw_r12, tw_r14, tw_r15, tw_r16, tw_r17, tw_r18, Option.bind_some, lit_I, I_add, I_mul, I_le, I_lt, I_eq, if_neg, if_pos, if_true, if_false, I_10, I_01, bit_T, bit_F, bit_F', bit_0, bit_1, gb_bit, tw_s, tw_rw, tw_cells, tw_blockOf, tw_numberOf, aset_eq, aset_ne, aset_aset, Bool.false_eq_true, not_true_eq_false, not_false_eq_true, f_X13_borders_L4, tw_b15 hb hj hA hP hN, brdS, orTo]
  · have := brdS_lt (b := b) (n := nc (A 1)) hP hN
    simp (disch := first | omega | assumption) only [tw_rcv, tw_r1, tw_r2, tw_r3, tw_r5, tw_r7, tw_r12, tw_r14, tw_r15, tw_r16, tw_r17, tw_r18, Option.bind_some, lit_I, I_add, I_mul, I_le, I_lt, I_eq, if_neg, if_pos, if_true, if_false, I_10, I_01, bit_T, bit_F, bit_F', bit_0, bit_1, gb_bit, tw_s, tw_rw, tw_cells, tw_blockOf, tw_numberOf, aset_eq, aset_ne, aset_aset, Bool.false_eq_true, not_true_eq_false, not_false_eq_true, f_X13_borders_L4, tw_ones]
theorem tw_block {x y : Int32} (hT : TI v A g) (hI : RInv g.1) : ∃ v' A', f_X13_block (some m) x y (TW m v A h) = some (r_block g x y, TW m v' A' h) ∧ TI v' A' g := by
  have hP := hI.1.1.1
  have hn := nc_le hP
  have hT0 := TI_v0 (x := I 0) hT
  have s1 : A 1 = g.1 := hT.2.1
  have hP1 : PG' (A 1) := by rw [s1]; exact hP
  have hA1 : SB (A 1) := hT.1 1
  have hs := TI_SB hT
  refine ⟨_, _, ?_, hT0⟩
  have hnb : nblk g.1 ≤ 25 := by
    rw [nblk_rk hP hI.1.2.1]; have := rkTo_le g.1 (nc g.1); omega
  have hnb1 : 1 ≤ nblk g.1 := by unfold nblk; omega
  have hbl := tw_blocks (m := m) (v := vup v 0 (I 0)) (h := h) hA1 hP1
  rw [s1] at hbl
  unfold r_block
  cases h1 : bt x 0 (nblk g.1 - 1) with
  | false => simp (disch := first | omega | assumption) only [f_X13_block, lit_I, tw_p0, tw_rcv, Option.bind_some, hbl, I_sub, inZ, h1, bit_0, Bool.false_and, Bool.false_eq_true, not_false_eq_true, if_true, if_false]
  | true =>
  obtain ⟨b, rfl, hna, -, hx⟩ := bt_ex (by decide) (by omega) h1
  simp only [hna]
  cases h2 : bt y 0 4 with
  | false => simp (disch := first | omega | assumption) only [f_X13_block, lit_I, tw_p0, tw_rcv, Option.bind_some, hbl, I_sub, inZ, h1, h2, bit_0, Bool.true_and, Bool.false_eq_true, not_false_eq_true, not_true_eq_false, if_true, if_false]
  | true =>
  obtain ⟨k, rfl, hnk, -, hy⟩ := bt_ex (by decide) (by decide) h2
  simp only [hnk]
  have hbr := tw_borders (m := m) (v := vup v 0 (I 0)) (h := h) (A := A) (b := b) (by omega) hA1 hP1 (by rw [s1]; exact hI.1.2.1)
  rw [s1] at hbr
  simp (disch := first | omega | assumption) only [f_X13_block, lit_I, tw_p0, tw_rcv, Option.bind_some, hbl, I_sub, inZ, h1, h2, bit_0, Bool.true_and, not_true_eq_false, if_true, if_false, I_eq, hbr]
  by_cases h4 : k = 4
  · simp only [h4, if_true]
  · simp only [h4, if_false]
    have key := loop_FU (fun n (p : Int32 × Nat × Nat × Nat × Nat) => f_X13_block_L56 n (some m) (I b) (I k) p.1 (I p.2.1) (I p.2.2.1) (I p.2.2.2.1) (I p.2.2.2.2) (TW m (vup v 0 (I 0)) A h)) (fun n => (cz (firstI (fun c => g.1 (8 + c) == b) n), sumTo (fun c => if g.1 (8 + c) = b then 1 else 0) n, sumTo (fun c => if g.1 (8 + c) = b then g.1 (58 + c) else 0) n, sumTo (fun c => if g.1 (8 + c) = b ∧ pc (g.1 (93 + c)) = 1 then 1 else 0) n, n)) (nc g.1) (some ((if k = 0 then I (bsz g.1 b) else if k = 1 then cz (firstI (fun c => g.1 (8 + c) == b) (nc g.1)) else if k = 2 then I (sumTo (fun c => if g.1 (8 + c) = b then g.1 (58 + c) else 0) (nc g.1)) else I (sumTo (fun c => if g.1 (8 + c) = b ∧ pc (g.1 (93 + c)) = 1 then 1 else 0) (nc g.1))), TW m (vup v 0 (I 0)) A h)) (by omega) (fun n j hj => ?_) (fun n => ?_)
    · exact key
    · have h5 := hs (8 + j)
      have h93 := hs (93 + j)
      have hpl := pc_le (g.1 (93 + j))
      by_cases h6 : g.1 (8 + j) = b
      · cases hf : firstI (fun c => g.1 (8 + c) == b) j with
        | none =>
          by_cases h7 : pc (g.1 (93 + j)) = 1
          · simp (disch := first | omega | assumption) only [tw_rcv, tw_r1, tw_r2, tw_r3, tw_r5, tw_r7, tw_r12, tw_r14, tw_r15, tw_r16, tw_r17, tw_r18, Option.bind_some, lit_I, I_add, I_mul, I_le, I_lt, I_eq, if_neg, if_pos, if_true, if_false, I_10, I_01, bit_T, bit_F, bit_F', bit_0, bit_1, gb_bit, tw_s, tw_rw, tw_cells, tw_blockOf, tw_numberOf, aset_eq, aset_ne, aset_aset, Bool.false_eq_true, not_true_eq_false, not_false_eq_true, f_X13_block_L56, f_X13_block_B87, s1, h6, firstI_snoc, hf, cz, tw_ones, h7, sumTo, beq_self_eq_true, true_and]
          · simp (disch := first | omega | assumption) only [tw_rcv, tw_r1, tw_r2, tw_r3, tw_r5, tw_r7, tw_r12, tw_r14, tw_r15, tw_r16, tw_r17, tw_r18, Option.bind_some, lit_I, I_add, I_mul, I_le, I_lt, I_eq, if_neg, if_pos, if_true, if_false, I_10, I_01, bit_T, bit_F, bit_F', bit_0, bit_1, gb_bit, tw_s, tw_rw, tw_cells, tw_blockOf, tw_numberOf, aset_eq, aset_ne, aset_aset, Bool.false_eq_true, not_true_eq_false, not_false_eq_true, f_X13_block_L56, f_X13_block_B87, s1, h6, firstI_snoc, hf, cz, tw_ones, h7, sumTo, beq_self_eq_true, true_and]
        | some f =>
          have hfl := (firstI_some.mp hf).1
          by_cases h7 : pc (g.1 (93 + j)) = 1
          · simp (disch := first | omega | assumption) only [tw_rcv, tw_r1, tw_r2, tw_r3, tw_r5, tw_r7, tw_r12, tw_r14, tw_r15, tw_r16, tw_r17, tw_r18, Option.bind_some, lit_I, I_add, I_mul, I_le, I_lt, I_eq, if_neg, if_pos, if_true, if_false, I_10, I_01, bit_T, bit_F, bit_F', bit_0, bit_1, gb_bit, tw_s, tw_rw, tw_cells, tw_blockOf, tw_numberOf, aset_eq, aset_ne, aset_aset, Bool.false_eq_true, not_true_eq_false, not_false_eq_true, f_X13_block_L56, f_X13_block_B87, s1, h6, firstI_snoc, hf, cz, cz_none_ne, tw_ones, h7, sumTo, true_and]
          · simp (disch := first | omega | assumption) only [tw_rcv, tw_r1, tw_r2, tw_r3, tw_r5, tw_r7, tw_r12, tw_r14, tw_r15, tw_r16, tw_r17, tw_r18, Option.bind_some, lit_I, I_add, I_mul, I_le, I_lt, I_eq, if_neg, if_pos, if_true, if_false, I_10, I_01, bit_T, bit_F, bit_F', bit_0, bit_1, gb_bit, tw_s, tw_rw, tw_cells, tw_blockOf, tw_numberOf, aset_eq, aset_ne, aset_aset, Bool.false_eq_true, not_true_eq_false, not_false_eq_true, f_X13_block_L56, f_X13_block_B87, s1, h6, firstI_snoc, hf, cz, cz_none_ne, tw_ones, h7, sumTo, true_and]
      · have h8 : (g.1 (8 + j) == b) = false := by simp [h6]
        have h9 : firstI (fun c => g.1 (8 + c) == b) (j + 1) = firstI (fun c => g.1 (8 + c) == b) j := by
          rw [firstI_snoc]; simp only [h8, Bool.false_eq_true, if_false]
          cases firstI (fun c => g.1 (8 + c) == b) j <;> rfl
        simp (disch := first | omega | assumption) only [tw_rcv, tw_r1, tw_r2, tw_r3, tw_r5, tw_r7, tw_r12, tw_r14, tw_r15, tw_r16, tw_r17, tw_r18, Option.bind_some, lit_I, I_add, I_mul, I_le, I_lt, I_eq, if_neg, if_pos, if_true, if_false, I_10, I_01, bit_T, bit_F, bit_F', bit_0, bit_1, gb_bit, tw_s, tw_rw, tw_cells, tw_blockOf, tw_numberOf, aset_eq, aset_ne, aset_aset, Bool.false_eq_true, not_true_eq_false, not_false_eq_true, f_X13_block_L56, s1, h9, sumTo, h6, false_and, Nat.add_zero]
    · simp (disch := first | omega | assumption) only [tw_rcv, tw_r1, tw_r2, tw_r3, tw_r5, tw_r7, tw_r12, tw_r14, tw_r15, tw_r16, tw_r17, tw_r18, Option.bind_some, lit_I, I_add, I_mul, I_le, I_lt, I_eq, if_neg, if_pos, if_true, if_false, I_10, I_01, bit_T, bit_F, bit_F', bit_0, bit_1, gb_bit, tw_s, tw_rw, tw_cells, tw_blockOf, tw_numberOf, aset_eq, aset_ne, aset_aset, Bool.false_eq_true, not_true_eq_false, not_false_eq_true, f_X13_block_L56, s1]
      by_cases k0 : k = 0
      · simp only [k0, if_true]; rfl
      · by_cases k1 : k = 1
        · simp only [k1, if_true]; rfl
        · by_cases k2 : k = 2
          · simp only [k2, if_true]; rfl
          · simp only [k0, k1, k2, if_false]
/-! strikes of a rule on a board as it is -/
def stbC (s w : Nat → Nat) (r c : Nat) : Nat → Nat := sumTo (fun k => if numP s w r c (k + 1) = true then 1 else 0)
def stb (s w : Nat → Nat) (r : Nat) : Nat := if brk s w = true then 0 else sumTo (fun c => stbC s w r c 6) (nc s)
theorem tw_sb26 {r8 : Option Nat → Int32 → Int32 → Int32 → PH → Option (Int32 × PH)} {r c n0 : Nat} (hr : r < 5) (hc : c < nc (A 1)) (hW : WB (A 1) (A 5)) (hA : SB (A 1)) (hS : SB (A 5)) (hP : PG' (A 1)) (hN : NB (A 1)) : f_X13_strikesBy_L26 r8 FU (some m) (I r) (I n0) (I c) (I 1) (TW m v A h) = r8 (some m) (I r) (I (n0 + stbC (A 1) (A 5) r c 6)) (I (c + 1)) (TW m v A h) := by
  have hn := nc_le hP
  have hw := hW c hc
  refine loop_FU (fun k (p : Nat × Nat) => f_X13_strikesBy_L26 r8 k (some m) (I r) (I p.1) (I c) (I (p.2 + 1)) (TW m v A h)) (fun k => (n0 + stbC (A 1) (A 5) r c k, k)) 6 _ (by omega) (fun k j hj => ?_) (fun k => ?_)
  · cases h1 : (A 5 c).testBit (j + 1) with
    | false => simp (disch := first | omega | assumption) only [tw_rcv, tw_r1, tw_r2, tw_r3, tw_r5, tw_r7, tw_r12, tw_r14, tw_r15, tw_r16, tw_r17, tw_r18, Option.bind_some, lit_I, I_add, I_mul, I_le, I_lt, I_eq, if_neg, if_pos, if_true, if_false, I_10, I_01, bit_T, bit_F, bit_F', bit_0, bit_1, gb_bit, tw_s, tw_rw, tw_cells, tw_blockOf, tw_numberOf, aset_eq, aset_ne, aset_aset, Bool.false_eq_true, not_true_eq_false, not_false_eq_true, f_X13_strikesBy_L26, tw_has, h1, stbC, sumTo, numP, Bool.false_and, Nat.add_zero]
    | true =>
      cases h2 : causeC (A 1) (A 5) r c (j + 1) with
      | none => simp (disch := first | omega | assumption) only [tw_rcv, tw_r1, tw_r2, tw_r3, tw_r5, tw_r7, tw_r12, tw_r14, tw_r15, tw_r16, tw_r17, tw_r18, Option.bind_some, lit_I, I_add, I_mul, I_le, I_lt, I_eq, if_neg, if_pos, if_true, if_false, I_10, I_01, bit_T, bit_F, bit_F', bit_0, bit_1, gb_bit, tw_s, tw_rw, tw_cells, tw_blockOf, tw_numberOf, aset_eq, aset_ne, aset_aset, Bool.false_eq_true, not_true_eq_false, not_false_eq_true, f_X13_strikesBy_L26, tw_has, h1, tw_causeOf, h2, cz, stbC, sumTo, numP, Bool.true_and, Option.isSome_none, Nat.add_zero]
      | some z =>
        have h4 := cause_lt hP hc hw.2 h2
        simp (disch := first | omega | assumption) only [tw_rcv, tw_r1, tw_r2, tw_r3, tw_r5, tw_r7, tw_r12, tw_r14, tw_r15, tw_r16, tw_r17, tw_r18, Option.bind_some, lit_I, I_add, I_mul, I_le, I_lt, I_eq, if_neg, if_pos, if_true, if_false, I_10, I_01, bit_T, bit_F, bit_F', bit_0, bit_1, gb_bit, tw_s, tw_rw, tw_cells, tw_blockOf, tw_numberOf, aset_eq, aset_ne, aset_aset, Bool.false_eq_true, not_true_eq_false, not_false_eq_true, f_X13_strikesBy_L26, tw_has, h1, tw_causeOf, h2, cz, cz_none_ne, stbC, sumTo, numP, Bool.true_and, Option.isSome_some, Nat.add_assoc]
  · simp (disch := first | omega | assumption) only [tw_rcv, tw_r1, tw_r2, tw_r3, tw_r5, tw_r7, tw_r12, tw_r14, tw_r15, tw_r16, tw_r17, tw_r18, Option.bind_some, lit_I, I_add, I_mul, I_le, I_lt, I_eq, if_neg, if_pos, if_true, if_false, I_10, I_01, bit_T, bit_F, bit_F', bit_0, bit_1, gb_bit, tw_s, tw_rw, tw_cells, tw_blockOf, tw_numberOf, aset_eq, aset_ne, aset_aset, Bool.false_eq_true, not_true_eq_false, not_false_eq_true, f_X13_strikesBy_L26]
theorem tw_strikesBy {r : Nat} (hr : r < 5) (hT : TI v A g) (hI : RInv g.1) : ∃ A', f_X13_strikesBy (some m) (I r) (TW m v A h) = some (I (stb g.1 (bd g.1) r), TW m v A' h) ∧ TI v A' g := by
  have hP := hI.1.1.1
  have hn := nc_le hP
  obtain ⟨A2, b1, b2, b3, b4, b5, -⟩ := tw_layPT (m := m) (h := h) hT hI
  have s2 : A2 1 = g.1 := b2.2.1
  have hP2 : PG' (A2 1) := by rw [s2]; exact hP
  have hA2 : SB (A2 1) := b2.1 1
  have hN2 : NB (A2 1) := by rw [s2]; exact hI.1.1.NB
  have hW2 : W7 (A2 1) (A2 5) := by rw [s2]; exact b4
  refine ⟨A2, ?_, b2⟩
  have hbr := tw_isBroken (m := m) (v := v) (h := h) b5 hP2
  have e : stb g.1 (bd g.1) r = stb (A2 1) (A2 5) r := by
    have e2 : sumTo (fun c => stbC g.1 (bd g.1) r c 6) (nc g.1) = sumTo (fun c => stbC g.1 (A2 5) r c 6) (nc g.1) := sumTo_congr (fun c hc => sumTo_congr (fun k hk => by
      have e3 : numP g.1 (bd g.1) r c (k + 1) = numP g.1 (A2 5) r c (k + 1) := by unfold numP; rw [b3 c hc, causeC_congr hP hc b3]
      rw [e3]))
    rw [s2]
    unfold stb
    rw [brk_congr b3, e2]
  rw [e]
  cases hb : brk (A2 1) (A2 5) with
  | true =>
    obtain ⟨f0, hF⟩ : ∃ f, FU = f + 1 := ⟨999999, FU_eq⟩
    simp (disch := first | omega | assumption) only [tw_rcv, tw_r1, tw_r2, tw_r3, tw_r5, tw_r7, tw_r12, tw_r14, tw_r15, tw_r16, tw_r17, tw_r18, Option.bind_some, lit_I, I_add, I_mul, I_le, I_lt, I_eq, if_neg, if_pos, if_true, if_false, I_10, I_01, bit_T, bit_F, bit_F', bit_0, bit_1, gb_bit, tw_s, tw_rw, tw_cells, tw_blockOf, tw_numberOf, aset_eq, aset_ne, aset_aset, Bool.false_eq_true, not_true_eq_false, not_false_eq_true, f_X13_strikesBy, b1, stb, hb]
    rw [hF]
    have hn2 := nc_le hP2
    simp (disch := first | omega | assumption) only [tw_rcv, tw_r1, tw_r2, tw_r3, tw_r5, tw_r7, tw_r12, tw_r14, tw_r15, tw_r16, tw_r17, tw_r18, Option.bind_some, lit_I, I_add, I_mul, I_le, I_lt, I_eq, if_neg, if_pos, if_true, if_false, I_10, I_01, bit_T, bit_F, bit_F', bit_0, bit_1, gb_bit, tw_s, tw_rw, tw_cells, tw_blockOf, tw_numberOf, aset_eq, aset_ne, aset_aset, Bool.false_eq_true, not_true_eq_false, not_false_eq_true, f_X13_strikesBy_L8, hbr, hb]
  | false =>
    have hWB := WB_of hW2 hb
    have hn2 := nc_le hP2
    simp (disch := first | omega | assumption) only [tw_rcv, tw_r1, tw_r2, tw_r3, tw_r5, tw_r7, tw_r12, tw_r14, tw_r15, tw_r16, tw_r17, tw_r18, Option.bind_some, lit_I, I_add, I_mul, I_le, I_lt, I_eq, if_neg, if_pos, if_true, if_false, I_10, I_01, bit_T, bit_F, bit_F', bit_0, bit_1, gb_bit, tw_s, tw_rw, tw_cells, tw_blockOf, tw_numberOf, aset_eq, aset_ne, aset_aset, Bool.false_eq_true, not_true_eq_false, not_false_eq_true, f_X13_strikesBy, b1, stb, hb]
    refine loop_FU (fun k (p : Nat × Nat) => f_X13_strikesBy_L8 k (some m) (I r) (I p.1) (I p.2) (TW m v A2 h)) (fun k => (sumTo (fun c => stbC (A2 1) (A2 5) r c 6) k, k)) (nc (A2 1)) _ (by omega) (fun k j hj => ?_) (fun k => ?_)
    · simp (disch := first | omega | assumption) only [tw_rcv, tw_r1, tw_r2, tw_r3, tw_r5, tw_r7, tw_r12, tw_r14, tw_r15, tw_r16, tw_r17, tw_r18, Option.bind_some, lit_I, I_add, I_mul, I_le, I_lt, I_eq, if_neg, if_pos, if_true, if_false, I_10, I_01, bit_T, bit_F, bit_F', bit_0, bit_1, gb_bit, tw_s, tw_rw, tw_cells, tw_blockOf, tw_numberOf, aset_eq, aset_ne, aset_aset, Bool.false_eq_true, not_true_eq_false, not_false_eq_true, f_X13_strikesBy_L8, hbr, hb, tw_sb26 hr hj hWB hA2 b5 hP2 hN2, sumTo]
    · simp (disch := first | omega | assumption) only [tw_rcv, tw_r1, tw_r2, tw_r3, tw_r5, tw_r7, tw_r12, tw_r14, tw_r15, tw_r16, tw_r17, tw_r18, Option.bind_some, lit_I, I_add, I_mul, I_le, I_lt, I_eq, if_neg, if_pos, if_true, if_false, I_10, I_01, bit_T, bit_F, bit_F', bit_0, bit_1, gb_bit, tw_s, tw_rw, tw_cells, tw_blockOf, tw_numberOf, aset_eq, aset_ne, aset_aset, Bool.false_eq_true, not_true_eq_false, not_false_eq_true, f_X13_strikesBy_L8]
/-! steps of the run -/
def ctR (r : Nat) (l : List SP4) : Nat → Nat := sumTo (fun k => match l[k]? with | some t => if t.1 = r then 1 else 0 | none => 0)
def r_rule (g : GS) (x y : Int32) : Int32 :=
  if (bt x 0 4 && bt y 0 3) = true then
    (if na y = 0 then I (bit ((g.1 2).testBit (na x) = true)) else if na y = 1 then I (g.1 (3 + na x)) else if na y = 3 then I (stb g.1 (bd g.1) (na x)) else I (ctR (na x) (endF g.1 (g.1 2)).1 (endF g.1 (g.1 2)).1.length)) else -1
def r_possible (g : GS) (x y : Int32) : Int32 :=
  if (bt x 0 (nc g.1 - 1) && bt y 1 (bsz g.1 (g.1 (8 + na x)))) = true then I (bit ((g.1 (93 + na x)).testBit (na y) = true)) else -1
def r_why (g : GS) (x y z : Int32) : Int32 :=
  if (bt x 0 (nc g.1 - 1) && bt y 1 (bsz g.1 (g.1 (8 + na x))) && bt z 0 1) = true then
    (match strk g.1 (bd g.1) (na x) (na y) with | none => -99 | some t => if na z = 0 then I t.1 else I t.2) else -1
def r_next (g : GS) (x : Int32) : Int32 :=
  if bt x 0 3 = true then (match findS g.1 (bd g.1) (g.1 2) with | none => -99 | some t => I (prt t (na x))) else -1
theorem tw_r6' {j : Nat} (hj : j < 600) : ald 0 (some (m + 6)) (I j) (TW m v A h) = some (I (A 6 j)) := tw_ald (o := 6) (by decide) hj
theorem tw_endT (hT : TI v A g) (hI : RInv g.1) : ∃ v' A', f_X13_goThrough (some m) (TW m v A h) = some (TW m v' A' h) ∧ TI v' A' g ∧ VK v v' ∧ v' 13 = I (endF g.1 (g.1 2)).1.length ∧ HS (A' 6) 0 (endF g.1 (g.1 2)).1 ∧ EqN (nc g.1) (A' 5) (endF g.1 (g.1 2)).2 := by
  have s1 : A 1 = g.1 := hT.2.1
  obtain ⟨v', A', e1, e2, e3, e4, e5⟩ := tw_goThrough (m := m) (v := v) (h := h) hT.1 (by rw [s1]; exact hI.1.1.1) (by rw [s1]; exact hI.1.1.NB)
  rw [s1] at e3 e4 e5
  exact ⟨v', A', e1, TI_LK hT e2, e2.1, e3, e4, e5⟩
theorem goE_len {s w : Nat → Nat} {rules : Nat} (hP : PG' s) : (goE s rules w).1.length ≤ 150 := by
  have h1 := (goN_len (s := s) (rules := rules) 151 w).2
  have h2 := mu_le s w
  have h3 := nc_le hP
  unfold goE; omega
theorem goN_mem {s : Nat → Nat} {rules : Nat} : ∀ k w t, t ∈ (goN s rules k w).1 → W7 s w → PG' s → t.1 < 5 ∧ rules.testBit t.1 = true ∧ t.2.1 < nc s ∧ 1 ≤ t.2.2.1 ∧ t.2.2.1 ≤ 6 ∧ t.2.2.2 < 25 := by
  intro k
  induction k with
  | zero => intro w t h; simp [goN] at h
  | succ k ih =>
    intro w t h hW hP
    cases hf : findS s w rules with
    | none => simp [goN, hf] at h
    | some u =>
      obtain ⟨-, h1, h2, h3, h4, h5, h6, h7⟩ := findS_some hf
      simp only [goN, hf, List.mem_cons] at h
      rcases h with h | h
      · subst h; exact ⟨h1, h2, h3, h4, h5, cause_lt hP h3 (hW _ h3) h7⟩
      · exact ih _ t h (strW_W7 hW) hP
theorem tw_rule {x y : Int32} (hT : TI v A g) (hI : RInv g.1) : ∃ v' A', f_X13_rule (some m) x y (TW m v A h) = some (r_rule g x y, TW m v' A' h) ∧ TI v' A' g := by
  have hP := hI.1.1.1
  have hT0 := TI_v0 (x := I 0) hT
  have s1 : A 1 = g.1 := hT.2.1
  have hs := TI_SB hT
  unfold r_rule
  cases h1 : bt x 0 4 with
  | false =>
    refine ⟨_, _, ?_, hT0⟩
    simp (disch := first | omega | assumption) only [tw_rcv, tw_r1, tw_r2, tw_r3, tw_r5, tw_r7, tw_r12, tw_r14, tw_r15, tw_r16, tw_r17, tw_r18, Option.bind_some, lit_I, I_add, I_mul, I_le, I_lt, I_eq, if_neg, if_pos, if_true, if_false, I_10, I_01, bit_T, bit_F, bit_F', bit_0, bit_1, gb_bit, tw_s, tw_rw, tw_cells, tw_blockOf, tw_numberOf, aset_eq, aset_ne, aset_aset, Bool.false_eq_true, not_true_eq_false, not_false_eq_true, f_X13_rule, tw_p0, inZ, h1, Bool.false_and]
  | true =>
  obtain ⟨r, rfl, hna, -, hx⟩ := bt_ex (by decide) (by decide) h1
  simp only [hna]
  cases h2 : bt y 0 3 with
  | false =>
    refine ⟨_, _, ?_, hT0⟩
    simp (disch := first | omega | assumption) only [tw_rcv, tw_r1, tw_r2, tw_r3, tw_r5, tw_r7, tw_r12, tw_r14, tw_r15, tw_r16, tw_r17, tw_r18, Option.bind_some, lit_I, I_add, I_mul, I_le, I_lt, I_eq, if_neg, if_pos, if_true, if_false, I_10, I_01, bit_T, bit_F, bit_F', bit_0, bit_1, gb_bit, tw_s, tw_rw, tw_cells, tw_blockOf, tw_numberOf, aset_eq, aset_ne, aset_aset, Bool.false_eq_true, not_true_eq_false, not_false_eq_true, f_X13_rule, tw_p0, inZ, h1, h2, Bool.true_and]
  | true =>
  obtain ⟨k, rfl, hnk, -, hy⟩ := bt_ex (by decide) (by decide) h2
  simp only [hnk]
  have hk : k = 0 ∨ k = 1 ∨ k = 2 ∨ k = 3 := by omega
  have hs2 := hs 2
  rcases hk with rfl | rfl | rfl | rfl
  · refine ⟨_, _, ?_, hT0⟩
    simp (disch := first | omega | assumption) only [tw_rcv, tw_r1, tw_r2, tw_r3, tw_r5, tw_r7, tw_r12, tw_r14, tw_r15, tw_r16, tw_r17, tw_r18, Option.bind_some, lit_I, I_add, I_mul, I_le, I_lt, I_eq, if_neg, if_pos, if_true, if_false, I_10, I_01, bit_T, bit_F, bit_F', bit_0, bit_1, gb_bit, tw_s, tw_rw, tw_cells, tw_blockOf, tw_numberOf, aset_eq, aset_ne, aset_aset, Bool.false_eq_true, not_true_eq_false, not_false_eq_true, f_X13_rule, tw_p0, inZ, h1, h2, Bool.true_and, s1, I_shrM, I_and, shr1_bit]
  · refine ⟨_, _, ?_, hT0⟩
    simp (disch := first | omega | assumption) only [tw_rcv, tw_r1, tw_r2, tw_r3, tw_r5, tw_r7, tw_r12, tw_r14, tw_r15, tw_r16, tw_r17, tw_r18, Option.bind_some, lit_I, I_add, I_mul, I_le, I_lt, I_eq, if_neg, if_pos, if_true, if_false, I_10, I_01, bit_T, bit_F, bit_F', bit_0, bit_1, gb_bit, tw_s, tw_rw, tw_cells, tw_blockOf, tw_numberOf, aset_eq, aset_ne, aset_aset, Bool.false_eq_true, not_true_eq_false, not_false_eq_true, f_X13_rule, tw_p0, inZ, h1, h2, Bool.true_and, s1]
  · obtain ⟨v', A', e1, e2, -, e3, e4, e5⟩ := tw_endT (m := m) (h := h) hT0 hI
    refine ⟨v', A', ?_, e2⟩
    simp (disch := first | omega | assumption) only [tw_rcv, tw_r1, tw_r2, tw_r3, tw_r5, tw_r7, tw_r12, tw_r14, tw_r15, tw_r16, tw_r17, tw_r18, Option.bind_some, lit_I, I_add, I_mul, I_le, I_lt, I_eq, if_neg, if_pos, if_true, if_false, I_10, I_01, bit_T, bit_F, bit_F', bit_0, bit_1, gb_bit, tw_s, tw_rw, tw_cells, tw_blockOf, tw_numberOf, aset_eq, aset_ne, aset_aset, Bool.false_eq_true, not_true_eq_false, not_false_eq_true, f_X13_rule, tw_p0, inZ, h1, h2, Bool.true_and, e1]
    have hlen := goE_len (s := g.1) (w := fb g.1) (rules := g.1 2) hP
    have hmem := fun t => goN_mem (s := g.1) (rules := g.1 2) 151 (fb g.1) t
    generalize hl : (endF g.1 (g.1 2)).1 = l at e3 e4
    have hl' : (goE g.1 (g.1 2) (fb g.1)).1 = l := hl
    rw [hl'] at hlen
    have hl'' : (goN g.1 (g.1 2) 151 (fb g.1)).1 = l := hl
    rw [hl''] at hmem
    refine loop_FU (fun n (p : Nat × Nat) => f_X13_rule_L76 n (some m) (I r) (I p.1) (I p.2) (TW m v' A' h)) (fun n => (ctR r l n, n)) l.length _ (by omega) (fun n j hj => ?_) (fun n => ?_)
    · have hj' : l[j]? = some l[j] := List.getElem?_eq_getElem hj
      have h6 := e4 j _ hj' 0 (by decide)
      simp only [Nat.zero_add, Nat.add_zero, prt] at h6
      have h7 := (hmem l[j] (List.getElem_mem hj) (fb_W7 hI.1.1.NB) hP).1
      by_cases h8 : l[j].1 = r
      · simp (disch := first | omega | assumption) only [tw_rcv, tw_r1, tw_r2, tw_r3, tw_r5, tw_r7, tw_r12, tw_r14, tw_r15, tw_r16, tw_r17, tw_r18, Option.bind_some, lit_I, I_add, I_mul, I_le, I_lt, I_eq, if_neg, if_pos, if_true, if_false, I_10, I_01, bit_T, bit_F, bit_F', bit_0, bit_1, gb_bit, tw_s, tw_rw, tw_cells, tw_blockOf, tw_numberOf, aset_eq, aset_ne, aset_aset, Bool.false_eq_true, not_true_eq_false, not_false_eq_true, f_X13_rule_L76, tw_int (k := 13) rfl, e3, tw_r6', h6, h8, ctR, sumTo, hj']
      · simp (disch := first | omega | assumption) only [tw_rcv, tw_r1, tw_r2, tw_r3, tw_r5, tw_r7, tw_r12, tw_r14, tw_r15, tw_r16, tw_r17, tw_r18, Option.bind_some, lit_I, I_add, I_mul, I_le, I_lt, I_eq, if_neg, if_pos, if_true, if_false, I_10, I_01, bit_T, bit_F, bit_F', bit_0, bit_1, gb_bit, tw_s, tw_rw, tw_cells, tw_blockOf, tw_numberOf, aset_eq, aset_ne, aset_aset, Bool.false_eq_true, not_true_eq_false, not_false_eq_true, f_X13_rule_L76, tw_int (k := 13) rfl, e3, tw_r6', h6, h8, ctR, sumTo, hj']
    · simp (disch := first | omega | assumption) only [tw_rcv, tw_r1, tw_r2, tw_r3, tw_r5, tw_r7, tw_r12, tw_r14, tw_r15, tw_r16, tw_r17, tw_r18, Option.bind_some, lit_I, I_add, I_mul, I_le, I_lt, I_eq, if_neg, if_pos, if_true, if_false, I_10, I_01, bit_T, bit_F, bit_F', bit_0, bit_1, gb_bit, tw_s, tw_rw, tw_cells, tw_blockOf, tw_numberOf, aset_eq, aset_ne, aset_aset, Bool.false_eq_true, not_true_eq_false, not_false_eq_true, f_X13_rule_L76, tw_int (k := 13) rfl, e3]
  · obtain ⟨A', e1, e2⟩ := tw_strikesBy (m := m) (h := h) (r := r) (by omega) hT0 hI
    refine ⟨_, A', ?_, e2⟩
    simp (disch := first | omega | assumption) only [tw_rcv, tw_r1, tw_r2, tw_r3, tw_r5, tw_r7, tw_r12, tw_r14, tw_r15, tw_r16, tw_r17, tw_r18, Option.bind_some, lit_I, I_add, I_mul, I_le, I_lt, I_eq, if_neg, if_pos, if_true, if_false, I_10, I_01, bit_T, bit_F, bit_F', bit_0, bit_1, gb_bit, tw_s, tw_rw, tw_cells, tw_blockOf, tw_numberOf, aset_eq, aset_ne, aset_aset, Bool.false_eq_true, not_true_eq_false, not_false_eq_true, f_X13_rule, tw_p0, inZ, h1, h2, Bool.true_and, e1]
theorem tw_possible {x y : Int32} (hT : TI v A g) (hI : RInv g.1) : ∃ v' A', f_X13_possible (some m) x y (TW m v A h) = some (r_possible g x y, TW m v' A' h) ∧ TI v' A' g := by
  have hP := hI.1.1.1
  have hn := nc_le hP
  have hT0 := TI_v0 (x := I 0) hT
  have s1 : A 1 = g.1 := hT.2.1
  have hA1 : SB (A 1) := hT.1 1
  have hin := isNumberZ (m := m) (v := vup v 0 (I 0)) (h := h) (x := x) (y := y) hA1 (by rw [s1]; exact hP)
  rw [s1] at hin
  refine ⟨_, _, ?_, hT0⟩
  unfold r_possible
  cases h1 : (bt x 0 (nc g.1 - 1) && bt y 1 (bsz g.1 (g.1 (8 + na x)))) with
  | false => simp (disch := first | omega | assumption) only [tw_rcv, tw_r1, tw_r2, tw_r3, tw_r5, tw_r7, tw_r12, tw_r14, tw_r15, tw_r16, tw_r17, tw_r18, Option.bind_some, lit_I, I_add, I_mul, I_le, I_lt, I_eq, if_neg, if_pos, if_true, if_false, I_10, I_01, bit_T, bit_F, bit_F', bit_0, bit_1, gb_bit, tw_s, tw_rw, tw_cells, tw_blockOf, tw_numberOf, aset_eq, aset_ne, aset_aset, Bool.false_eq_true, not_true_eq_false, not_false_eq_true, f_X13_possible, tw_p0, hin, h1]
  | true =>
  obtain ⟨h2, h3⟩ := (Bool.and_eq_true _ _).mp h1
  obtain ⟨c, rfl, hna, -, hx⟩ := bt_ex (by decide) (by omega) h2
  have hc : c < nc g.1 := by omega
  rw [hna] at h3
  have hz6 := (hI.1.1.2.2.1 _ hc).1
  obtain ⟨k, rfl, hnk, hy0, hy⟩ := bt_ex (by decide) (by omega) h3
  have hb := (hI.1.2.2 c hc).1
  simp only [hna, hnk]
  simp (disch := first | omega | assumption) only [tw_rcv, tw_r1, tw_r2, tw_r3, tw_r5, tw_r7, tw_r12, tw_r14, tw_r15, tw_r16, tw_r17, tw_r18, Option.bind_some, lit_I, I_add, I_mul, I_le, I_lt, I_eq, if_neg, if_pos, if_true, if_false, I_10, I_01, bit_T, bit_F, bit_F', bit_0, bit_1, gb_bit, tw_s, tw_rw, tw_cells, tw_blockOf, tw_numberOf, aset_eq, aset_ne, aset_aset, Bool.false_eq_true, not_true_eq_false, not_false_eq_true, f_X13_possible, tw_p0, hin, h1, s1, I_shrM, I_and, shr1_bit]
theorem tw_why {x y z : Int32} (hT : TI v A g) (hI : RInv g.1) : ∃ v' A', f_X13_why (some m) x y z (TW m v A h) = some (r_why g x y z, TW m v' A' h) ∧ TI v' A' g := by
  have hP := hI.1.1.1
  have hn := nc_le hP
  have hT0 := TI_v0 (x := I 0) hT
  have s1 : A 1 = g.1 := hT.2.1
  have hA1 : SB (A 1) := hT.1 1
  have hin := isNumberZ (m := m) (v := vup v 0 (I 0)) (h := h) (x := x) (y := y) hA1 (by rw [s1]; exact hP)
  rw [s1] at hin
  unfold r_why
  cases h1 : (bt x 0 (nc g.1 - 1) && bt y 1 (bsz g.1 (g.1 (8 + na x)))) with
  | false =>
    refine ⟨_, _, ?_, hT0⟩
    simp (disch := first | omega | assumption) only [tw_rcv, tw_r1, tw_r2, tw_r3, tw_r5, tw_r7, tw_r12, tw_r14, tw_r15, tw_r16, tw_r17, tw_r18, Option.bind_some, lit_I, I_add, I_mul, I_le, I_lt, I_eq, if_neg, if_pos, if_true, if_false, I_10, I_01, bit_T, bit_F, bit_F', bit_0, bit_1, gb_bit, tw_s, tw_rw, tw_cells, tw_blockOf, tw_numberOf, aset_eq, aset_ne, aset_aset, Bool.false_eq_true, not_true_eq_false, not_false_eq_true, f_X13_why, tw_p0, hin, h1, Bool.false_and]
  | true =>
  cases h5 : bt z 0 1 with
  | false =>
    refine ⟨_, _, ?_, hT0⟩
    simp (disch := first | omega | assumption) only [tw_rcv, tw_r1, tw_r2, tw_r3, tw_r5, tw_r7, tw_r12, tw_r14, tw_r15, tw_r16, tw_r17, tw_r18, Option.bind_some, lit_I, I_add, I_mul, I_le, I_lt, I_eq, if_neg, if_pos, if_true, if_false, I_10, I_01, bit_T, bit_F, bit_F', bit_0, bit_1, gb_bit, tw_s, tw_rw, tw_cells, tw_blockOf, tw_numberOf, aset_eq, aset_ne, aset_aset, Bool.false_eq_true, not_true_eq_false, not_false_eq_true, f_X13_why, tw_p0, hin, h1, inZ, h5, Bool.true_and]
  | true =>
  obtain ⟨h2, h3⟩ := (Bool.and_eq_true _ _).mp h1
  obtain ⟨c, rfl, hna, -, hx⟩ := bt_ex (by decide) (by omega) h2
  have hc : c < nc g.1 := by omega
  rw [hna] at h3
  have hz6 := (hI.1.1.2.2.1 _ hc).1
  obtain ⟨k, rfl, hnk, hy0, hy⟩ := bt_ex (by decide) (by omega) h3
  obtain ⟨q, rfl, hnq, -, hq⟩ := bt_ex (by decide) (by decide) h5
  simp only [hna, hnk, hnq]
  obtain ⟨A2, b1, b2, b3, b4, -⟩ := tw_layPT (m := m) (h := h) hT0 hI
  obtain ⟨c1, c2⟩ := tw_strkT (m := m) (h := h) (c := c) (n := k) b2 hI hc (by omega) b3 b4
  refine ⟨_, _, ?_, c2⟩
  cases hst : strk g.1 (bd g.1) c k with
  | none =>
    rw [hst] at c1
    simp (disch := first | omega | assumption) only [tw_rcv, tw_r1, tw_r2, tw_r3, tw_r5, tw_r7, tw_r12, tw_r14, tw_r15, tw_r16, tw_r17, tw_r18, Option.bind_some, lit_I, I_add, I_mul, I_le, I_lt, I_eq, if_neg, if_pos, if_true, if_false, I_10, I_01, bit_T, bit_F, bit_F', bit_0, bit_1, gb_bit, tw_s, tw_rw, tw_cells, tw_blockOf, tw_numberOf, aset_eq, aset_ne, aset_aset, Bool.false_eq_true, not_true_eq_false, not_false_eq_true, f_X13_why, tw_p0, hin, h1, inZ, h5, Bool.true_and, b1, c1, Option.map_none, cz]
  | some t =>
    rw [hst] at c1
    have ht := strk_lt hst
    have hq' : q = 0 ∨ q = 1 := by omega
    have e11 : strV (vup v 0 (I 0)) (some t) 11 = I t.2 := vup_eq _ _
    rcases hq' with rfl | rfl
    · simp (disch := first | omega | assumption) only [tw_rcv, tw_r1, tw_r2, tw_r3, tw_r5, tw_r7, tw_r12, tw_r14, tw_r15, tw_r16, tw_r17, tw_r18, Option.bind_some, lit_I, I_add, I_mul, I_le, I_lt, I_eq, if_neg, if_pos, if_true, if_false, I_10, I_01, bit_T, bit_F, bit_F', bit_0, bit_1, gb_bit, tw_s, tw_rw, tw_cells, tw_blockOf, tw_numberOf, aset_eq, aset_ne, aset_aset, Bool.false_eq_true, not_true_eq_false, not_false_eq_true, f_X13_why, tw_p0, hin, h1, inZ, h5, Bool.true_and, b1, c1, Option.map_some, cz, cz_none_ne]
    · simp (disch := first | omega | assumption) only [tw_rcv, tw_r1, tw_r2, tw_r3, tw_r5, tw_r7, tw_r12, tw_r14, tw_r15, tw_r16, tw_r17, tw_r18, Option.bind_some, lit_I, I_add, I_mul, I_le, I_lt, I_eq, if_neg, if_pos, if_true, if_false, I_10, I_01, bit_T, bit_F, bit_F', bit_0, bit_1, gb_bit, tw_s, tw_rw, tw_cells, tw_blockOf, tw_numberOf, aset_eq, aset_ne, aset_aset, Bool.false_eq_true, not_true_eq_false, not_false_eq_true, f_X13_why, tw_p0, hin, h1, inZ, h5, Bool.true_and, b1, c1, Option.map_some, cz, cz_none_ne, tw_int (k := 11) rfl, e11]
theorem tw_next {x : Int32} (hT : TI v A g) (hI : RInv g.1) : ∃ v' A', f_X13_next (some m) x (TW m v A h) = some (r_next g x, TW m v' A' h) ∧ TI v' A' g := by
  have hP := hI.1.1.1
  have hn := nc_le hP
  have hT0 := TI_v0 (x := I 0) hT
  have hs := TI_SB hT
  unfold r_next
  cases h1 : bt x 0 3 with
  | false =>
    refine ⟨_, _, ?_, hT0⟩
    simp (disch := first | omega | assumption) only [tw_rcv, tw_r1, tw_r2, tw_r3, tw_r5, tw_r7, tw_r12, tw_r14, tw_r15, tw_r16, tw_r17, tw_r18, Option.bind_some, lit_I, I_add, I_mul, I_le, I_lt, I_eq, if_neg, if_pos, if_true, if_false, I_10, I_01, bit_T, bit_F, bit_F', bit_0, bit_1, gb_bit, tw_s, tw_rw, tw_cells, tw_blockOf, tw_numberOf, aset_eq, aset_ne, aset_aset, Bool.false_eq_true, not_true_eq_false, not_false_eq_true, f_X13_next, tw_p0, inZ, h1]
  | true =>
  obtain ⟨k, rfl, hna, -, hx⟩ := bt_ex (by decide) (by decide) h1
  simp only [hna]
  obtain ⟨A2, b1, b2, b3, b4, b5, b6⟩ := tw_layPT (m := m) (h := h) hT0 hI
  have s2 : A2 1 = g.1 := b2.2.1
  have hfs := tw_findStep (m := m) (v := vup v 0 (I 0)) (h := h) (A := A2) (rules := g.1 2) (hs 2) (by rw [s2]; exact b4) (b2.1 1) b5 (by rw [s2]; exact hP) (by rw [s2]; exact hI.1.1.NB)
  rw [s2, findS_congr hP b3] at hfs
  cases hf : findS g.1 (bd g.1) (g.1 2) with
  | none =>
    rw [hf] at hfs
    refine ⟨_, _, ?_, b2⟩
    simp (disch := first | omega | assumption) only [tw_rcv, tw_r1, tw_r2, tw_r3, tw_r5, tw_r7, tw_r12, tw_r14, tw_r15, tw_r16, tw_r17, tw_r18, Option.bind_some, lit_I, I_add, I_mul, I_le, I_lt, I_eq, if_neg, if_pos, if_true, if_false, I_10, I_01, bit_T, bit_F, bit_F', bit_0, bit_1, gb_bit, tw_s, tw_rw, tw_cells, tw_blockOf, tw_numberOf, aset_eq, aset_ne, aset_aset, Bool.false_eq_true, not_true_eq_false, not_false_eq_true, f_X13_next, tw_p0, inZ, h1, b1, s2, hfs]
  | some t =>
    rw [hf] at hfs
    refine ⟨stp (vup v 0 (I 0)) t, A2, ?_, TI_VK b2 (stp_VK 4 (by omega) (by decide)) (stp_VK 6 (by omega) (by decide))⟩
    have hk : k = 0 ∨ k = 1 ∨ k = 2 ∨ k = 3 := by omega
    rcases hk with rfl | rfl | rfl | rfl <;> simp (disch := first | omega | assumption) only [tw_rcv, tw_r1, tw_r2, tw_r3, tw_r5, tw_r7, tw_r12, tw_r14, tw_r15, tw_r16, tw_r17, tw_r18, Option.bind_some, lit_I, I_add, I_mul, I_le, I_lt, I_eq, if_neg, if_pos, if_true, if_false, I_10, I_01, bit_T, bit_F, bit_F', bit_0, bit_1, gb_bit, tw_s, tw_rw, tw_cells, tw_blockOf, tw_numberOf, aset_eq, aset_ne, aset_aset, Bool.false_eq_true, not_true_eq_false, not_false_eq_true, f_X13_next, tw_p0, inZ, h1, b1, s2, hfs, f_X13_partOf, tw_int (k := 8) rfl, tw_int (k := 9) rfl, tw_int (k := 10) rfl, tw_int (k := 11) rfl, stp_8, stp_9, stp_10, stp_11, prt]
end TW64
