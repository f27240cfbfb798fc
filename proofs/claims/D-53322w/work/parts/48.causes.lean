/-! PLAIN LAW: the reference's causes: the only place, a line, a pair -/
set_option maxRecDepth 100000
theorem I_andnI (a b : Nat) : I a &&& (I b ^^^ (- I 1)) = I (andn a b) := I_andn a b
theorem I_mdM {a b : Nat} (ha : a < 2147483648) (hb : b < 2147483648) : I a - I (dv a b * b) = I (md a b) := by rw [← I_mul]; exact I_md ha hb
theorem andn_tb (a b k : Nat) : (andn a b).testBit k = (a.testBit k && !b.testBit k) := by
  simp only [andn, Nat.testBit_xor, Nat.testBit_and]
  cases a.testBit k <;> cases b.testBit k <;> rfl
theorem andn_le (a b : Nat) : andn a b ≤ a := by
  have e : andn a b = a &&& andn a b := by
    apply Nat.eq_of_testBit_eq
    intro k
    simp only [Nat.testBit_and, andn_tb]
    cases a.testBit k <;> simp
  rw [e]
  exact Nat.and_le_left
def els (s w : Nat → Nat) (c : Nat) : Nat → Nat := orTo (fun d => if d ≠ c ∧ s (8 + d) = s (8 + c) then w d else 0)
def onlyN (s w : Nat → Nat) (c n : Nat) : Nat := andn (andn (w c) (els s w c (nc s))) (1 <<< n)
def only (s w : Nat → Nat) (c n : Nat) : Option Nat := if onlyN s w c n = 0 then none else some (lo (onlyN s w c n))
/-- numbers of cells are at most 127 -/
def W7 (s w : Nat → Nat) : Prop := ∀ c, c < nc s → w c < 128
theorem WB_of {s w : Nat → Nat} (h : W7 s w) (hb : brk s w = false) : WB s w := by
  intro c hc
  refine ⟨fun h0 => ?_, h c hc⟩
  have : brk s w = true := by
    unfold brk
    rw [anyB_iff]
    exact ⟨c, hc, by simp [h0]⟩
  rw [this] at hb; cases hb
theorem addS_lt {w sums e : Nat} (hs : sums < 2 ^ e) : addS w sums < 2 ^ (e + 6) := by
  have key : ∀ n, n ≤ 6 → orTo (fun n => if w.testBit (n + 1) = true then sums <<< (n + 1) else 0) n < 2 ^ (e + 6) := by
    intro n
    induction n with
    | zero => intro _; exact Nat.two_pow_pos _
    | succ n ih =>
      intro hn
      simp only [orTo]
      refine Nat.or_lt_two_pow (ih (by omega)) ?_
      split
      · rw [Nat.shiftLeft_eq]
        have h1 : sums * 2 ^ (n + 1) < 2 ^ e * 2 ^ (n + 1) := Nat.mul_lt_mul_of_pos_right hs (Nat.two_pow_pos _)
        rw [← Nat.pow_add] at h1
        exact Nat.lt_of_lt_of_le h1 (Nat.pow_le_pow_right (show 0 < 2 by decide) (by omega))
      · exact Nat.two_pow_pos _
  exact key 6 (Nat.le_refl _)
theorem lsums_lt {s w : Nat → Nat} {i : Nat} {b : Option Nat} : ∀ k, lsums s w i b k < 2 ^ (6 * k + 1) := by
  intro k
  induction k with
  | zero => show 1 < 2 ^ 1; decide
  | succ k ih =>
    simp only [lsums]
    split
    · exact Nat.lt_of_lt_of_le ih (Nat.pow_le_pow_right (show 0 < 2 by decide) (by omega))
    · have := addS_lt (w := w (lc s i k)) ih
      have e : 6 * (k + 1) + 1 = 6 * k + 1 + 6 := by omega
      rw [e]; exact this
theorem lsums_31 {s w : Nat → Nat} {i : Nat} {b : Option Nat} (hP : PG' s) : lsums s w i b (ln s i) < 2147483648 := by
  have h1 := lsums_lt (s := s) (w := w) (i := i) (b := b) (ln s i)
  have h2 := ln_le hP i
  exact Nat.lt_of_lt_of_le h1 (show 2 ^ (6 * ln s i + 1) ≤ 2 ^ 31 from Nat.pow_le_pow_right (show 0 < 2 by decide) (by omega))
theorem lsum_30 {s : Nat → Nat} {i : Nat} (hi : i < s 0 + s 1) (hP : PG' s) (hN : NB s) : lsum s i ≤ 30 := by
  have h2 := ln_le hP i
  have h1 : lsum s i ≤ ln s i * 6 := by
    unfold lsum
    have key : ∀ n, n ≤ ln s i → sumTo (fun k => s (33 + lc s i k)) n ≤ n * 6 := by
      intro n
      induction n with
      | zero => intro _; simp [sumTo]
      | succ n ih =>
        intro hn
        have h3 := (hN _ (lc_lt hP hi (show n < ln s i by omega))).1
        have h4 := ih (by omega)
        simp only [sumTo, Nat.succ_mul]
        omega
    exact key _ (Nat.le_refl _)
  have : ln s i * 6 ≤ 5 * 6 := Nat.mul_le_mul_right _ h2.2
  omega
def lineP (s w : Nat → Nat) (r c n i : Nat) : Bool := s (83 + i) == 1 && (if r = 2 then beyond s w i c n else missed s w i c n)
def lineC (s w : Nat → Nat) (r c n : Nat) : Option Nat := if lineP s w r c n (dv c (s 1)) = true then some (dv c (s 1)) else if lineP s w r c n (s 0 + md c (s 1)) = true then some (s 0 + md c (s 1)) else none
def mayP (s w : Nat → Nat) (c n d : Nat) : Bool := !(d == c) && (s (8 + d) == s (8 + c) && (pc (w d) == 2 && (w d).testBit n))
def pairE (s w : Nat → Nat) (c d e : Nat) : Bool := !(e == c) && (s (8 + e) == s (8 + c) && w e == w d)
def pairQ (s w : Nat → Nat) (c n d : Nat) : Bool := mayP s w c n d && (firstFrom (pairE s w c d) (nc s - (d + 1)) (d + 1)).isSome
def pairC (s w : Nat → Nat) (c n : Nat) : Option Nat := firstI (pairQ s w c n) (nc s)
def causeC (s w : Nat → Nat) (r c n : Nat) : Option Nat := if r = 0 then sole s w c n else if r = 1 then only s w c n else if r = 2 then lineC s w 2 c n else if r = 3 then lineC s w 3 c n else pairC s w c n
section TWc
variable {m : Nat} {v : Nat → Int32} {A : Nat → Nat → Nat} {h : PH}
theorem tw_only {c n : Nat} (hc : c < nc (A 1)) (hn' : n ≤ 6) (hW : W7 (A 1) (A 5)) (hA : SB (A 1)) (hP : PG' (A 1)) : f_X13_onlyCause (some m) (I c) (I n) (TW m v A h) = some (cz (only (A 1) (A 5) c n), TW m v A h) := by
  have hn := nc_le hP
  have h3 := hA (8 + c)
  unfold f_X13_onlyCause
  refine loop_FU (fun k (p : Nat × Nat) => f_X13_onlyCause_L5 k (some m) (I c) (I n) (I p.1) (I p.2) (TW m v A h)) (fun k => (els (A 1) (A 5) c k, k)) (nc (A 1)) _ (by omega) (fun k j hj => ?_) (fun k => ?_)
  · have h1 := hA (8 + j)
    by_cases h4 : j = c
    · simp (disch := first | omega | assumption) only [tw_rcv, tw_r1, tw_r2, tw_r3, tw_r5, tw_r7, tw_r12, tw_r14, tw_r15, tw_r16, tw_r17, tw_r18, Option.bind_some, lit_I, I_add, I_mul, I_le, I_lt, I_eq, if_neg, if_pos, if_true, if_false, I_10, I_01, bit_T, bit_F, bit_F', bit_0, bit_1, gb_bit, tw_s, tw_rw, tw_cells, tw_blockOf, tw_numberOf, aset_eq, aset_ne, aset_aset, Bool.false_eq_true, not_true_eq_false, not_false_eq_true, f_X13_onlyCause_L5, I_or, els, orTo, h4, ne_eq, not_true_eq_false, false_and]
    · by_cases h5 : A 1 (8 + j) = A 1 (8 + c)
      · simp (disch := first | omega | assumption) only [tw_rcv, tw_r1, tw_r2, tw_r3, tw_r5, tw_r7, tw_r12, tw_r14, tw_r15, tw_r16, tw_r17, tw_r18, Option.bind_some, lit_I, I_add, I_mul, I_le, I_lt, I_eq, if_neg, if_pos, if_true, if_false, I_10, I_01, bit_T, bit_F, bit_F', bit_0, bit_1, gb_bit, tw_s, tw_rw, tw_cells, tw_blockOf, tw_numberOf, aset_eq, aset_ne, aset_aset, Bool.false_eq_true, not_true_eq_false, not_false_eq_true, f_X13_onlyCause_L5, I_or, els, orTo, h4, h5, ne_eq, not_false_eq_true, true_and]
      · simp (disch := first | omega | assumption) only [tw_rcv, tw_r1, tw_r2, tw_r3, tw_r5, tw_r7, tw_r12, tw_r14, tw_r15, tw_r16, tw_r17, tw_r18, Option.bind_some, lit_I, I_add, I_mul, I_le, I_lt, I_eq, if_neg, if_pos, if_true, if_false, I_10, I_01, bit_T, bit_F, bit_F', bit_0, bit_1, gb_bit, tw_s, tw_rw, tw_cells, tw_blockOf, tw_numberOf, aset_eq, aset_ne, aset_aset, Bool.false_eq_true, not_true_eq_false, not_false_eq_true, f_X13_onlyCause_L5, I_or, els, orTo, h4, h5, ne_eq, not_false_eq_true, true_and]
  · have h5 : onlyN (A 1) (A 5) c n < 2147483648 := by
      have h6 := andn_le (andn (A 5 c) (els (A 1) (A 5) c (nc (A 1)))) (1 <<< n)
      have h7 := andn_le (A 5 c) (els (A 1) (A 5) c (nc (A 1)))
      have := hW c hc
      unfold onlyN; omega
    have e : andn (andn (A 5 c) (els (A 1) (A 5) c (nc (A 1)))) (1 <<< n) = onlyN (A 1) (A 5) c n := rfl
    simp (disch := first | omega | assumption) only [tw_rcv, tw_r1, tw_r2, tw_r3, tw_r5, tw_r7, tw_r12, tw_r14, tw_r15, tw_r16, tw_r17, tw_r18, Option.bind_some, lit_I, I_add, I_mul, I_le, I_lt, I_eq, if_neg, if_pos, if_true, if_false, I_10, I_01, bit_T, bit_F, bit_F', bit_0, bit_1, gb_bit, tw_s, tw_rw, tw_cells, tw_blockOf, tw_numberOf, aset_eq, aset_ne, aset_aset, Bool.false_eq_true, not_true_eq_false, not_false_eq_true, f_X13_onlyCause_L5, I_andnI, I_shlM, I_and, e]
    by_cases h6 : onlyN (A 1) (A 5) c n = 0
    · rw [if_pos h6]
      simp only [only, h6, if_true]; rfl
    · rw [if_neg h6, tw_lowest h6 h5]
      simp only [only, h6, if_false]; rfl
theorem tw_lineB {x0 : Option Nat} {r4 : Option Nat → Int32 → Int32 → Int32 → Int32 → Int32 → Int32 → PH → Option (Int32 × PH)} {r c n i : Nat} {x4 x5 x6 : Int32} (hr : r = 2 ∨ r = 3) (hi' : i < A 1 0 + A 1 1) (hc : c < nc (A 1)) (hn' : n ≤ 6) (hW : WB (A 1) (A 5)) (hA : SB (A 1)) (hS : SB (A 5)) (hP : PG' (A 1)) (hN : NB (A 1)) : f_X13_lineCause_B48 r4 (some m) (I r) (I c) (I n) x4 x5 x6 (I i) (TW m v A h) = if lineP (A 1) (A 5) r c n i = true then some (I i, TW m v A h) else r4 (some m) (I r) (I c) (I n) x4 x5 (x6 + I 1) (TW m v A h) := by
  have hn := nc_le hP
  have h1 := hA (83 + i)
  have h30 := lsum_30 hi' hP hN
  have hl31 := lsums_31 (w := A 5) (i := i) (b := some c) hP
  have hP' := hP
  obtain ⟨a1, a2, a3, a4⟩ := hP
  by_cases h2 : A 1 (83 + i) = 1
  · rcases hr with h3 | h3
    · subst h3
      simp (disch := first | omega | assumption) only [tw_rcv, tw_r1, tw_r2, tw_r3, tw_r5, tw_r7, tw_r12, tw_r14, tw_r15, tw_r16, tw_r17, tw_r18, Option.bind_some, lit_I, I_add, I_mul, I_le, I_lt, I_eq, if_neg, if_pos, if_true, if_false, I_10, I_01, bit_T, bit_F, bit_F', bit_0, bit_1, gb_bit, tw_s, tw_rw, tw_cells, tw_blockOf, tw_numberOf, aset_eq, aset_ne, aset_aset, Bool.false_eq_true, not_true_eq_false, not_false_eq_true, f_X13_lineCause_B48, h2, tw_isBeyond]
      cases hb : beyond (A 1) (A 5) i c n <;> simp [lineP, h2, hb, bit, I_10]
    · subst h3
      simp (disch := first | omega | assumption) only [tw_rcv, tw_r1, tw_r2, tw_r3, tw_r5, tw_r7, tw_r12, tw_r14, tw_r15, tw_r16, tw_r17, tw_r18, Option.bind_some, lit_I, I_add, I_mul, I_le, I_lt, I_eq, if_neg, if_pos, if_true, if_false, I_10, I_01, bit_T, bit_F, bit_F', bit_0, bit_1, gb_bit, tw_s, tw_rw, tw_cells, tw_blockOf, tw_numberOf, aset_eq, aset_ne, aset_aset, Bool.false_eq_true, not_true_eq_false, not_false_eq_true, f_X13_lineCause_B48, h2, tw_isMissed]
      cases hb : missed (A 1) (A 5) i c n <;> simp [lineP, h2, hb, bit, I_10]
  · simp (disch := first | omega | assumption) only [tw_rcv, tw_r1, tw_r2, tw_r3, tw_r5, tw_r7, tw_r12, tw_r14, tw_r15, tw_r16, tw_r17, tw_r18, Option.bind_some, lit_I, I_add, I_mul, I_le, I_lt, I_eq, if_neg, if_pos, if_true, if_false, I_10, I_01, bit_T, bit_F, bit_F', bit_0, bit_1, gb_bit, tw_s, tw_rw, tw_cells, tw_blockOf, tw_numberOf, aset_eq, aset_ne, aset_aset, Bool.false_eq_true, not_true_eq_false, not_false_eq_true, f_X13_lineCause_B48]
    simp [lineP, h2]
theorem tw_lineCause {r c n : Nat} (hr : r = 2 ∨ r = 3) (hc : c < nc (A 1)) (hn' : n ≤ 6) (hW : WB (A 1) (A 5)) (hA : SB (A 1)) (hS : SB (A 5)) (hP : PG' (A 1)) (hN : NB (A 1)) : f_X13_lineCause (some m) (I r) (I c) (I n) (TW m v A h) = some (cz (lineC (A 1) (A 5) r c n), TW m v A h) := by
  have hn := nc_le hP
  have hd := dv_lt hP hc
  obtain ⟨f0, hF⟩ : ∃ f, FU = f + 3 := ⟨999997, FU_eq⟩
  have e1 := fun r4 x4 x5 x6 => tw_lineB (m := m) (v := v) (h := h) (x0 := some m) (r4 := r4) (x4 := x4) (x5 := x5) (x6 := x6) hr (show dv c (A 1 1) < A 1 0 + A 1 1 by omega) hc hn' hW hA hS hP hN
  have e2 := fun r4 x4 x5 x6 => tw_lineB (m := m) (v := v) (h := h) (x0 := some m) (r4 := r4) (x4 := x4) (x5 := x5) (x6 := x6) hr (show A 1 0 + md c (A 1 1) < A 1 0 + A 1 1 by omega) hc hn' hW hA hS hP hN
  obtain ⟨a1, a2, a3, a4⟩ := hP
  simp (disch := first | omega | assumption) only [tw_rcv, tw_r1, tw_r2, tw_r3, tw_r5, tw_r7, tw_r12, tw_r14, tw_r15, tw_r16, tw_r17, tw_r18, Option.bind_some, lit_I, I_add, I_mul, I_le, I_lt, I_eq, if_neg, if_pos, if_true, if_false, I_10, I_01, bit_T, bit_F, bit_F', bit_0, bit_1, gb_bit, tw_s, tw_rw, tw_cells, tw_blockOf, tw_numberOf, aset_eq, aset_ne, aset_aset, Bool.false_eq_true, not_true_eq_false, not_false_eq_true, f_X13_lineCause, nz_I, I_dv, I_mdM]
  rw [hF]
  simp (disch := first | omega | assumption) only [tw_rcv, tw_r1, tw_r2, tw_r3, tw_r5, tw_r7, tw_r12, tw_r14, tw_r15, tw_r16, tw_r17, tw_r18, Option.bind_some, lit_I, I_add, I_mul, I_le, I_lt, I_eq, if_neg, if_pos, if_true, if_false, I_10, I_01, bit_T, bit_F, bit_F', bit_0, bit_1, gb_bit, tw_s, tw_rw, tw_cells, tw_blockOf, tw_numberOf, aset_eq, aset_ne, aset_aset, Bool.false_eq_true, not_true_eq_false, not_false_eq_true, f_X13_lineCause_L30, e1, e2]
  unfold lineC
  split
  · rfl
  · split
    · rfl
    · rfl
theorem tw_pair66 {r2 : Option Nat → Int32 → Int32 → Int32 → PH → Option (Int32 × PH)} {c d : Nat} {x2 : Int32} (hc : c < nc (A 1)) (hd : d < nc (A 1)) (hW : SB (A 5)) (hA : SB (A 1)) (hP : PG' (A 1)) : f_X13_pairCause_B59 r2 (some m) (I c) x2 (I d) (I 1) (TW m v A h) = if (firstFrom (pairE (A 1) (A 5) c d) (nc (A 1) - (d + 1)) (d + 1)).isSome = true then some (I d, TW m v A h) else r2 (some m) (I c) x2 (I (d + 1)) (TW m v A h) := by
  have hn := nc_le hP
  have h3 := hA (8 + c)
  have h7 := hW d
  simp (disch := first | omega | assumption) only [tw_rcv, tw_r1, tw_r2, tw_r3, tw_r5, tw_r7, tw_r12, tw_r14, tw_r15, tw_r16, tw_r17, tw_r18, Option.bind_some, lit_I, I_add, I_mul, I_le, I_lt, I_eq, if_neg, if_pos, if_true, if_false, I_10, I_01, bit_T, bit_F, bit_F', bit_0, bit_1, gb_bit, tw_s, tw_rw, tw_cells, tw_blockOf, tw_numberOf, aset_eq, aset_ne, aset_aset, Bool.false_eq_true, not_true_eq_false, not_false_eq_true, f_X13_pairCause_B59]
  refine (loop_first_up (fun k (p : Nat) => f_X13_pairCause_L66 r2 k (some m) (I c) x2 (I d) (I 1) (I p) (TW m v A h)) (fun i => i) (nc (A 1)) (pairE (A 1) (A 5) c d) (fun _ => some (I d, TW m v A h)) (r2 (some m) (I c) x2 (I (d + 1)) (TW m v A h)) (fun k j hj hp => ?_) (fun k j hj hp => ?_) (fun k => ?_) (nc (A 1) - (d + 1)) FU (d + 1) (by omega) (by rw [FU_eq]; omega)).trans ?_
  · have h1 := hA (8 + j)
    have h2 := hW j
    by_cases h4 : j = c
    · simp (disch := first | omega | assumption) only [tw_rcv, tw_r1, tw_r2, tw_r3, tw_r5, tw_r7, tw_r12, tw_r14, tw_r15, tw_r16, tw_r17, tw_r18, Option.bind_some, lit_I, I_add, I_mul, I_le, I_lt, I_eq, if_neg, if_pos, if_true, if_false, I_10, I_01, bit_T, bit_F, bit_F', bit_0, bit_1, gb_bit, tw_s, tw_rw, tw_cells, tw_blockOf, tw_numberOf, aset_eq, aset_ne, aset_aset, Bool.false_eq_true, not_true_eq_false, not_false_eq_true, f_X13_pairCause_L66, h4]
    · by_cases h5 : A 1 (8 + j) = A 1 (8 + c)
      · have h6 : ¬ A 5 j = A 5 d := by simpa [pairE, h4, h5] using hp
        simp (disch := first | omega | assumption) only [tw_rcv, tw_r1, tw_r2, tw_r3, tw_r5, tw_r7, tw_r12, tw_r14, tw_r15, tw_r16, tw_r17, tw_r18, Option.bind_some, lit_I, I_add, I_mul, I_le, I_lt, I_eq, if_neg, if_pos, if_true, if_false, I_10, I_01, bit_T, bit_F, bit_F', bit_0, bit_1, gb_bit, tw_s, tw_rw, tw_cells, tw_blockOf, tw_numberOf, aset_eq, aset_ne, aset_aset, Bool.false_eq_true, not_true_eq_false, not_false_eq_true, f_X13_pairCause_L66, h5]
      · simp (disch := first | omega | assumption) only [tw_rcv, tw_r1, tw_r2, tw_r3, tw_r5, tw_r7, tw_r12, tw_r14, tw_r15, tw_r16, tw_r17, tw_r18, Option.bind_some, lit_I, I_add, I_mul, I_le, I_lt, I_eq, if_neg, if_pos, if_true, if_false, I_10, I_01, bit_T, bit_F, bit_F', bit_0, bit_1, gb_bit, tw_s, tw_rw, tw_cells, tw_blockOf, tw_numberOf, aset_eq, aset_ne, aset_aset, Bool.false_eq_true, not_true_eq_false, not_false_eq_true, f_X13_pairCause_L66]
  · have h1 := hA (8 + j)
    have h2 := hW j
    obtain ⟨h4, h5, h6⟩ : ¬ j = c ∧ A 1 (8 + j) = A 1 (8 + c) ∧ A 5 j = A 5 d := by simpa [pairE] using hp
    simp (disch := first | omega | assumption) only [tw_rcv, tw_r1, tw_r2, tw_r3, tw_r5, tw_r7, tw_r12, tw_r14, tw_r15, tw_r16, tw_r17, tw_r18, Option.bind_some, lit_I, I_add, I_mul, I_le, I_lt, I_eq, if_neg, if_pos, if_true, if_false, I_10, I_01, bit_T, bit_F, bit_F', bit_0, bit_1, gb_bit, tw_s, tw_rw, tw_cells, tw_blockOf, tw_numberOf, aset_eq, aset_ne, aset_aset, Bool.false_eq_true, not_true_eq_false, not_false_eq_true, f_X13_pairCause_L66, h5, h6]
  · simp (disch := first | omega | assumption) only [tw_rcv, tw_r1, tw_r2, tw_r3, tw_r5, tw_r7, tw_r12, tw_r14, tw_r15, tw_r16, tw_r17, tw_r18, Option.bind_some, lit_I, I_add, I_mul, I_le, I_lt, I_eq, if_neg, if_pos, if_true, if_false, I_10, I_01, bit_T, bit_F, bit_F', bit_0, bit_1, gb_bit, tw_s, tw_rw, tw_cells, tw_blockOf, tw_numberOf, aset_eq, aset_ne, aset_aset, Bool.false_eq_true, not_true_eq_false, not_false_eq_true, f_X13_pairCause_L66]
  · cases firstFrom (pairE (A 1) (A 5) c d) (nc (A 1) - (d + 1)) (d + 1) <;> simp
theorem tw_pair0 {r2 : Option Nat → Int32 → Int32 → Int32 → PH → Option (Int32 × PH)} {x1 x2 : Int32} {d : Nat} (hd : d < nc (A 1)) (hP : PG' (A 1)) : f_X13_pairCause_B59 r2 (some m) x1 x2 (I d) (I 0) (TW m v A h) = r2 (some m) x1 x2 (I (d + 1)) (TW m v A h) := by
  have hn := nc_le hP
  obtain ⟨f0, hF⟩ : ∃ f, FU = f + 1 := ⟨999999, FU_eq⟩
  simp (disch := first | omega | assumption) only [tw_rcv, tw_r1, tw_r2, tw_r3, tw_r5, tw_r7, tw_r12, tw_r14, tw_r15, tw_r16, tw_r17, tw_r18, Option.bind_some, lit_I, I_add, I_mul, I_le, I_lt, I_eq, if_neg, if_pos, if_true, if_false, I_10, I_01, bit_T, bit_F, bit_F', bit_0, bit_1, gb_bit, tw_s, tw_rw, tw_cells, tw_blockOf, tw_numberOf, aset_eq, aset_ne, aset_aset, Bool.false_eq_true, not_true_eq_false, not_false_eq_true, f_X13_pairCause_B59]
  rw [hF]
  by_cases h1 : nc (A 1) ≤ d + 1
  · simp (disch := first | omega | assumption) only [tw_rcv, tw_r1, tw_r2, tw_r3, tw_r5, tw_r7, tw_r12, tw_r14, tw_r15, tw_r16, tw_r17, tw_r18, Option.bind_some, lit_I, I_add, I_mul, I_le, I_lt, I_eq, if_neg, if_pos, if_true, if_false, I_10, I_01, bit_T, bit_F, bit_F', bit_0, bit_1, gb_bit, tw_s, tw_rw, tw_cells, tw_blockOf, tw_numberOf, aset_eq, aset_ne, aset_aset, Bool.false_eq_true, not_true_eq_false, not_false_eq_true, f_X13_pairCause_L66]
  · simp (disch := first | omega | assumption) only [tw_rcv, tw_r1, tw_r2, tw_r3, tw_r5, tw_r7, tw_r12, tw_r14, tw_r15, tw_r16, tw_r17, tw_r18, Option.bind_some, lit_I, I_add, I_mul, I_le, I_lt, I_eq, if_neg, if_pos, if_true, if_false, I_10, I_01, bit_T, bit_F, bit_F', bit_0, bit_1, gb_bit, tw_s, tw_rw, tw_cells, tw_blockOf, tw_numberOf, aset_eq, aset_ne, aset_aset, Bool.false_eq_true, not_true_eq_false, not_false_eq_true, f_X13_pairCause_L66]
theorem tw_pairCause {c n : Nat} (hc : c < nc (A 1)) (hn' : n ≤ 6) (hW : SB (A 5)) (hA : SB (A 1)) (hP : PG' (A 1)) : f_X13_pairCause (some m) (I c) (I n) (TW m v A h) = some (cz (pairC (A 1) (A 5) c n), TW m v A h) := by
  have hn := nc_le hP
  have h3 := hA (8 + c)
  unfold f_X13_pairCause
  refine (loop_first (fun k (p : Nat) => f_X13_pairCause_L2 k (some m) (I c) (I n) (I p) (TW m v A h)) (fun i => i) (nc (A 1)) (pairQ (A 1) (A 5) c n) (fun j => some (I j, TW m v A h)) (some (-99, TW m v A h)) (by omega) (fun k j hj hp => ?_) (fun k j hj hp => ?_) (fun k => ?_)).trans ?_
  · have h1 := hA (8 + j)
    have h2 := hW j
    have hpc := pc_le (A 5 j)
    by_cases h4 : j = c
    · simp (disch := first | omega | assumption) only [tw_rcv, tw_r1, tw_r2, tw_r3, tw_r5, tw_r7, tw_r12, tw_r14, tw_r15, tw_r16, tw_r17, tw_r18, Option.bind_some, lit_I, I_add, I_mul, I_le, I_lt, I_eq, if_neg, if_pos, if_true, if_false, I_10, I_01, bit_T, bit_F, bit_F', bit_0, bit_1, gb_bit, tw_s, tw_rw, tw_cells, tw_blockOf, tw_numberOf, aset_eq, aset_ne, aset_aset, Bool.false_eq_true, not_true_eq_false, not_false_eq_true, f_X13_pairCause_L2, tw_pair0]
    · by_cases h5 : A 1 (8 + j) = A 1 (8 + c)
      · by_cases h6 : pc (A 5 j) = 2
        · cases h7 : (A 5 j).testBit n with
          | true =>
            have h8 : (firstFrom (pairE (A 1) (A 5) c j) (nc (A 1) - (j + 1)) (j + 1)).isSome = false := by simpa [pairQ, mayP, h4, h5, h6, h7] using hp
            simp (disch := first | omega | assumption) only [tw_rcv, tw_r1, tw_r2, tw_r3, tw_r5, tw_r7, tw_r12, tw_r14, tw_r15, tw_r16, tw_r17, tw_r18, Option.bind_some, lit_I, I_add, I_mul, I_le, I_lt, I_eq, if_neg, if_pos, if_true, if_false, I_10, I_01, bit_T, bit_F, bit_F', bit_0, bit_1, gb_bit, tw_s, tw_rw, tw_cells, tw_blockOf, tw_numberOf, aset_eq, aset_ne, aset_aset, Bool.false_eq_true, not_true_eq_false, not_false_eq_true, f_X13_pairCause_L2, tw_ones, tw_has, h5, h6, h7, tw_pair66, h8]
          | false => simp (disch := first | omega | assumption) only [tw_rcv, tw_r1, tw_r2, tw_r3, tw_r5, tw_r7, tw_r12, tw_r14, tw_r15, tw_r16, tw_r17, tw_r18, Option.bind_some, lit_I, I_add, I_mul, I_le, I_lt, I_eq, if_neg, if_pos, if_true, if_false, I_10, I_01, bit_T, bit_F, bit_F', bit_0, bit_1, gb_bit, tw_s, tw_rw, tw_cells, tw_blockOf, tw_numberOf, aset_eq, aset_ne, aset_aset, Bool.false_eq_true, not_true_eq_false, not_false_eq_true, f_X13_pairCause_L2, tw_ones, tw_has, h5, h6, h7, tw_pair0, not_false_eq_true]
        · simp (disch := first | omega | assumption) only [tw_rcv, tw_r1, tw_r2, tw_r3, tw_r5, tw_r7, tw_r12, tw_r14, tw_r15, tw_r16, tw_r17, tw_r18, Option.bind_some, lit_I, I_add, I_mul, I_le, I_lt, I_eq, if_neg, if_pos, if_true, if_false, I_10, I_01, bit_T, bit_F, bit_F', bit_0, bit_1, gb_bit, tw_s, tw_rw, tw_cells, tw_blockOf, tw_numberOf, aset_eq, aset_ne, aset_aset, Bool.false_eq_true, not_true_eq_false, not_false_eq_true, f_X13_pairCause_L2, tw_ones, h5, tw_pair0]
      · simp (disch := first | omega | assumption) only [tw_rcv, tw_r1, tw_r2, tw_r3, tw_r5, tw_r7, tw_r12, tw_r14, tw_r15, tw_r16, tw_r17, tw_r18, Option.bind_some, lit_I, I_add, I_mul, I_le, I_lt, I_eq, if_neg, if_pos, if_true, if_false, I_10, I_01, bit_T, bit_F, bit_F', bit_0, bit_1, gb_bit, tw_s, tw_rw, tw_cells, tw_blockOf, tw_numberOf, aset_eq, aset_ne, aset_aset, Bool.false_eq_true, not_true_eq_false, not_false_eq_true, f_X13_pairCause_L2, tw_pair0]
  · have h1 := hA (8 + j)
    have h2 := hW j
    have hpc := pc_le (A 5 j)
    obtain ⟨⟨h4, h5, h6, h7⟩, h8⟩ : (¬ j = c ∧ A 1 (8 + j) = A 1 (8 + c) ∧ pc (A 5 j) = 2 ∧ (A 5 j).testBit n = true) ∧ (firstFrom (pairE (A 1) (A 5) c j) (nc (A 1) - (j + 1)) (j + 1)).isSome = true := by simpa [pairQ, mayP] using hp
    simp (disch := first | omega | assumption) only [tw_rcv, tw_r1, tw_r2, tw_r3, tw_r5, tw_r7, tw_r12, tw_r14, tw_r15, tw_r16, tw_r17, tw_r18, Option.bind_some, lit_I, I_add, I_mul, I_le, I_lt, I_eq, if_neg, if_pos, if_true, if_false, I_10, I_01, bit_T, bit_F, bit_F', bit_0, bit_1, gb_bit, tw_s, tw_rw, tw_cells, tw_blockOf, tw_numberOf, aset_eq, aset_ne, aset_aset, Bool.false_eq_true, not_true_eq_false, not_false_eq_true, f_X13_pairCause_L2, tw_ones, tw_has, h5, h6, h7, tw_pair66, h8, not_true_eq_false]
  · simp (disch := first | omega | assumption) only [tw_rcv, tw_r1, tw_r2, tw_r3, tw_r5, tw_r7, tw_r12, tw_r14, tw_r15, tw_r16, tw_r17, tw_r18, Option.bind_some, lit_I, I_add, I_mul, I_le, I_lt, I_eq, if_neg, if_pos, if_true, if_false, I_10, I_01, bit_T, bit_F, bit_F', bit_0, bit_1, gb_bit, tw_s, tw_rw, tw_cells, tw_blockOf, tw_numberOf, aset_eq, aset_ne, aset_aset, Bool.false_eq_true, not_true_eq_false, not_false_eq_true, f_X13_pairCause_L2]
  · unfold pairC
    cases firstI (pairQ (A 1) (A 5) c n) (nc (A 1)) <;> rfl
theorem tw_causeOf {r c n : Nat} (hr : r < 5) (hc : c < nc (A 1)) (hn' : n ≤ 6) (hW : WB (A 1) (A 5)) (hA : SB (A 1)) (hS : SB (A 5)) (hP : PG' (A 1)) (hN : NB (A 1)) : f_X13_causeOf (some m) (I r) (I c) (I n) (TW m v A h) = some (cz (causeC (A 1) (A 5) r c n), TW m v A h) := by
  have hn := nc_le hP
  have hW7 : W7 (A 1) (A 5) := fun c hc => (hW c hc).2
  have h : r = 0 ∨ r = 1 ∨ r = 2 ∨ r = 3 ∨ r = 4 := by omega
  rcases h with h | h | h | h | h
  · subst h
    simp (disch := first | omega | assumption) only [tw_rcv, tw_r1, tw_r2, tw_r3, tw_r5, tw_r7, tw_r12, tw_r14, tw_r15, tw_r16, tw_r17, tw_r18, Option.bind_some, lit_I, I_add, I_mul, I_le, I_lt, I_eq, if_neg, if_pos, if_true, if_false, I_10, I_01, bit_T, bit_F, bit_F', bit_0, bit_1, gb_bit, tw_s, tw_rw, tw_cells, tw_blockOf, tw_numberOf, aset_eq, aset_ne, aset_aset, Bool.false_eq_true, not_true_eq_false, not_false_eq_true, f_X13_causeOf, tw_sole, causeC]
  · subst h
    simp (disch := first | omega | assumption) only [tw_rcv, tw_r1, tw_r2, tw_r3, tw_r5, tw_r7, tw_r12, tw_r14, tw_r15, tw_r16, tw_r17, tw_r18, Option.bind_some, lit_I, I_add, I_mul, I_le, I_lt, I_eq, if_neg, if_pos, if_true, if_false, I_10, I_01, bit_T, bit_F, bit_F', bit_0, bit_1, gb_bit, tw_s, tw_rw, tw_cells, tw_blockOf, tw_numberOf, aset_eq, aset_ne, aset_aset, Bool.false_eq_true, not_true_eq_false, not_false_eq_true, f_X13_causeOf, tw_only, causeC]
  · subst h
    simp (disch := first | omega | assumption) only [tw_rcv, tw_r1, tw_r2, tw_r3, tw_r5, tw_r7, tw_r12, tw_r14, tw_r15, tw_r16, tw_r17, tw_r18, Option.bind_some, lit_I, I_add, I_mul, I_le, I_lt, I_eq, if_neg, if_pos, if_true, if_false, I_10, I_01, bit_T, bit_F, bit_F', bit_0, bit_1, gb_bit, tw_s, tw_rw, tw_cells, tw_blockOf, tw_numberOf, aset_eq, aset_ne, aset_aset, Bool.false_eq_true, not_true_eq_false, not_false_eq_true, f_X13_causeOf, f_X13_causeOf_B46, causeC]
    rw [tw_lineCause (Or.inl rfl) hc hn' hW hA hS hP hN]
    simp (disch := first | omega | assumption) only [tw_rcv, tw_r1, tw_r2, tw_r3, tw_r5, tw_r7, tw_r12, tw_r14, tw_r15, tw_r16, tw_r17, tw_r18, Option.bind_some, lit_I, I_add, I_mul, I_le, I_lt, I_eq, if_neg, if_pos, if_true, if_false, I_10, I_01, bit_T, bit_F, bit_F', bit_0, bit_1, gb_bit, tw_s, tw_rw, tw_cells, tw_blockOf, tw_numberOf, aset_eq, aset_ne, aset_aset, Bool.false_eq_true, not_true_eq_false, not_false_eq_true]
  · subst h
    simp (disch := first | omega | assumption) only [tw_rcv, tw_r1, tw_r2, tw_r3, tw_r5, tw_r7, tw_r12, tw_r14, tw_r15, tw_r16, tw_r17, tw_r18, Option.bind_some, lit_I, I_add, I_mul, I_le, I_lt, I_eq, if_neg, if_pos, if_true, if_false, I_10, I_01, bit_T, bit_F, bit_F', bit_0, bit_1, gb_bit, tw_s, tw_rw, tw_cells, tw_blockOf, tw_numberOf, aset_eq, aset_ne, aset_aset, Bool.false_eq_true, not_true_eq_false, not_false_eq_true, f_X13_causeOf, f_X13_causeOf_B46, causeC]
    rw [tw_lineCause (Or.inr rfl) hc hn' hW hA hS hP hN]
    simp (disch := first | omega | assumption) only [tw_rcv, tw_r1, tw_r2, tw_r3, tw_r5, tw_r7, tw_r12, tw_r14, tw_r15, tw_r16, tw_r17, tw_r18, Option.bind_some, lit_I, I_add, I_mul, I_le, I_lt, I_eq, if_neg, if_pos, if_true, if_false, I_10, I_01, bit_T, bit_F, bit_F', bit_0, bit_1, gb_bit, tw_s, tw_rw, tw_cells, tw_blockOf, tw_numberOf, aset_eq, aset_ne, aset_aset, Bool.false_eq_true, not_true_eq_false, not_false_eq_true]
  · subst h
    simp (disch := first | omega | assumption) only [tw_rcv, tw_r1, tw_r2, tw_r3, tw_r5, tw_r7, tw_r12, tw_r14, tw_r15, tw_r16, tw_r17, tw_r18, Option.bind_some, lit_I, I_add, I_mul, I_le, I_lt, I_eq, if_neg, if_pos, if_true, if_false, I_10, I_01, bit_T, bit_F, bit_F', bit_0, bit_1, gb_bit, tw_s, tw_rw, tw_cells, tw_blockOf, tw_numberOf, aset_eq, aset_ne, aset_aset, Bool.false_eq_true, not_true_eq_false, not_false_eq_true, f_X13_causeOf, tw_pairCause, causeC]
end TWc
