/-! PLAIN LAW: the reference's methods: clues that can be, numbers taken, cells emptied, boards laid -/
set_option maxRecDepth 100000
def allB (P : Nat → Bool) : Nat → Bool
  | 0 => true
  | n + 1 => allB P n && P n
def anyB (P : Nat → Bool) : Nat → Bool
  | 0 => false
  | n + 1 => anyB P n || P n
theorem allB_iff {P : Nat → Bool} {n : Nat} : allB P n = true ↔ ∀ i, i < n → P i = true := by
  induction n with
  | zero => simp [allB]
  | succ n ih =>
    simp only [allB, Bool.and_eq_true, ih]
    constructor
    · rintro ⟨h1, h2⟩ i hi
      rcases Nat.lt_succ_iff_lt_or_eq.mp hi with h | h
      · exact h1 i h
      · rw [h]; exact h2
    · intro h1
      exact ⟨fun i hi => h1 i (by omega), h1 n (by omega)⟩
theorem anyB_iff {P : Nat → Bool} {n : Nat} : anyB P n = true ↔ ∃ i, i < n ∧ P i = true := by
  induction n with
  | zero => simp [anyB]
  | succ n ih =>
    simp only [anyB, Bool.or_eq_true, ih]
    constructor
    · rintro (⟨i, h1, h2⟩ | h1)
      · exact ⟨i, by omega, h2⟩
      · exact ⟨n, by omega, h1⟩
    · rintro ⟨i, h1, h2⟩
      rcases Nat.lt_succ_iff_lt_or_eq.mp h1 with h | h
      · exact Or.inl ⟨i, h, h2⟩
      · subst h; exact Or.inr h2
theorem I_10 : (I 1 = I 0) = False := by rw [I_eq (by decide) (by decide)]; simp
theorem I_01 : (I 0 = I 1) = False := by rw [I_eq (by decide) (by decide)]; simp
theorem bit_T {i : Decidable True} : @bit True i = 1 := by simp [bit]
theorem bit_F {i : Decidable (false = true)} : @bit (false = true) i = 0 := by simp [bit]
theorem bit_F' {i : Decidable False} : @bit False i = 0 := by simp [bit]
theorem nup_ne {g : Nat → Nat} {j x k : Nat} (h : ¬ k = j) : nup g j x k = g k := by simp [nup, h]
theorem nup_eq {g : Nat → Nat} {j x : Nat} : nup g j x j = x := by simp [nup]
section TW4
variable {m : Nat} {v : Nat → Int32} {A : Nat → Nat → Nat} {h : PH}
def canS (s : Nat → Nat) (i : Nat) : Bool := allB (fun k => !(s (33 + lc s i k) == 0)) (ln s i)
theorem tw_canShow {i : Nat} (hi : i < A 1 0 + A 1 1) (hA : SB (A 1)) (hP : PG' (A 1)) : f_X13_canShow (some m) (I i) (TW m v A h) = some (I (bit (canS (A 1) i = true)), TW m v A h) := by
  have hn := nc_le hP
  have hl := ln_le hP i
  have hP' := hP
  obtain ⟨a, b, c, d⟩ := hP
  unfold f_X13_canShow
  refine loop_FU (fun k (p : Nat × Nat) => f_X13_canShow_L4 k (some m) (I i) (I p.1) (I p.2) (TW m v A h)) (fun k => (bit (allB (fun k => !(A 1 (33 + lc (A 1) i k) == 0)) k = true), k)) (ln (A 1) i) _ (by omega) (fun k j hj => ?_) (fun k => ?_)
  · have h1 := lc_lt hP' hi hj
    have h2 := hA (33 + lc (A 1) i j)
    cases hb : allB (fun k => !(A 1 (33 + lc (A 1) i k) == 0)) j with
    | false => simp (disch := first | omega | assumption) only [f_X13_canShow_L4, tw_rcv, tw_cellsOf, Option.bind_some, I_le, if_neg, if_pos, I_10, I_01, if_true, if_false, lit_I, I_add, allB, hb, bit_T, bit_F, bit_F', Bool.false_and]
    | true =>
      by_cases hz : A 1 (33 + lc (A 1) i j) = 0
      · simp (disch := first | omega | assumption) only [f_X13_canShow_L4, tw_rcv, tw_cellsOf, tw_cellOf, tw_numberOf, Option.bind_some, I_le, I_eq, if_neg, if_pos, I_10, I_01, if_true, if_false, lit_I, I_add, allB, hb, bit_T, bit_F, bit_F', hz]
        rfl
      · simp (disch := first | omega | assumption) only [f_X13_canShow_L4, tw_rcv, tw_cellsOf, tw_cellOf, tw_numberOf, Option.bind_some, I_le, I_eq, if_neg, if_pos, I_10, I_01, if_true, if_false, lit_I, I_add, allB, hb, bit_T, bit_F, bit_F', hz]
        simp [hz, bit]
  · simp (disch := first | omega | assumption) only [f_X13_canShow_L4, tw_rcv, tw_cellsOf, Option.bind_some, I_le, if_pos, gb_bit]
    rfl
/-- whether another cell of the block has the number -/
def taken (s : Nat → Nat) (c n : Nat) : Bool := anyB (fun d => !(d == c) && (s (8 + d) == s (8 + c) && s (33 + d) == n)) (nc s)
theorem tw_isTaken {c n : Nat} (hc : c < 25) (hn' : n < 1000000) (hA : SB (A 1)) (hP : PG' (A 1)) : f_X13_isTaken (some m) (I c) (I n) (TW m v A h) = some (I (bit (taken (A 1) c n = true)), TW m v A h) := by
  have hn := nc_le hP
  have h3 := hA (8 + c)
  unfold f_X13_isTaken
  refine loop_FU (fun k (p : Nat × Nat) => f_X13_isTaken_L5 k (some m) (I c) (I n) (I p.1) (I p.2) (TW m v A h)) (fun k => (bit (anyB (fun d => !(d == c) && (A 1 (8 + d) == A 1 (8 + c) && A 1 (33 + d) == n)) k = true), k)) (nc (A 1)) _ (by omega) (fun k j hj => ?_) (fun k => ?_)
  · have h1 := hA (8 + j)
    have h2 := hA (33 + j)
    cases hb : anyB (fun d => !(d == c) && (A 1 (8 + d) == A 1 (8 + c) && A 1 (33 + d) == n)) j with
    | true => simp (disch := first | omega | assumption) only [f_X13_isTaken_L5, tw_rcv, tw_cells, Option.bind_some, I_le, I_eq, if_neg, if_pos, I_10, I_01, if_true, if_false, lit_I, I_add, anyB, hb, bit_T, bit_F, bit_F', Bool.true_or]
    | false =>
      by_cases h4 : j = c
      · subst h4
        simp (disch := first | omega | assumption) only [f_X13_isTaken_L5, tw_rcv, tw_cells, Option.bind_some, I_le, I_eq, if_neg, if_pos, I_10, I_01, if_true, if_false, lit_I, I_add, anyB, hb, bit_T, bit_F, bit_F', Bool.false_or]
        simp [bit]
      · by_cases h5 : A 1 (8 + j) = A 1 (8 + c)
        · by_cases h6 : A 1 (33 + j) = n
          · simp (disch := first | omega | assumption) only [f_X13_isTaken_L5, tw_rcv, tw_cells, tw_blockOf, tw_numberOf, Option.bind_some, I_le, I_eq, if_neg, if_pos, I_10, I_01, if_true, if_false, lit_I, I_add, anyB, hb, bit_T, bit_F, bit_F', Bool.false_or]
            simp [bit, h4, h5, h6]
          · simp (disch := first | omega | assumption) only [f_X13_isTaken_L5, tw_rcv, tw_cells, tw_blockOf, tw_numberOf, Option.bind_some, I_le, I_eq, if_neg, if_pos, I_10, I_01, if_true, if_false, lit_I, I_add, anyB, hb, bit_T, bit_F, bit_F', Bool.false_or]
            simp [bit, h4, h5, h6]
        · simp (disch := first | omega | assumption) only [f_X13_isTaken_L5, tw_rcv, tw_cells, tw_blockOf, tw_numberOf, Option.bind_some, I_le, I_eq, if_neg, if_pos, I_10, I_01, if_true, if_false, lit_I, I_add, anyB, hb, bit_T, bit_F, bit_F', Bool.false_or]
          simp [bit, h4, h5]
  · simp (disch := first | omega | assumption) only [f_X13_isTaken_L5, tw_rcv, tw_cells, Option.bind_some, I_le, if_pos, gb_bit]
    rfl
/-- quotients, opaque (omega) -/
def dv (a b : Nat) : Nat := a / b
def md (a b : Nat) : Nat := a % b
theorem I_dv {a b : Nat} (ha : a < 2147483648) (hb : b < 2147483648) : I a / I b = I (dv a b) := I_div ha hb
theorem I_md {a b : Nat} (ha : a < 2147483648) (hb : b < 2147483648) : I a - I (dv a b) * I b = I (md a b) := by
  rw [← I_dv ha hb]; exact I_rem ha hb
/-- a cell emptied -/
def sEmp (s : Nat → Nat) (c : Nat) : Nat → Nat := nup (nup (nup (nup s (33 + c) 0) (58 + c) 0) (83 + dv c (s 1)) 0) (83 + s 0 + md c (s 1)) 0
theorem dv_lt {s : Nat → Nat} (hP : PG' s) {c : Nat} (hc : c < nc s) : dv c (s 1) < s 0 ∧ md c (s 1) < s 1 := by
  obtain ⟨a, b, c', d⟩ := hP
  exact ⟨Nat.div_lt_of_lt_mul (by rw [Nat.mul_comm]; exact hc), Nat.mod_lt _ (by omega)⟩
theorem tw_empty {c : Nat} (hc : c < nc (A 1)) (hP : PG' (A 1)) : f_X13_empty (some m) (I c) (TW m v A h) = some (TW m v (aset A 1 (sEmp (A 1) c)) h) := by
  have hn := nc_le hP
  have h1 := dv_lt hP hc
  obtain ⟨a, b, c', d⟩ := hP
  simp (disch := first | omega | assumption) only [f_X13_empty, tw_r1, Option.bind_some, lit_I, I_add, tw_ws, tw_s, aset_eq, aset_aset, nup_ne, nz_I, I_dv, I_md]
  rfl
end TW4
