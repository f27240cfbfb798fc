/-! PLAIN LAW: least and greatest of a set; what the first index is -/
set_option maxRecDepth 100000
theorem firstFrom_some {P : Nat → Bool} : ∀ (n i j : Nat), firstFrom P n i = some j ↔ (i ≤ j ∧ j < i + n ∧ P j = true ∧ ∀ k, i ≤ k → k < j → P k = false) := by
  intro n
  induction n with
  | zero => intro i j; simp only [firstFrom, reduceCtorEq, false_iff]; omega
  | succ n ih =>
    intro i j
    simp only [firstFrom]
    cases hp : P i with
    | true =>
      simp only [if_true, Option.some.injEq]
      constructor
      · rintro rfl
        exact ⟨Nat.le_refl _, by omega, hp, fun k h1 h2 => by omega⟩
      · rintro ⟨h1, h2, h3, h4⟩
        rcases Nat.lt_or_ge i j with h5 | h5
        · rw [h4 i (Nat.le_refl _) h5] at hp; cases hp
        · omega
    | false =>
      simp only [Bool.false_eq_true, if_false, ih]
      constructor
      · rintro ⟨h1, h2, h3, h4⟩
        refine ⟨by omega, by omega, h3, fun k h5 h6 => ?_⟩
        rcases Nat.eq_or_lt_of_le h5 with h7 | h7
        · rw [← h7]; exact hp
        · exact h4 k h7 h6
      · rintro ⟨h1, h2, h3, h4⟩
        have : i ≠ j := by rintro rfl; rw [hp] at h3; cases h3
        exact ⟨by omega, by omega, h3, fun k h5 h6 => h4 k (by omega) h6⟩
theorem firstFrom_none {P : Nat → Bool} : ∀ (n i : Nat), firstFrom P n i = none ↔ ∀ k, i ≤ k → k < i + n → P k = false := by
  intro n
  induction n with
  | zero => intro i; simp only [firstFrom, true_iff]; intro k h1 h2; omega
  | succ n ih =>
    intro i
    simp only [firstFrom]
    cases hp : P i with
    | true =>
      simp only [if_true, reduceCtorEq, false_iff]
      intro h
      have := h i (Nat.le_refl _) (by omega)
      rw [hp] at this; cases this
    | false =>
      simp only [Bool.false_eq_true, if_false, ih]
      constructor
      · intro h k h1 h2
        rcases Nat.eq_or_lt_of_le h1 with h7 | h7
        · rw [← h7]; exact hp
        · exact h k h7 (by omega)
      · intro h k h1 h2
        exact h k (by omega) (by omega)
theorem firstI_some {P : Nat → Bool} {n j : Nat} : firstI P n = some j ↔ (j < n ∧ P j = true ∧ ∀ k, k < j → P k = false) := by
  unfold firstI
  rw [firstFrom_some]
  constructor
  · rintro ⟨h1, h2, h3, h4⟩; exact ⟨by omega, h3, fun k h => h4 k (Nat.zero_le _) h⟩
  · rintro ⟨h1, h2, h3⟩; exact ⟨Nat.zero_le _, by omega, h2, fun k _ h => h3 k h⟩
theorem firstI_none {P : Nat → Bool} {n : Nat} : firstI P n = none ↔ ∀ k, k < n → P k = false := by
  unfold firstI
  rw [firstFrom_none]
  constructor
  · intro h k hk; exact h k (Nat.zero_le _) (by omega)
  · intro h k _ hk; exact h k (by omega)
theorem firstI_congr {P Q : Nat → Bool} {n : Nat} (h : ∀ k, k < n → P k = Q k) : firstI P n = firstI Q n := by
  cases hq : firstI Q n with
  | none =>
    rw [firstI_none] at hq ⊢
    intro k hk; rw [h k hk]; exact hq k hk
  | some j =>
    rw [firstI_some] at hq ⊢
    exact ⟨hq.1, by rw [h j hq.1]; exact hq.2.1, fun k hk => by rw [h k (by omega)]; exact hq.2.2 k hk⟩
/-- the least number of a set, the greatest -/
def lo (a : Nat) : Nat := (firstI a.testBit 31).getD 0
def hi (a : Nat) : Nat := a.log2
theorem tb_ex {a : Nat} (h0 : a ≠ 0) (h : a < 2147483648) : ∃ i, i < 31 ∧ a.testBit i = true := by
  obtain ⟨i, hi⟩ := Nat.exists_testBit_of_ne_zero h0
  refine ⟨i, ?_, hi⟩
  rcases Nat.lt_or_ge i 31 with h1 | h1
  · exact h1
  · rw [Nat.testBit_lt_two_pow (Nat.lt_of_lt_of_le h (show 2 ^ 31 ≤ 2 ^ i from Nat.pow_le_pow_right (show 0 < 2 by decide) h1))] at hi; cases hi
theorem lo_spec {a : Nat} (h0 : a ≠ 0) (h : a < 2147483648) : lo a < 31 ∧ a.testBit (lo a) = true ∧ ∀ j, j < lo a → a.testBit j = false := by
  unfold lo
  cases hf : firstI a.testBit 31 with
  | none =>
    rw [firstI_none] at hf
    obtain ⟨i, h1, h2⟩ := tb_ex h0 h
    rw [hf i h1] at h2; cases h2
  | some j =>
    rw [firstI_some] at hf
    exact hf
theorem hi_spec {a : Nat} (h0 : a ≠ 0) (h : a < 2147483648) : hi a < 31 ∧ a.testBit (hi a) = true ∧ ∀ j, hi a < j → a.testBit j = false := by
  refine ⟨(Nat.log2_lt h0).mpr h, Nat.testBit_log2 h0, fun j hj => Nat.testBit_lt_two_pow ((Nat.log2_lt h0).mp hj)⟩
/-- sets of a board that isn't broken -/
def WB (s w : Nat → Nat) : Prop := ∀ c, c < nc s → w c ≠ 0 ∧ w c < 128
theorem lo_lt7 {a : Nat} (h0 : a ≠ 0) (h : a < 128) : lo a < 7 := by
  have h1 := lo_spec h0 (by omega)
  rcases Nat.lt_or_ge (lo a) 7 with h2 | h2
  · exact h2
  · have h3 := h1.2.1
    rw [Nat.testBit_lt_two_pow (Nat.lt_of_lt_of_le h (show 2 ^ 7 ≤ 2 ^ lo a from Nat.pow_le_pow_right (show 0 < 2 by decide) h2))] at h3
    cases h3
theorem hi_lt7 {a : Nat} (h0 : a ≠ 0) (h : a < 128) : hi a < 7 := (Nat.log2_lt h0).mpr h
section TWl
variable {m : Nat} {v : Nat → Int32} {A : Nat → Nat → Nat} {h : PH}
theorem tw_lowest {a : Nat} (h0 : a ≠ 0) (ha : a < 2147483648) : f_X13_lowest (I a) h = some (I (lo a), h) := by
  obtain ⟨h1, h2, h3⟩ := lo_spec h0 ha
  exact loop_low ha (by omega) h2 h3
theorem tw_highest {a : Nat} (h0 : a ≠ 0) (ha : a < 2147483648) : f_X13_highest (I a) h = some (I (hi a), h) := by
  obtain ⟨h1, h2, h3⟩ := hi_spec h0 ha
  exact loop_high ha h1 h2 (fun j h _ => h3 j h)
end TWl
/-- the least sum, the greatest, of the line's other cells -/
def lows (s w : Nat → Nat) (i c : Nat) : Nat → Nat := sumTo (fun k => if lc s i k = c then 0 else lo (w (lc s i k)))
def highs (s w : Nat → Nat) (i c : Nat) : Nat → Nat := sumTo (fun k => if lc s i k = c then 0 else hi (w (lc s i k)))
/-- the sum is out of what can be -/
def beyond (s w : Nat → Nat) (i c n : Nat) : Bool := decide (lsum s i < n + lows s w i c (ln s i)) || decide (n + highs s w i c (ln s i) < lsum s i)
theorem sumTo_lt' {f : Nat → Nat} {B : Nat} : ∀ {n}, (∀ i, i < n → f i < B) → sumTo f n ≤ n * B := by
  intro n
  induction n with
  | zero => simp [sumTo]
  | succ n ih => intro hf; have h1 := hf n (by omega); have h2 := ih (fun i hi => hf i (by omega)); simp only [sumTo, Nat.succ_mul]; omega
theorem sumTo_congr {f g : Nat → Nat} : ∀ {n}, (∀ i, i < n → f i = g i) → sumTo f n = sumTo g n := by
  intro n
  induction n with
  | zero => intro _; rfl
  | succ n ih => intro hf; simp only [sumTo]; rw [ih (fun i hi => hf i (by omega)), hf n (by omega)]
theorem lsum_lt {s : Nat → Nat} {i : Nat} (hA : SB s) (hP : PG' s) : lsum s i ≤ 5000000 := by
  have h1 := sumTo_lt (f := fun k => s (33 + lc s i k)) (B := 1000000) (fun k => hA _) (ln s i)
  have h2 := ln_le hP i
  have : ln s i * 1000000 ≤ 5 * 1000000 := Nat.mul_le_mul_right _ h2.2
  unfold lsum
  omega
section TWb
variable {m : Nat} {v : Nat → Int32} {A : Nat → Nat → Nat} {h : PH}
theorem tw_isBeyond {i c n : Nat} (hi' : i < A 1 0 + A 1 1) (hc : c < 25) (hn' : n ≤ 6) (hW : WB (A 1) (A 5)) (hA : SB (A 1)) (hP : PG' (A 1)) : f_X13_isBeyond (some m) (I i) (I c) (I n) (TW m v A h) = some (I (bit (beyond (A 1) (A 5) i c n = true)), TW m v A h) := by
  have hn := nc_le hP
  have hl := ln_le hP i
  have hls := lsum_lt (i := i) hA hP
  have hP' := hP
  obtain ⟨a1, a2, a3, a4⟩ := hP
  have hlo : ∀ k, k < ln (A 1) i → lc (A 1) i k < nc (A 1) ∧ lo (A 5 (lc (A 1) i k)) < 7 ∧ hi (A 5 (lc (A 1) i k)) < 7 := fun k hk => by
    have h1 := lc_lt hP' hi' hk
    have h2 := hW _ h1
    exact ⟨h1, lo_lt7 h2.1 h2.2, hi_lt7 h2.1 h2.2⟩
  have hL : ∀ k, k ≤ ln (A 1) i → lows (A 1) (A 5) i c k ≤ 35 ∧ highs (A 1) (A 5) i c k ≤ 35 := fun k hk => by
    have h1 := sumTo_lt' (n := k) (f := fun k => if lc (A 1) i k = c then 0 else lo (A 5 (lc (A 1) i k))) (B := 7) (fun j hj => by have := (hlo j (by omega)).2.1; split <;> omega)
    have h2 := sumTo_lt' (n := k) (f := fun k => if lc (A 1) i k = c then 0 else hi (A 5 (lc (A 1) i k))) (B := 7) (fun j hj => by have := (hlo j (by omega)).2.2; split <;> omega)
    unfold lows highs
    omega
  unfold f_X13_isBeyond
  refine loop_FU (fun k (p : Nat × Nat × Nat) => f_X13_isBeyond_L9 k (some m) (I i) (I c) (I p.1) (I p.2.1) (I p.2.2) (TW m v A h)) (fun k => (n + lows (A 1) (A 5) i c k, n + highs (A 1) (A 5) i c k, k)) (ln (A 1) i) _ (by omega) (fun k j hj => ?_) (fun k => ?_)
  · obtain ⟨h1, h2, h3⟩ := hlo j hj
    have h4 := hW _ h1
    by_cases h5 : lc (A 1) i j = c
    · simp (disch := first | omega | assumption) only [tw_rcv, tw_r1, tw_r2, tw_r3, tw_r5, tw_r7, tw_r12, tw_r14, tw_r15, tw_r16, tw_r17, tw_r18, Option.bind_some, lit_I, I_add, I_mul, I_le, I_lt, I_eq, if_neg, if_pos, if_true, if_false, I_10, I_01, bit_T, bit_F, bit_F', bit_0, bit_1, gb_bit, tw_s, tw_rw, tw_cells, tw_blockOf, tw_numberOf, aset_eq, aset_ne, aset_aset, Bool.false_eq_true, not_true_eq_false, not_false_eq_true, f_X13_isBeyond_L9, f_X13_isBeyond_B50, tw_cellsOf, tw_cellOf, lows, highs, sumTo, h5, Nat.add_zero]
    · simp (disch := first | omega | assumption) only [tw_rcv, tw_r1, tw_r2, tw_r3, tw_r5, tw_r7, tw_r12, tw_r14, tw_r15, tw_r16, tw_r17, tw_r18, Option.bind_some, lit_I, I_add, I_mul, I_le, I_lt, I_eq, if_neg, if_pos, if_true, if_false, I_10, I_01, bit_T, bit_F, bit_F', bit_0, bit_1, gb_bit, tw_s, tw_rw, tw_cells, tw_blockOf, tw_numberOf, aset_eq, aset_ne, aset_aset, Bool.false_eq_true, not_true_eq_false, not_false_eq_true, f_X13_isBeyond_L9, f_X13_isBeyond_B50, tw_cellsOf, tw_cellOf, lows, highs, sumTo, h5, tw_lowest, tw_highest, h4.1, Nat.add_assoc, ne_eq, not_false_eq_true]
  · have h6 := hL _ (Nat.le_refl _)
    simp (disch := first | omega | assumption) only [tw_rcv, tw_r1, tw_r2, tw_r3, tw_r5, tw_r7, tw_r12, tw_r14, tw_r15, tw_r16, tw_r17, tw_r18, Option.bind_some, lit_I, I_add, I_mul, I_le, I_lt, I_eq, if_neg, if_pos, if_true, if_false, I_10, I_01, bit_T, bit_F, bit_F', bit_0, bit_1, gb_bit, tw_s, tw_rw, tw_cells, tw_blockOf, tw_numberOf, aset_eq, aset_ne, aset_aset, Bool.false_eq_true, not_true_eq_false, not_false_eq_true, f_X13_isBeyond_L9, tw_cellsOf, tw_sumOf]
    by_cases h7 : lsum (A 1) i < n + lows (A 1) (A 5) i c (ln (A 1) i)
    · simp [h7, beyond, bit]
    · by_cases h8 : n + highs (A 1) (A 5) i c (ln (A 1) i) < lsum (A 1) i
      · have h9 : ¬ lsum (A 1) i ≤ n + highs (A 1) (A 5) i c (ln (A 1) i) := by omega
        simp [h7, h8, h9, beyond, bit]
      · have h9 : lsum (A 1) i ≤ n + highs (A 1) (A 5) i c (ln (A 1) i) := by omega
        simp [h7, h8, h9, beyond, bit]
end TWb
