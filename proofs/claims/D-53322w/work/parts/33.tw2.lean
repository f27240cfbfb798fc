/-! PLAIN LAW: the reference's methods: lines, sums, what is written -/
set_option maxRecDepth 100000
/-- the k-th cell of a line; how many -/
def ln (s : Nat → Nat) (i : Nat) : Nat := if i < s 0 then s 1 else s 0
def lc (s : Nat → Nat) (i k : Nat) : Nat := if i < s 0 then s 1 * i + k else s 1 * k + (i - s 0)
def lcb (R C i k : Nat) : Bool := !(decide (2 ≤ R) && decide (2 ≤ C) && decide (i < R + C) && decide (k < (if i < R then C else R))) || decide ((if i < R then C * i + k else C * k + (i - R)) < R * C)
theorem lc_dec : ∀ R, R < 6 → ∀ C, C < 6 → ∀ i, i < 10 → ∀ k, k < 5 → lcb R C i k = true := by decide +kernel
theorem lc_lt {s : Nat → Nat} (hP : PG' s) {i k : Nat} (hi : i < s 0 + s 1) (hk : k < ln s i) : lc s i k < nc s := by
  obtain ⟨a, b, c, d⟩ := hP
  have h5 : ln s i ≤ 5 := by unfold ln; split <;> omega
  have h := lc_dec (s 0) (by omega) (s 1) (by omega) i (by omega) k (by omega)
  simp only [lcb, Bool.or_eq_true, Bool.not_eq_true', Bool.and_eq_false_iff, decide_eq_false_iff_not, decide_eq_true_eq] at h
  rcases h with (((h | h) | h) | h) | h
  · exact absurd a h
  · exact absurd c h
  · exact absurd hi h
  · exact absurd hk h
  · exact h
theorem ln_le {s : Nat → Nat} (hP : PG' s) (i : Nat) : 2 ≤ ln s i ∧ ln s i ≤ 5 := by
  obtain ⟨a, b, c, d⟩ := hP
  unfold ln; split <;> omega
def lsum (s : Nat → Nat) (i : Nat) : Nat := sumTo (fun k => s (33 + lc s i k)) (ln s i)
theorem sumTo_lt {f : Nat → Nat} {B : Nat} (hf : ∀ i, f i < B) : ∀ n, sumTo f n ≤ n * B := by
  intro n
  induction n with
  | zero => simp [sumTo]
  | succ n ih => have := hf n; simp only [sumTo, Nat.succ_mul]; omega
/-- all, by a count -/
def allTo (P : Nat → Prop) (n : Nat) : Prop := ∀ i, i < n → P i
section TW2
variable {m : Nat} {v : Nat → Int32} {A : Nat → Nat → Nat} {h : PH}
theorem tw_cellsOf {i : Nat} (hi : i < 1000000) (hP : PG' (A 1)) : f_X13_cellsOf (some m) (I i) (TW m v A h) = some (I (ln (A 1) i), TW m v A h) := by
  obtain ⟨a, b, c, d⟩ := hP
  simp (disch := omega) only [f_X13_cellsOf, tw_r1, Option.bind_some, lit_I, tw_s, I_le, ln]
  by_cases h1 : i < A 1 0
  · rw [if_neg (by omega), if_pos h1]
  · rw [if_pos (by omega), if_neg h1]
theorem tw_cellOf {i k : Nat} (hi : i < 1000000) (hP : PG' (A 1)) : f_X13_cellOf (some m) (I i) (I k) (TW m v A h) = some (I (lc (A 1) i k), TW m v A h) := by
  obtain ⟨a, b, c, d⟩ := hP
  simp (disch := omega) only [f_X13_cellOf, tw_r1, Option.bind_some, lit_I, tw_s, I_le, lc, I_mul, I_add]
  by_cases h1 : i < A 1 0
  · rw [if_neg (by omega), if_pos h1]
  · rw [if_pos (by omega), if_neg h1, I_sub (by omega)]
    congr 3
    omega
theorem tw_sumOf {i : Nat} (hi : i < A 1 0 + A 1 1) (hA : SB (A 1)) (hP : PG' (A 1)) : f_X13_sumOf (some m) (I i) (TW m v A h) = some (I (lsum (A 1) i), TW m v A h) := by
  have hn := nc_le hP
  have hl := ln_le hP i
  have hP' := hP
  obtain ⟨a, b, c, d⟩ := hP
  unfold f_X13_sumOf
  refine loop_FU (fun k (p : Nat × Nat) => f_X13_sumOf_L4 k (some m) (I i) (I p.1) (I p.2) (TW m v A h)) (fun k => (sumTo (fun k => A 1 (33 + lc (A 1) i k)) k, k)) (ln (A 1) i) _ (by omega) (fun k j hj => ?_) (fun k => ?_)
  · have h1 := lc_lt hP' hi hj
    simp (disch := first | omega | assumption) only [f_X13_sumOf_L4, tw_rcv, tw_cellsOf, Option.bind_some, tw_cellOf, tw_numberOf, I_le, if_neg, lit_I, I_add, sumTo]
  · simp (disch := first | omega | assumption) only [f_X13_sumOf_L4, tw_rcv, tw_cellsOf, Option.bind_some, I_le, if_pos]
    rfl
def ngiv (s : Nat → Nat) : Nat := sumTo (fun c => s (58 + c)) (nc s)
def nshw (s : Nat → Nat) : Nat := sumTo (fun i => s (83 + i)) (s 0 + s 1)
def nemp (s : Nat → Nat) : Nat := sumTo (fun c => if s (33 + c) = 0 then 1 else 0) (nc s)
theorem tw_givenMany (hP : PG' (A 1)) : f_X13_givenMany (some m) (TW m v A h) = some (I (ngiv (A 1)), TW m v A h) := by
  have hn := nc_le hP
  unfold f_X13_givenMany
  refine loop_FU (fun k (p : Nat × Nat) => f_X13_givenMany_L4 k (some m) (I p.1) (I p.2) (TW m v A h)) (fun k => (sumTo (fun c => A 1 (58 + c)) k, k)) (nc (A 1)) _ (by omega) (fun k j hj => ?_) (fun k => ?_)
  · simp (disch := first | omega | assumption) only [f_X13_givenMany_L4, tw_rcv, tw_r1, tw_cells, tw_s, Option.bind_some, I_le, if_neg, lit_I, I_add, sumTo]
  · simp (disch := first | omega | assumption) only [f_X13_givenMany_L4, tw_rcv, tw_cells, Option.bind_some, I_le, if_pos]
    rfl
theorem tw_shownMany (hP : PG' (A 1)) : f_X13_shownMany (some m) (TW m v A h) = some (I (nshw (A 1)), TW m v A h) := by
  obtain ⟨a, b, c, d⟩ := hP
  unfold f_X13_shownMany
  refine loop_FU (fun k (p : Nat × Nat) => f_X13_shownMany_L4 k (some m) (I p.1) (I p.2) (TW m v A h)) (fun k => (sumTo (fun c => A 1 (83 + c)) k, k)) (A 1 0 + A 1 1) _ (by omega) (fun k j hj => ?_) (fun k => ?_)
  · simp (disch := first | omega | assumption) only [f_X13_shownMany_L4, tw_rcv, tw_r1, tw_lines, tw_s, Option.bind_some, I_le, if_neg, lit_I, I_add, sumTo]
  · simp (disch := first | omega | assumption) only [f_X13_shownMany_L4, tw_rcv, tw_lines, Option.bind_some, I_le, if_pos]
    rfl
theorem tw_emptyMany (hA : SB (A 1)) (hP : PG' (A 1)) : f_X13_emptyMany (some m) (TW m v A h) = some (I (nemp (A 1)), TW m v A h) := by
  have hn := nc_le hP
  unfold f_X13_emptyMany
  refine loop_FU (fun k (p : Nat × Nat) => f_X13_emptyMany_L4 k (some m) (I p.1) (I p.2) (TW m v A h)) (fun k => (sumTo (fun c => if A 1 (33 + c) = 0 then 1 else 0) k, k)) (nc (A 1)) _ (by omega) (fun k j hj => ?_) (fun k => ?_)
  · have h1 := hA (33 + j)
    simp (disch := first | omega | assumption) only [f_X13_emptyMany_L4, tw_rcv, tw_cells, tw_numberOf, Option.bind_some, I_le, I_eq, if_neg, lit_I, I_add, sumTo]
    split <;> rfl
  · simp (disch := first | omega | assumption) only [f_X13_emptyMany_L4, tw_rcv, tw_cells, Option.bind_some, I_le, if_pos]
    rfl
end TW2
