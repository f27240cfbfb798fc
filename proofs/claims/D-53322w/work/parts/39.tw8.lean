/-! PLAIN LAW: the reference's sets -/
set_option maxRecDepth 100000
/-- how many numbers are in a set -/
def pc (a : Nat) : Nat := sumTo (fun k => a >>> k &&& 1) 31
theorem pc_le (a : Nat) : pc a ≤ 31 := by
  have := sumTo_lt (f := fun k => a >>> k &&& 1) (B := 2) (fun i => Nat.lt_succ_of_le Nat.and_le_right) 31
  have h : ∀ n, sumTo (fun k => a >>> k &&& 1) n ≤ n := by
    intro n
    induction n with
    | zero => exact Nat.le_refl _
    | succ n ih =>
      have : a >>> n &&& 1 ≤ 1 := Nat.and_le_right
      simp only [sumTo]; omega
  exact h 31
theorem and1_tb (a k : Nat) : (a >>> k &&& 1 = 1) = (a.testBit k = true) := by
  simp [Nat.testBit, Nat.and_comm, Nat.and_one_is_mod]
theorem I_shrM {a b : Nat} (ha : a < 2147483648) (hb : b < 32) : I a >>> I (b &&& 31) = I (a >>> b) := by rw [← I_and]; exact I_shr ha hb
theorem I_shlM {a b : Nat} (hb : b < 32) : I a <<< I (b &&& 31) = I (a <<< b) := by rw [← I_and]; exact I_shl hb
section TW8
variable {m : Nat} {v : Nat → Int32} {A : Nat → Nat → Nat} {h : PH}
theorem tw_has {a k : Nat} (ha : a < 2147483648) (hk : k < 32) : f_X13_has (I a) (I k) h = some (I (bit (a.testBit k = true)), h) := by
  have h1 : a >>> k &&& 1 < 2147483648 := Nat.lt_of_le_of_lt Nat.and_le_right (by decide)
  simp (disch := first | omega | assumption) only [f_X13_has, lit_I, I_shrM, I_and, I_eq, and1_tb]
  by_cases h2 : a.testBit k = true
  · rw [if_pos h2, bit_t h2]
  · rw [if_neg h2, bit_f h2]
theorem tw_ones {a : Nat} (ha : a < 2147483648) : f_X13_ones (I a) h = some (I (pc a), h) := by
  unfold f_X13_ones
  refine loop_FU (fun k (p : Nat × Nat) => f_X13_ones_L4 k (I a) (I p.1) (I p.2) h) (fun k => (sumTo (fun k => a >>> k &&& 1) k, k)) 31 _ (by omega) (fun k j hj => ?_) (fun k => ?_)
  · simp (disch := first | omega | assumption) only [f_X13_ones_L4, lit_I, I_shrM, I_and, I_le, if_neg, I_add, sumTo]
  · simp (disch := first | omega | assumption) only [f_X13_ones_L4, lit_I, I_le, if_pos]
    rfl
def pcs (s w : Nat → Nat) : Nat := sumTo (fun c => pc (w c)) (nc s)
def sgl (s w : Nat → Nat) : Nat := sumTo (fun c => if pc (w c) = 1 then 1 else 0) (nc s)
theorem tw_possibleMany (hA : SB (A 5)) (hP : PG' (A 1)) : f_X13_possibleMany (some m) (TW m v A h) = some (I (pcs (A 1) (A 5)), TW m v A h) := by
  have hn := nc_le hP
  unfold f_X13_possibleMany
  refine loop_FU (fun k (p : Nat × Nat) => f_X13_possibleMany_L4 k (some m) (I p.1) (I p.2) (TW m v A h)) (fun k => (sumTo (fun c => pc (A 5 c)) k, k)) (nc (A 1)) _ (by omega) (fun k j hj => ?_) (fun k => ?_)
  · have h1 := hA j
    simp (disch := first | omega | assumption) only [f_X13_possibleMany_L4, tw_rcv, tw_r7, tw_rw, tw_cells, tw_ones, Option.bind_some, I_le, if_neg, lit_I, I_add, sumTo]
  · simp (disch := first | omega | assumption) only [f_X13_possibleMany_L4, tw_rcv, tw_cells, Option.bind_some, I_le, if_pos]
    rfl
theorem tw_singleMany (hA : SB (A 5)) (hP : PG' (A 1)) : f_X13_singleMany (some m) (TW m v A h) = some (I (sgl (A 1) (A 5)), TW m v A h) := by
  have hn := nc_le hP
  unfold f_X13_singleMany
  refine loop_FU (fun k (p : Nat × Nat) => f_X13_singleMany_L4 k (some m) (I p.1) (I p.2) (TW m v A h)) (fun k => (sumTo (fun c => if pc (A 5 c) = 1 then 1 else 0) k, k)) (nc (A 1)) _ (by omega) (fun k j hj => ?_) (fun k => ?_)
  · have h1 := hA j
    have h2 := pc_le (A 5 j)
    simp (disch := first | omega | assumption) only [f_X13_singleMany_L4, tw_rcv, tw_r7, tw_rw, tw_cells, tw_ones, Option.bind_some, I_le, I_eq, if_neg, lit_I, I_add, sumTo]
    split <;> rfl
  · simp (disch := first | omega | assumption) only [f_X13_singleMany_L4, tw_rcv, tw_cells, Option.bind_some, I_le, if_pos]
    rfl
end TW8
