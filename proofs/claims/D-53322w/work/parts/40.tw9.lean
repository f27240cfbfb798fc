/-! PLAIN LAW: the reference's sets: broken, solved, least, greatest -/
set_option maxRecDepth 100000
section TW9
variable {m : Nat} {v : Nat → Int32} {A : Nat → Nat → Nat} {h : PH}
def brk (s w : Nat → Nat) : Bool := anyB (fun c => w c == 0) (nc s)
theorem tw_isBroken (hA : SB (A 5)) (hP : PG' (A 1)) : f_X13_isBroken (some m) (TW m v A h) = some (I (bit (brk (A 1) (A 5) = true)), TW m v A h) := by
  have hn := nc_le hP
  unfold f_X13_isBroken
  refine loop_FU (fun k (p : Nat × Nat) => f_X13_isBroken_L4 k (some m) (I p.1) (I p.2) (TW m v A h)) (fun k => (bit (anyB (fun c => A 5 c == 0) k = true), k)) (nc (A 1)) _ (by omega) (fun k j hj => ?_) (fun k => ?_)
  · have h1 := hA j
    cases hb : anyB (fun c => A 5 c == 0) j with
    | true => simp (disch := first | omega | assumption) only [f_X13_isBroken_L4, tw_rcv, tw_cells, Option.bind_some, I_le, I_eq, if_neg, if_pos, I_10, I_01, if_true, if_false, lit_I, I_add, anyB, hb, bit_T, bit_F, bit_F', Bool.true_or]
    | false =>
      by_cases h4 : A 5 j = 0
      · simp (disch := first | omega | assumption) only [f_X13_isBroken_L4, tw_rcv, tw_r7, tw_rw, tw_cells, Option.bind_some, I_le, I_eq, if_neg, if_pos, I_10, I_01, if_true, if_false, lit_I, I_add, anyB, hb, bit_T, bit_F, bit_F', Bool.false_or]
        simp [bit, h4]
      · simp (disch := first | omega | assumption) only [f_X13_isBroken_L4, tw_rcv, tw_r7, tw_rw, tw_cells, Option.bind_some, I_le, I_eq, if_neg, if_pos, I_10, I_01, if_true, if_false, lit_I, I_add, anyB, hb, bit_T, bit_F, bit_F', Bool.false_or]
        simp [bit, h4]
  · simp (disch := first | omega | assumption) only [f_X13_isBroken_L4, tw_rcv, tw_cells, Option.bind_some, I_le, if_pos, gb_bit]
    rfl
/-- how a board stands: 2 broken, 1 solved, 0 open -/
def outc (s w : Nat → Nat) : Nat := if brk s w = true then 2 else if sgl s w = nc s then 1 else 0
theorem sgl_le {s w : Nat → Nat} : sgl s w ≤ nc s := by
  have : ∀ n, sumTo (fun c => if pc (w c) = 1 then 1 else 0) n ≤ n := by
    intro n
    induction n with
    | zero => exact Nat.le_refl _
    | succ n ih => simp only [sumTo]; split <;> omega
  exact this _
theorem tw_how (hA : SB (A 5)) (hP : PG' (A 1)) : f_X13_how (some m) (TW m v A h) = some (I (outc (A 1) (A 5)), TW m v A h) := by
  have hn := nc_le hP
  have hs := sgl_le (s := A 1) (w := A 5)
  simp (disch := first | omega | assumption) only [f_X13_how, tw_rcv, tw_isBroken, tw_singleMany, tw_cells, Option.bind_some, lit_I, bit_0, I_eq, outc]
  cases hb : brk (A 1) (A 5) with
  | true => simp
  | false =>
    by_cases h1 : sgl (A 1) (A 5) = nc (A 1)
    · simp [h1]
    · simp [h1]
/-- the least number of a set, the greatest -/
theorem loop_low {a : Nat} (ha : a < 2147483648) {l : Nat} (hl : l < 32) (h1 : a.testBit l = true) (h2 : ∀ j, j < l → a.testBit j = false) : f_X13_lowest (I a) h = some (I l, h) := by
  unfold f_X13_lowest
  refine loop_FU (fun k (p : Nat) => f_X13_lowest_L2 k (I a) (I p) h) (fun k => k) l _ (by omega) (fun k j hj => ?_) (fun k => ?_)
  · have := h2 j hj
    simp (disch := first | omega | assumption) only [f_X13_lowest_L2, tw_has, Option.bind_some, lit_I, bit_0, this, I_add]
    simp
  · simp (disch := first | omega | assumption) only [f_X13_lowest_L2, tw_has, Option.bind_some, lit_I, bit_0, h1]
    simp
end TW9
