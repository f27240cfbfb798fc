/-! PLAIN LAW: the reference's sums of a line, as bits -/
set_option maxRecDepth 100000
/-- bits joined over numbers 1.. -/
def orTo (f : Nat → Nat) : Nat → Nat
  | 0 => 0
  | n + 1 => orTo f n ||| f n
/-- the sums when a cell's set joins -/
def addS (w sums : Nat) : Nat := orTo (fun n => if w.testBit (n + 1) = true then sums <<< (n + 1) else 0) 6
section TW12
variable {m : Nat} {v : Nat → Int32} {A : Nat → Nat → Nat} {h : PH}
theorem tw_sumsL30 {r5 : Option Nat → Int32 → Int32 → Int32 → Int32 → PH → Option (Int32 × PH)} {x1 x2 x4 : Int32} {c sums : Nat} (hc : c < 25) (hA : SB (A 5)) (hb : ¬ I c = x2) : f_X13_sumsOf_L30 r5 FU (some m) x1 x2 (I sums) x4 (I c) (I 0) (I 1) (TW m v A h) = r5 (some m) x1 x2 (I (addS (A 5 c) sums)) (x4 + 1) (TW m v A h) := by
  have h1 := hA c
  refine loop_FU (fun k (p : Nat × Nat) => f_X13_sumsOf_L30 r5 k (some m) x1 x2 (I sums) x4 (I c) (I p.1) (I (p.2 + 1)) (TW m v A h)) (fun k => (orTo (fun n => if (A 5 c).testBit (n + 1) = true then sums <<< (n + 1) else 0) k, k)) 6 _ (by omega) (fun k j hj => ?_) (fun k => ?_)
  · cases hb2 : (A 5 c).testBit (j + 1) with
    | true => simp (disch := first | omega | assumption) only [f_X13_sumsOf_L30, lit_I, I_lt, if_neg, tw_r7, tw_rw, tw_has, hb2, bit_T, I_10, if_false, Option.bind_some, I_shlI, I_or, I_add, orTo, if_true]
    | false => simp (disch := first | omega | assumption) only [f_X13_sumsOf_L30, lit_I, I_lt, if_neg, tw_r7, tw_rw, tw_has, hb2, bit_F, bit_F', if_true, Option.bind_some, I_or, I_add, orTo, if_false, Bool.false_eq_true]
  · simp (disch := first | omega | assumption) only [f_X13_sumsOf_L30, f_X13_sumsOf_B77, lit_I, I_lt, if_pos, if_neg]
    rfl
end TW12
