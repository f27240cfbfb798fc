/-! PLAIN LAW: the reference's causes: a sum that is missed -/
set_option maxRecDepth 100000
theorem lt_zero_I {a b : Nat} (ha : a < 1000000) (hb : b < 1000000) : (I a - I b < I 0) = (a < b) := by
  rw [Int32.lt_iff_toInt_lt, Int32.toInt_sub, I_toInt (show a < 2147483648 by omega), I_toInt (show b < 2147483648 by omega), I_toInt (show 0 < 2147483648 by omega), Int.bmod_eq_of_le (by omega) (by omega)]
  simp; omega
section TW14
variable {m : Nat} {v : Nat → Int32} {A : Nat → Nat → Nat} {h : PH}
/-- the sum less the number isn't among the sums of the others -/
def missed (s w : Nat → Nat) (i c n : Nat) : Bool := decide (lsum s i < n) || !((lsums s w i (some c) (ln s i)).testBit (lsum s i - n))
theorem tw_isMissed {i c n : Nat} (hi : i < A 1 0 + A 1 1) (hc : c < 25) (hn' : n ≤ 6) (hs : lsum (A 1) i < 32) (hb : lsums (A 1) (A 5) i (some c) (ln (A 1) i) < 2147483648) (hA : SB (A 1)) (hW : SB (A 5)) (hP : PG' (A 1)) : f_X13_isMissed (some m) (I i) (I c) (I n) (TW m v A h) = some (I (bit (missed (A 1) (A 5) i c n = true)), TW m v A h) := by
  have e : f_X13_sumsOf (some m) (I i) (I c) (TW m v A h) = some (I (lsums (A 1) (A 5) i (some c) (ln (A 1) i)), TW m v A h) := tw_sumsOf (b := some c) hi (fun j hj => by cases hj; omega) hW hP
  by_cases h1 : lsum (A 1) i < n
  · simp (disch := first | omega | assumption) only [f_X13_isMissed, tw_rcv, tw_sumOf, Option.bind_some, lit_I, lt_zero_I, if_pos]
    simp [missed, h1, bit]
  · simp (disch := first | omega | assumption) only [f_X13_isMissed, tw_rcv, tw_sumOf, Option.bind_some, lit_I, lt_zero_I, I_lt, if_neg, e, I_sub, tw_has, bit_0]
    cases hx : (lsums (A 1) (A 5) i (some c) (ln (A 1) i)).testBit (lsum (A 1) i - n) <;> simp [missed, h1, bit, hx]
end TW14
