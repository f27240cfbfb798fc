/-! PLAIN LAW: the reference's sets: greatest -/
set_option maxRecDepth 100000
theorem I_dec {a : Nat} (h : 1 ≤ a) : I a + (-1) = I (a - 1) := by
  have e : I a = I (a - 1) + I 1 := by rw [I_add]; congr 1; omega
  rw [e, show ((-1 : Int32)) = - I 1 from rfl, Int32.add_assoc, Int32.add_right_neg, Int32.add_zero]
section TW10
variable {m : Nat} {v : Nat → Int32} {A : Nat → Nat → Nat} {h : PH}
theorem loop_high {a : Nat} (ha : a < 2147483648) {l : Nat} (hl : l < 31) (h1 : a.testBit l = true) (h2 : ∀ j, l < j → j < 31 → a.testBit j = false) : f_X13_highest (I a) h = some (I l, h) := by
  unfold f_X13_highest
  refine loop_FU (fun k (p : Nat) => f_X13_highest_L3 k (I a) (I p) h) (fun k => 30 - k) (30 - l) _ (by omega) (fun k j hj => ?_) (fun k => ?_)
  · have := h2 (30 - j) (by omega) (by omega)
    have e : 30 - j - 1 = 30 - (j + 1) := by omega
    simp (disch := first | omega | assumption) only [f_X13_highest_L3, tw_has, Option.bind_some, lit_I, bit_0, this]
    rw [if_pos (by simp), ← e, ← I_dec (by omega)]
    rfl
  · have e : 30 - (30 - l) = l := by omega
    simp (disch := first | omega | assumption) only [f_X13_highest_L3, tw_has, Option.bind_some, lit_I, bit_0, h1, e]
    simp
end TW10
