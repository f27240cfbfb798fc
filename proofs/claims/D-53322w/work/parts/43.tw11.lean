/-! PLAIN LAW: the reference's causes: the sole number -/
set_option maxRecDepth 100000
section TW11
variable {m : Nat} {v : Nat → Int32} {A : Nat → Nat → Nat} {h : PH}
/-- a cause as the program gives it: a cell or line, or -99 -/
def cz : Option Nat → Int32
  | some j => I j
  | none => -99
def soleP (s w : Nat → Nat) (c n d : Nat) : Bool := !(d == c) && (s (8 + d) == s (8 + c) && w d == 1 <<< n)
def sole (s w : Nat → Nat) (c n : Nat) : Option Nat := firstI (soleP s w c n) (nc s)
theorem tw_sole {c n : Nat} (hc : c < 25) (hn' : n ≤ 6) (hA : SB (A 1)) (hW : SB (A 5)) (hP : PG' (A 1)) : f_X13_soleCause (some m) (I c) (I n) (TW m v A h) = some (cz (sole (A 1) (A 5) c n), TW m v A h) := by
  have hn := nc_le hP
  have h3 := hA (8 + c)
  have hs : 1 <<< n < 1000000 := by rw [Nat.shiftLeft_eq, Nat.one_mul]; exact Nat.lt_of_le_of_lt (Nat.pow_le_pow_right (by decide) hn') (by decide)
  unfold f_X13_soleCause
  refine (loop_first (fun k (p : Nat) => f_X13_soleCause_L2 k (some m) (I c) (I n) (I p) (TW m v A h)) (fun i => i) (nc (A 1)) (soleP (A 1) (A 5) c n) (fun j => some (I j, TW m v A h)) (some (-99, TW m v A h)) (by omega) (fun k j hj hp => ?_) (fun k j hj hp => ?_) (fun k => ?_)).trans ?_
  · have h1 := hA (8 + j)
    have h2 := hW j
    by_cases h4 : j = c
    · subst h4
      simp (disch := first | omega | assumption) only [f_X13_soleCause_L2, tw_rcv, tw_cells, Option.bind_some, I_le, I_eq, if_neg, if_true, lit_I, I_add]
    · by_cases h5 : A 1 (8 + j) = A 1 (8 + c)
      · have h6 : ¬ A 5 j = 1 <<< n := by simpa [soleP, h4, h5] using hp
        simp (disch := first | omega | assumption) only [f_X13_soleCause_L2, tw_rcv, tw_r7, tw_rw, tw_cells, tw_blockOf, Option.bind_some, I_le, I_eq, I_shlI, if_neg, if_pos, if_true, if_false, lit_I, I_add, h5, h6]
      · simp (disch := first | omega | assumption) only [f_X13_soleCause_L2, tw_rcv, tw_r7, tw_rw, tw_cells, tw_blockOf, Option.bind_some, I_le, I_eq, if_neg, lit_I, I_add]
  · have h1 := hA (8 + j)
    have h2 := hW j
    obtain ⟨h4, h5, h6⟩ : ¬ j = c ∧ A 1 (8 + j) = A 1 (8 + c) ∧ A 5 j = 1 <<< n := by simpa [soleP] using hp
    simp (disch := first | omega | assumption) only [f_X13_soleCause_L2, tw_rcv, tw_r7, tw_rw, tw_cells, tw_blockOf, Option.bind_some, I_le, I_eq, I_shlI, if_neg, if_pos, if_true, lit_I, h5, h6]
  · simp (disch := first | omega | assumption) only [f_X13_soleCause_L2, tw_rcv, tw_cells, Option.bind_some, I_le, if_pos]
  · unfold sole
    cases firstI (soleP (A 1) (A 5) c n) (nc (A 1)) <;> rfl
end TW11
