/-! PLAIN LAW: the reference's sums of a line -/
set_option maxRecDepth 100000
def bz : Option Nat → Int32
  | some j => I j
  | none => -1
theorem bz_eq {c : Nat} (hc : c < 1000000) {b : Option Nat} (hb : ∀ j, b = some j → j < 1000000) : (I c = bz b) ↔ b = some c := by
  cases b with
  | none => simp only [bz, reduceCtorEq, iff_false]; exact I_neg_ne (b := 1) (by omega) (by decide) (by decide)
  | some j =>
    have := hb j rfl
    simp only [bz, I_eq (show c < 2147483648 by omega) (show j < 2147483648 by omega), Option.some.injEq]
    exact eq_comm
/-- the sums of a line's cells but one, those before the k-th place -/
def lsums (s w : Nat → Nat) (i : Nat) (b : Option Nat) : Nat → Nat
  | 0 => 1
  | k + 1 => if b = some (lc s i k) then lsums s w i b k else addS (w (lc s i k)) (lsums s w i b k)
section TW13
variable {m : Nat} {v : Nat → Int32} {A : Nat → Nat → Nat} {h : PH}
theorem tw_sumsOf {i : Nat} {b : Option Nat} (hi : i < A 1 0 + A 1 1) (hb : ∀ j, b = some j → j < 1000000) (hW : SB (A 5)) (hP : PG' (A 1)) : f_X13_sumsOf (some m) (I i) (bz b) (TW m v A h) = some (I (lsums (A 1) (A 5) i b (ln (A 1) i)), TW m v A h) := by
  have hn := nc_le hP
  have hl := ln_le hP i
  have hP' := hP
  obtain ⟨a1, a2, a3, a4⟩ := hP
  unfold f_X13_sumsOf
  refine loop_FU (fun k (p : Nat × Nat) => f_X13_sumsOf_L5 k (some m) (I i) (bz b) (I p.1) (I p.2) (TW m v A h)) (fun k => (lsums (A 1) (A 5) i b k, k)) (ln (A 1) i) _ (by omega) (fun k j hj => ?_) (fun k => ?_)
  · have h1 := lc_lt hP' hi hj
    have e := bz_eq (c := lc (A 1) i j) (b := b) (by omega) hb
    by_cases h2 : b = some (lc (A 1) i j)
    · have h3 : I (lc (A 1) i j) = bz b := e.mpr h2
      obtain ⟨f0, hF⟩ : ∃ f, FU = f + 1 := ⟨999999, FU_eq⟩
      simp (disch := first | omega | assumption) only [f_X13_sumsOf_L5, tw_rcv, tw_cellsOf, tw_cellOf, Option.bind_some, I_le, if_neg, lit_I, lsums, if_pos]
      rw [hF]
      simp (disch := first | omega | assumption) only [f_X13_sumsOf_L30, f_X13_sumsOf_B77, lit_I, I_lt, if_neg, if_pos, I_add]
    · have h3 : ¬ I (lc (A 1) i j) = bz b := fun z => h2 (e.mp z)
      simp (disch := first | omega | assumption) only [f_X13_sumsOf_L5, tw_rcv, tw_cellsOf, tw_cellOf, Option.bind_some, I_le, if_neg, lit_I, lsums, tw_sumsL30, I_add]
  · simp (disch := first | omega | assumption) only [f_X13_sumsOf_L5, tw_rcv, tw_cellsOf, Option.bind_some, I_le, if_pos]
end TW13
