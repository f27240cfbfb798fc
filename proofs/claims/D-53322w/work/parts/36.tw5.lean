/-! PLAIN LAW: the reference's boards -/
set_option maxRecDepth 100000
section TW5
variable {m : Nat} {v : Nat → Int32} {A : Nat → Nat → Nat} {h : PH}
/-- a block's cells emptied, those below n -/
def sEmpB (s : Nat → Nat) (b : Nat) : Nat → (Nat → Nat)
  | 0 => s
  | n + 1 => if s (8 + n) = b then sEmp (sEmpB s b n) n else sEmpB s b n
theorem sEmp_low {s : Nat → Nat} {c k : Nat} (hk : k < 33) : sEmp s c k = s k := by
  simp (disch := omega) only [sEmp, nup_ne]
theorem sEmpB_low {s : Nat → Nat} {b k : Nat} (hk : k < 33) : ∀ n, sEmpB s b n k = s k := by
  intro n
  induction n with
  | zero => rfl
  | succ n ih =>
    simp only [sEmpB]
    split
    · rw [sEmp_low hk]; exact ih
    · exact ih
theorem PG_of {s t : Nat → Nat} (h0 : t 0 = s 0) (h1 : t 1 = s 1) (h : PG' s) : PG' t := by unfold PG' at *; rw [h0, h1]; exact h
theorem nc_of {s t : Nat → Nat} (h0 : t 0 = s 0) (h1 : t 1 = s 1) : nc t = nc s := by unfold nc; rw [h0, h1]
theorem tw_emptyBlock {b : Nat} (hb : b < 1000000) (hA : SB (A 1)) (hP : PG' (A 1)) : f_X13_emptyBlock (some m) (I b) (TW m v A h) = some (TW m v (aset A 1 (sEmpB (A 1) b (nc (A 1)))) h) := by
  have hn := nc_le hP
  unfold f_X13_emptyBlock
  have e0 : aset A 1 (sEmpB (A 1) b 0) = A := aset_self
  have := loop_FU (fun k (p : Nat × (Nat → Nat)) => f_X13_emptyBlock_L2 k (some m) (I b) (I p.1) (TW m v (aset A 1 p.2) h)) (fun i => (i, sEmpB (A 1) b i)) (nc (A 1)) (some (TW m v (aset A 1 (sEmpB (A 1) b (nc (A 1)))) h)) (by omega) (fun k i hi => ?_) (fun k => ?_)
  · simp only [e0] at this
    exact this
  · have h0 := sEmpB_low (s := A 1) (b := b) (k := 0) (by decide) i
    have h1 := sEmpB_low (s := A 1) (b := b) (k := 1) (by decide) i
    have h2 := sEmpB_low (s := A 1) (b := b) (k := 8 + i) (by omega) i
    have h3 := hA (8 + i)
    have hP1 : PG' (aset A 1 (sEmpB (A 1) b i) 1) := by rw [aset_eq]; exact PG_of h0 h1 hP
    have hn1 : nc (sEmpB (A 1) b i) = nc (A 1) := nc_of h0 h1
    by_cases h4 : A 1 (8 + i) = b
    · have hc : i < nc (aset A 1 (sEmpB (A 1) b i) 1) := by rw [aset_eq, hn1]; exact hi
      simp (disch := first | omega | assumption) only [f_X13_emptyBlock_L2, tw_rcv, tw_cells, hn1, tw_blockOf, aset_eq, h2, h4, tw_empty, aset_aset, Option.bind_some, I_le, if_neg, if_pos, if_true, lit_I, I_add, sEmpB]
    · simp (disch := first | omega | assumption) only [f_X13_emptyBlock_L2, tw_rcv, tw_cells, hn1, tw_blockOf, aset_eq, h2, I_eq, aset_aset, Option.bind_some, I_le, if_neg, if_pos, if_true, lit_I, I_add, sEmpB]
  · have h0 := sEmpB_low (s := A 1) (b := b) (k := 0) (by decide) (nc (A 1))
    have h1 := sEmpB_low (s := A 1) (b := b) (k := 1) (by decide) (nc (A 1))
    have hn1 : nc (sEmpB (A 1) b (nc (A 1))) = nc (A 1) := nc_of h0 h1
    simp (disch := first | omega | assumption) only [f_X13_emptyBlock_L2, tw_rcv, tw_cells, aset_eq, hn1, Option.bind_some, I_le, if_pos]
end TW5
