/-! PLAIN LAW: the reference's methods: what is written -/
set_option maxRecDepth 100000
def nup (g : Nat → Nat) (j x : Nat) : Nat → Nat := fun k => if k = j then x else g k
def aset (A : Nat → Nat → Nat) (o : Nat) (g : Nat → Nat) : Nat → Nat → Nat := fun o' => if o' = o then g else A o'
theorem aset_eq {A : Nat → Nat → Nat} {o : Nat} {g : Nat → Nat} : aset A o g o = g := by simp [aset]
theorem aset_ne {A : Nat → Nat → Nat} {o o' : Nat} {g : Nat → Nat} (h : ¬ o' = o) : aset A o g o' = A o' := by simp [aset, h]
theorem aset_self {A : Nat → Nat → Nat} {o : Nat} : aset A o (A o) = A := by
  funext o'
  by_cases e : o' = o
  · subst e; simp [aset]
  · simp [aset, e]
theorem aset_aset {A : Nat → Nat → Nat} {o : Nat} {g g' : Nat → Nat} : aset (aset A o g) o g' = aset A o g' := by
  funext o'
  by_cases e : o' = o <;> simp [aset, e]
theorem aup_eq (A : Nat → Nat → Nat) (o j x : Nat) : aup A o j x = aset A o (nup (A o) j x) := by
  funext o' j'
  by_cases e : o' = o
  · subst e
    by_cases e2 : j' = j <;> simp [aup, aset, nup, e2]
  · simp [aup, aset, e]
theorem AB_set {A : Nat → Nat → Nat} (hA : AB A) {o : Nat} {g : Nat → Nat} (hg : ∀ j, g j < 1000000) : AB (aset A o g) := by
  intro o' j
  by_cases e : o' = o
  · subst e; rw [aset_eq]; exact hg j
  · rw [aset_ne e]; exact hA o' j
theorem nup_lt {g : Nat → Nat} {j x B : Nat} (hg : ∀ k, g k < B) (hx : x < B) : ∀ k, nup g j x k < B := by
  intro k
  unfold nup
  split
  · exact hx
  · exact hg k
section TW3
variable {m : Nat} {v : Nat → Int32} {A : Nat → Nat → Nat} {h : PH}
theorem tw_w {o j x : Nat} (ho : 1 ≤ o ∧ o ≤ 11) (hj : j < tlen o) : asi 0 (some (m + o)) (I j) (I x) (TW m v A h) = some (TW m v (aset A o (nup (A o) j x)) h) := by
  rw [tw_asi ho hj, aup_eq]
theorem tw_ws {j x : Nat} (hj : j < 356) : asi 0 (some (m + 1)) (I j) (I x) (TW m v A h) = some (TW m v (aset A 1 (nup (A 1) j x)) h) := tw_w (o := 1) (by decide) hj
theorem tw_ww {j x : Nat} (hj : j < 25) : asi 0 (some (m + 5)) (I j) (I x) (TW m v A h) = some (TW m v (aset A 5 (nup (A 5) j x)) h) := tw_w (o := 5) (by decide) hj
theorem tw_rw {j : Nat} (hj : j < 25) : ald 0 (some (m + 5)) (I j) (TW m v A h) = some (I (A 5 j)) := tw_ald (o := 5) (by decide) hj
/-- no line shown -/
def sHide (s : Nat → Nat) (n : Nat) : Nat → Nat := fun k => if 83 ≤ k ∧ k < 83 + n then 0 else s k
theorem tw_hideAll : f_X13_hideAll (some m) (TW m v A h) = some (TW m v (aset A 1 (sHide (A 1) 10)) h) := by
  unfold f_X13_hideAll
  have e0 : sHide (A 1) 0 = A 1 := by funext k; simp only [sHide]; rw [if_neg (by omega)]
  have := loop_FU (fun k (p : Nat × (Nat → Nat)) => f_X13_hideAll_L2 k (some m) (I p.1) (TW m v (aset A 1 p.2) h)) (fun i => (i, sHide (A 1) i)) 10 (some (TW m v (aset A 1 (sHide (A 1) 10)) h)) (by omega) (fun k i hi => ?_) (fun k => ?_)
  · simp only [e0, aset_self] at this
    exact this
  · simp (disch := first | omega | assumption) only [f_X13_hideAll_L2, tw_r1, Option.bind_some, I_le, if_neg, lit_I, I_add, tw_ws, aset_eq, aset_aset]
    refine congrArg (fun g => f_X13_hideAll_L2 k (some m) (I (i + 1)) (TW m v (aset A 1 g) h)) (funext fun j => ?_)
    simp only [nup, sHide]
    grind
  · simp (disch := first | omega | assumption) only [f_X13_hideAll_L2, I_le, if_pos, lit_I]
/-- a page laid: cells below n -/
def sLay (s : Nat → Nat) (R C n : Nat) : Nat → Nat := fun k => if k = 0 then R else if k = 1 then C else if 8 ≤ k ∧ k < 8 + n then (if k - 8 < R * C then (k - 8) / C else 0) else if 33 ≤ k ∧ k < 33 + n then 0 else if 58 ≤ k ∧ k < 58 + n then 0 else s k
theorem tw_lay {R C : Nat} (hR : R ≤ 5) (hC : 1 ≤ C ∧ C ≤ 5) : f_X13_lay (some m) (I R) (I C) (TW m v A h) = some (TW m v (aset A 1 (sHide (sLay (A 1) R C 25) 10)) h) := by
  have hRC : R * C ≤ 25 := Nat.mul_le_mul hR hC.2
  unfold f_X13_lay
  simp (disch := first | omega | assumption) only [tw_r1, Option.bind_some, lit_I, tw_ws, aset_eq, aset_aset]
  have e0 : sLay (A 1) R C 0 = nup (nup (A 1) 0 R) 1 C := by
    funext k
    simp only [sLay, nup]
    grind
  rw [← e0]
  refine loop_FU (fun k (p : Nat × (Nat → Nat)) => f_X13_lay_L16 k (some m) (I R) (I C) (I p.1) (TW m v (aset A 1 p.2) h)) (fun i => (i, sLay (A 1) R C i)) 25 (some (TW m v (aset A 1 (sHide (sLay (A 1) R C 25) 10)) h)) (by omega) (fun k i hi => ?_) (fun k => ?_)
  · by_cases h1 : R * C ≤ i
    · simp (disch := first | omega | assumption) only [f_X13_lay_L16, f_X13_lay_B44, tw_r1, Option.bind_some, I_le, I_mul, if_neg, if_pos, lit_I, I_add, tw_ws, aset_eq, aset_aset]
      refine congrArg (fun g => f_X13_lay_L16 k (some m) (I R) (I C) (I (i + 1)) (TW m v (aset A 1 g) h)) (funext fun j => ?_)
      simp only [nup, sLay]
      repeat' split
      all_goals first | rfl | omega | (congr 1; omega)
    · simp (disch := first | omega | assumption) only [f_X13_lay_L16, f_X13_lay_B44, tw_r1, Option.bind_some, I_le, I_mul, if_neg, if_pos, lit_I, I_add, tw_ws, aset_eq, aset_aset, nz_I, I_div]
      refine congrArg (fun g => f_X13_lay_L16 k (some m) (I R) (I C) (I (i + 1)) (TW m v (aset A 1 g) h)) (funext fun j => ?_)
      simp only [nup, sLay]
      repeat' split
      all_goals first | rfl | omega | (congr 1; omega)
  · simp (disch := first | omega | assumption) only [f_X13_lay_L16, tw_rcv, Option.bind_some, I_le, if_pos, lit_I]
    rw [tw_hideAll]
    simp only [Option.bind_some, aset_eq, aset_aset]
end TW3
