/-! PLAIN LAW: the reference's boards: the player's, the reset -/
set_option maxRecDepth 100000
section TW7
variable {m : Nat} {v : Nat → Int32} {A : Nat → Nat → Nat} {h : PH}
theorem tw_layPlayers (hP : PG' (A 1)) : f_X13_layPlayers (some m) (TW m v A h) = some (TW m v (aset A 5 (wTo (fun c => A 1 (93 + c)) (A 5) (nc (A 1)))) h) := by
  have hn := nc_le hP
  have hAi : ∀ g, (aset A 5 g) 1 = A 1 := fun g => aset_ne (by decide)
  unfold f_X13_layPlayers
  have := loop_FU (fun k (p : Nat × (Nat → Nat)) => f_X13_layPlayers_L2 k (some m) (I p.1) (TW m v (aset A 5 p.2) h)) (fun i => (i, wTo (fun c => A 1 (93 + c)) (A 5) i)) (nc (A 1)) (some (TW m v (aset A 5 (wTo (fun c => A 1 (93 + c)) (A 5) (nc (A 1)))) h)) (by omega) (fun k i hi => ?_) (fun k => ?_)
  · simp only [wTo_0, aset_self] at this
    exact this
  · have e1 : nup (wTo (fun c => A 1 (93 + c)) (A 5) i) i (A 1 (93 + i)) = wTo (fun c => A 1 (93 + c)) (A 5) (i + 1) := wTo_up (f := fun c => A 1 (93 + c))
    simp (disch := first | omega | assumption) only [f_X13_layPlayers_L2, tw_rcv, tw_r1, tw_r7, tw_cells, hAi, tw_s, Option.bind_some, I_le, if_neg, lit_I, I_add, tw_ww, aset_eq, aset_aset, e1]
  · simp (disch := first | omega | assumption) only [f_X13_layPlayers_L2, tw_rcv, tw_cells, hAi, Option.bind_some, I_le, if_pos]
/-- the player's board from the cells' sets w -/
def sBrd (s w : Nat → Nat) (n : Nat) : Nat → Nat := fun k => if 93 ≤ k ∧ k < 93 + n then (if k - 93 < nc s then w (k - 93) else 0) else s k
theorem sBrd_low {s w : Nat → Nat} {n k : Nat} (hk : k < 93) : sBrd s w n k = s k := by simp only [sBrd]; rw [if_neg (by omega)]
theorem tw_reset_L6 (hP : PG' (A 1)) : f_X13_reset_L6 FU (some m) (I 0) (TW m v A h) = some (TW m v (aset A 1 (sBrd (A 1) (A 5) 25)) h) := by
  have hn := nc_le hP
  have e0 : sBrd (A 1) (A 5) 0 = A 1 := by funext k; simp only [sBrd]; rw [if_neg (by omega)]
  have hA5 : ∀ g, (aset A 1 g) 5 = A 5 := fun g => aset_ne (by decide)
  have := loop_FU (fun k (p : Nat × (Nat → Nat)) => f_X13_reset_L6 k (some m) (I p.1) (TW m v (aset A 1 p.2) h)) (fun i => (i, sBrd (A 1) (A 5) i)) 25 (some (TW m v (aset A 1 (sBrd (A 1) (A 5) 25)) h)) (by omega) (fun k i hi => ?_) (fun k => ?_)
  · simp only [e0, aset_self] at this
    exact this
  · have hc : nc (sBrd (A 1) (A 5) i) = nc (A 1) := nc_of (sBrd_low (by decide)) (sBrd_low (by decide))
    by_cases h1 : nc (A 1) ≤ i
    · simp (disch := first | omega | assumption) only [f_X13_reset_L6, f_X13_reset_B38, tw_rcv, tw_r1, tw_r7, tw_cells, aset_eq, hc, Option.bind_some, I_le, if_neg, if_pos, lit_I, I_add, tw_ws, aset_aset]
      refine congrArg (fun g => f_X13_reset_L6 k (some m) (I (i + 1)) (TW m v (aset A 1 g) h)) (funext fun j => ?_)
      simp only [nup, sBrd]
      repeat' split
      all_goals first | rfl | omega
    · simp (disch := first | omega | assumption) only [f_X13_reset_L6, f_X13_reset_B38, tw_rcv, tw_r1, tw_r7, tw_rw, tw_cells, aset_eq, hc, hA5, Option.bind_some, I_le, if_neg, if_pos, lit_I, I_add, tw_ws, aset_aset]
      refine congrArg (fun g => f_X13_reset_L6 k (some m) (I (i + 1)) (TW m v (aset A 1 g) h)) (funext fun j => ?_)
      simp only [nup, sBrd]
      repeat' split
      all_goals first | rfl | omega | (congr 1; omega)
  · simp (disch := first | omega | assumption) only [f_X13_reset_L6, I_le, if_pos, lit_I]
/-- the reset: the board becomes the first board -/
def sReset (s : Nat → Nat) : Nat → Nat := sBrd s (fb s) 25
theorem tw_reset (hA : SB (A 1)) (hP : PG' (A 1)) (hN : NB (A 1)) : f_X13_reset (some m) (TW m v A h) = some (TW m v (aset (aset A 5 (wTo (fb (A 1)) (A 5) (nc (A 1)))) 1 (sReset (A 1))) h) := by
  have hAi : ∀ g, (aset A 5 g) 1 = A 1 := fun g => aset_ne (by decide)
  simp only [f_X13_reset, tw_rcv, tw_layFirst hA hP hN, Option.bind_some, lit_I]
  rw [tw_reset_L6 (by rw [hAi]; exact hP), hAi, aset_eq]
  congr 3
  funext k
  simp only [sReset, sBrd, wTo]
  repeat' split
  all_goals first | rfl | omega
end TW7
