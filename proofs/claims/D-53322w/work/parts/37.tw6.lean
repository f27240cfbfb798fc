/-! PLAIN LAW: the reference's boards: laid -/
set_option maxRecDepth 100000
/-- the first board of a page -/
def fb (s : Nat → Nat) (c : Nat) : Nat := if s (58 + c) = 1 then 1 <<< s (33 + c) else (1 <<< (bsz s (s (8 + c)) + 1)) - 2
/-- numbers fit their blocks, blocks are small -/
def NB (s : Nat → Nat) : Prop := ∀ c, c < nc s → s (33 + c) ≤ 6 ∧ 1 ≤ bsz s (s (8 + c)) ∧ bsz s (s (8 + c)) ≤ 6
def wTo (f g : Nat → Nat) (n : Nat) : Nat → Nat := fun c => if c < n then f c else g c
theorem wTo_up {f g : Nat → Nat} {n : Nat} : nup (wTo f g n) n (f n) = wTo f g (n + 1) := by
  funext j
  simp only [nup, wTo]
  by_cases h1 : j = n
  · subst h1
    rw [if_pos rfl, if_pos (by omega)]
  · rw [if_neg h1]
    by_cases h2 : j < n
    · rw [if_pos h2, if_pos (by omega)]
    · rw [if_neg h2, if_neg (by omega)]
theorem wTo_0 {f g : Nat → Nat} : wTo f g 0 = g := by funext j; simp [wTo]
theorem shl_ge (n : Nat) : 2 ≤ 1 <<< (n + 1) := by
  rw [Nat.shiftLeft_eq, Nat.pow_succ]
  have := Nat.one_le_two_pow (n := n)
  omega
section TW6
variable {m : Nat} {v : Nat → Int32} {A : Nat → Nat → Nat} {h : PH}
theorem tw_layFirst (hA : SB (A 1)) (hP : PG' (A 1)) (hN : NB (A 1)) : f_X13_layFirst (some m) (TW m v A h) = some (TW m v (aset A 5 (wTo (fb (A 1)) (A 5) (nc (A 1)))) h) := by
  have hn := nc_le hP
  unfold f_X13_layFirst
  have := loop_FU (fun k (p : Nat × (Nat → Nat)) => f_X13_layFirst_L2 k (some m) (I p.1) (TW m v (aset A 5 p.2) h)) (fun i => (i, wTo (fb (A 1)) (A 5) i)) (nc (A 1)) (some (TW m v (aset A 5 (wTo (fb (A 1)) (A 5) (nc (A 1)))) h)) (by omega) (fun k i hi => ?_) (fun k => ?_)
  · simp only [wTo_0, aset_self] at this
    exact this
  · have hAi : ∀ g, (aset A 5 g) 1 = A 1 := fun g => aset_ne (by decide)
    obtain ⟨b1, b2, b3⟩ := hN i hi
    have h3 := hA (58 + i)
    have h5 := hA (8 + i)
    have hs := shl_ge (bsz (A 1) (A 1 (8 + i)))
    by_cases h4 : A 1 (58 + i) = 1
    · have e1 : fb (A 1) i = 1 <<< A 1 (33 + i) := by rw [fb, if_pos h4]
      simp (disch := first | omega | assumption) only [f_X13_layFirst_L2, f_X13_layFirst_B49, tw_rcv, tw_r1, tw_r7, tw_cells, hAi, tw_s, tw_numberOf, h4, Option.bind_some, I_le, if_neg, if_true, lit_I, I_add, I_shlI, tw_ww, aset_eq, aset_aset]
      rw [← e1, wTo_up]
    · have e1 : fb (A 1) i = (1 <<< (bsz (A 1) (A 1 (8 + i)) + 1)) - 2 := by rw [fb, if_neg h4]
      have hm : ∀ g, f_X13_mostIn (some m) (I i) (TW m v (aset A 5 g) h) = some (I (bsz (A 1) (A 1 (8 + i))), TW m v (aset A 5 g) h) := fun g => by
        have e2 : A 1 = (aset A 5 g) 1 := (hAi g).symm
        rw [e2]
        exact tw_mostIn (by omega) (by rw [hAi]; exact hA) (by rw [hAi]; exact hP)
      simp (disch := first | omega | assumption) only [f_X13_layFirst_L2, f_X13_layFirst_B49, tw_rcv, tw_r1, tw_r7, tw_cells, hAi, tw_s, hm, I_eq, Option.bind_some, I_le, if_neg, lit_I, I_add, I_shlI, I_sub, tw_ww, aset_eq, aset_aset]
      rw [← e1, wTo_up]
  · have hAi : ∀ g, (aset A 5 g) 1 = A 1 := fun g => aset_ne (by decide)
    simp (disch := first | omega | assumption) only [f_X13_layFirst_L2, tw_rcv, tw_cells, hAi, Option.bind_some, I_le, if_pos]
end TW6
