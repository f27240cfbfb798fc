/-! PLAIN LAW: the class: looks: count -/
set_option maxRecDepth 100000
section OP9n
variable {m x : Nat} {h : PH} {g : GS}
theorem c_snapshots (C : CI m h x g) (hI : RInv g.1) : f_X0_snapshots (some x) h = some (I (g.1 118 + g.1 237), h) := by
  obtain ⟨st, d, da, u, ua, v, ra, ru, la, CM0, sh, sl, fs, t1, t2, t3, t4, t5, t6⟩ := C
  have r0 : gfr 0 0 (some x) h = some (some st) := gfr_at (x := some st) CM0.1 rfl
  have r1 : gfr 1 1 (some st) h = some (some sl) := gfr_at (x := some sl) t1 rfl
  have r2 : aln 4 (some sl) h = some (I 2) := aln_at t2
  have r3 : ∀ q, q < 2 → alr 4 (some sl) (I q) h = some (fs q) := fun q hq => alr_at t2 hq (by decide)
  have key : ∀ q, q < 2 → (fs q = none ∧ g.1 (118 + 119 * q) = 0) ∨ ((∃ a, fs q = some a) ∧ g.1 (118 + 119 * q) = 1) := fun q hq => by
    have h1 := (hI.2 q hq).1
    by_cases e : g.1 (118 + 119 * q) = 0
    · exact Or.inl ⟨(t4 q hq).1 e, e⟩
    · obtain ⟨a, ha, -⟩ := (t4 q hq).2 e
      exact Or.inr ⟨⟨a, ha⟩, by omega⟩
  unfold f_X0_snapshots
  simp only [r0, r1, r2, Option.bind_some]
  refine loop_FU (fun k (p : Nat × Nat) => f_X0_snapshots_L16 k (I p.1) (some sl) (I 2) (I p.2) h) (fun k => (sumTo (fun q => g.1 (118 + 119 * q)) k, k)) 2 _ (by decide) (fun k j hj => ?_) (fun k => ?_)
  · show f_X0_snapshots_L16 (k + 1) (I _) _ _ (I _) h = f_X0_snapshots_L16 k (I (_ + g.1 (118 + 119 * j))) _ _ (I (j + 1)) h
    rcases key j hj with ⟨e1, e2⟩ | ⟨⟨a, e1⟩, e2⟩
    · rw [e2]
      simp (disch := first | omega | assumption) only [f_X0_snapshots_L16, r3 j hj, e1, Option.bind_some, lit_I, I_le, if_neg, if_true, I_add]
    · rw [e2]
      simp (disch := first | omega | assumption) only [f_X0_snapshots_L16, r3 j hj, e1, Option.bind_some, lit_I, I_le, if_neg, reduceCtorEq, if_false, I_add]
  · show f_X0_snapshots_L16 (k + 1) (I _) _ _ (I _) h = _
    have e : sumTo (fun q => g.1 (118 + 119 * q)) 2 = g.1 118 + g.1 237 := by simp [sumTo]
    rw [← e]
    simp (disch := first | omega | assumption) only [f_X0_snapshots_L16, Option.bind_some, lit_I, I_le, if_pos]
theorem c_dsize (C : CI m h x g) : ∃ d, gfr 0 1 (some x) h = some (some d) ∧ rcv 26 (some d) h = some () ∧ f_J15_size (some d) h = some (I g.2.1.length, h) := by
  obtain ⟨st, d, da, u, ua, v, ra, ru, la, ⟨c1, ⟨hd, fe, b1, b2, b3, b4, b5⟩, c3, -⟩, S⟩ := C
  refine ⟨d, gfr_at (x := some d) c1 rfl, rcv_at b3, ?_⟩
  have r3 : gfr 26 0 (some d) h = some (some da) := gfr_at (x := some da) b3 rfl
  have r4 : gfi 26 1 (some d) h = some (I hd) := gfi_at b3 rfl
  have r5 : gfi 26 2 (some d) h = some (I ((hd + la.length) % 17)) := gfi_at b3 rfl
  have r6 : aln 6 (some da) h = some (I 17) := aln_at b4
  unfold f_J15_size
  rw [r5, Option.bind_some, r4, Option.bind_some, r3, Option.bind_some, r6, Option.bind_some, dq_sub b1 (show la.length < 17 by omega), Option.bind_some, c3.1]
theorem c_count {y : Int32} (C : CI m h x g) (hI : RInv g.1) (hS : SB g.1) : Res m x h (r_count g y, g) (f_X0_count (some x) y h) := by
  have hQ := hI.1.1
  have hN := hI.1.2.1
  have hP := hQ.1
  have hnc := nc_le hP
  obtain ⟨sh, p, b, co, mm, ms, r0, hpage, hbd, hsh, HB, B, r8, r9, r10, r11⟩ := C.lk hP
  have H := HB.1
  have hbl := cp_blocks H
  rw [← nblk_rk hP hN] at hbl
  have hun := cp_untold H hP hS
  have hg := cp_clues (kind := 0) H hQ (by decide)
  rw [if_pos rfl, show I 0 = I 4 - 4 from rfl] at hg
  have hsw := cp_clues (kind := 1) H hQ (by decide)
  rw [if_neg (by decide), show I 1 = I 5 - 4 from rfl] at hsw
  have hce1 := cb_cellsWith (n := 1) H B hP hI.1.W7 (by decide)
  rw [show I 1 = 1 from rfl] at hce1
  have hru := cl_bitCount (a := g.1 2) (h := h) (by have := hQ.2.1.1; omega)
  have hpo := cb_sumP H B hP hI.1.W7
  have hce := cb_cellsWith (n := 1) H B hP hI.1.W7 (by decide)
  have hsn := c_snapshots C hI
  obtain ⟨d, rd, rdc, hds⟩ := c_dsize C
  obtain ⟨u, ua, cap, fb, z, ru, BB, -⟩ := CI.bld C
  have rub : rcv 27 (some u) h = some () := rcv_at BB.2.2.2.1
  have hul := bu_len BB
  refine Res.see C ?_
  unfold r_count
  by_cases z0 : y = I 0
  · subst z0
    unfold f_X0_count
    rw [if_pos (show I 0 = (0 : Int32) from rfl)]
    rw [if_pos (rfl : I 0 = I 0)]
    simp (disch := first | omega | assumption) only [r0, hpage, H.r0, Option.bind_some]
  by_cases z1 : y = I 1
  · subst z1
    unfold f_X0_count
    rw [if_neg (show ¬ I 1 = (0 : Int32) by decide), if_pos (show I 1 = (1 : Int32) from rfl)]
    rw [if_neg (show ¬ I 1 = I 0 by decide), if_pos (rfl : I 1 = I 1)]
    simp (disch := first | omega | assumption) only [r0, hpage, H.r1, Option.bind_some]
  by_cases z2 : y = I 2
  · subst z2
    unfold f_X0_count
    rw [if_neg (show ¬ I 2 = (0 : Int32) by decide), if_neg (show ¬ I 2 = (1 : Int32) by decide), if_pos (show I 2 = (2 : Int32) from rfl)]
    rw [if_neg (show ¬ I 2 = I 0 by decide), if_neg (show ¬ I 2 = I 1 by decide), if_pos (rfl : I 2 = I 2)]
    simp (disch := first | omega | assumption) only [r0, hpage, H.rc, hbl, Option.bind_some]
  by_cases z3 : y = I 3
  · subst z3
    unfold f_X0_count
    rw [if_neg (show ¬ I 3 = (0 : Int32) by decide), if_neg (show ¬ I 3 = (1 : Int32) by decide), if_neg (show ¬ I 3 = (2 : Int32) by decide), if_pos (show I 3 = (3 : Int32) from rfl)]
    rw [if_neg (show ¬ I 3 = I 0 by decide), if_neg (show ¬ I 3 = I 1 by decide), if_neg (show ¬ I 3 = I 2 by decide), if_pos (rfl : I 3 = I 3)]
    simp (disch := first | omega | assumption) only [r0, hpage, H.rc, hun, Option.bind_some]
  by_cases z4 : y = I 4
  · subst z4
    unfold f_X0_count
    rw [if_neg (show ¬ I 4 = (0 : Int32) by decide), if_neg (show ¬ I 4 = (1 : Int32) by decide), if_neg (show ¬ I 4 = (2 : Int32) by decide), if_neg (show ¬ I 4 = (3 : Int32) by decide), if_pos (show I 4 = (4 : Int32) from rfl)]
    rw [if_neg (show ¬ I 4 = I 0 by decide), if_neg (show ¬ I 4 = I 1 by decide), if_neg (show ¬ I 4 = I 2 by decide), if_neg (show ¬ I 4 = I 3 by decide), if_pos (rfl : I 4 = I 4)]
    simp (disch := first | omega | assumption) only [f_X0_count_B96, r0, hpage, H.rc, I_sub, Nat.sub_self, hg, Option.bind_some]
  by_cases z5 : y = I 5
  · subst z5
    unfold f_X0_count
    rw [if_neg (show ¬ I 5 = (0 : Int32) by decide), if_neg (show ¬ I 5 = (1 : Int32) by decide), if_neg (show ¬ I 5 = (2 : Int32) by decide), if_neg (show ¬ I 5 = (3 : Int32) by decide), if_neg (show ¬ I 5 = (4 : Int32) by decide), if_pos (show I 5 = (5 : Int32) from rfl)]
    rw [if_neg (show ¬ I 5 = I 0 by decide), if_neg (show ¬ I 5 = I 1 by decide), if_neg (show ¬ I 5 = I 2 by decide), if_neg (show ¬ I 5 = I 3 by decide), if_neg (show ¬ I 5 = I 4 by decide), if_pos (rfl : I 5 = I 5)]
    simp (disch := first | omega | assumption) only [f_X0_count_B96, r0, hpage, H.rc, I_sub, Nat.reduceSub, hsw, Option.bind_some]
    all_goals rfl
  by_cases z6 : y = I 6
  · subst z6
    unfold f_X0_count
    rw [if_neg (show ¬ I 6 = (0 : Int32) by decide), if_neg (show ¬ I 6 = (1 : Int32) by decide), if_neg (show ¬ I 6 = (2 : Int32) by decide), if_neg (show ¬ I 6 = (3 : Int32) by decide), if_neg (show ¬ I 6 = (4 : Int32) by decide), if_neg (show ¬ I 6 = (5 : Int32) by decide), if_pos (show I 6 = (6 : Int32) from rfl)]
    rw [if_neg (show ¬ I 6 = I 0 by decide), if_neg (show ¬ I 6 = I 1 by decide), if_neg (show ¬ I 6 = I 2 by decide), if_neg (show ¬ I 6 = I 3 by decide), if_neg (show ¬ I 6 = I 4 by decide), if_neg (show ¬ I 6 = I 5 by decide), if_pos (rfl : I 6 = I 6)]
    simp (disch := first | omega | assumption) only [r0, hsh, r8, hru, Option.bind_some]
  by_cases z7 : y = I 7
  · subst z7
    unfold f_X0_count
    rw [if_neg (show ¬ I 7 = (0 : Int32) by decide), if_neg (show ¬ I 7 = (1 : Int32) by decide), if_neg (show ¬ I 7 = (2 : Int32) by decide), if_neg (show ¬ I 7 = (3 : Int32) by decide), if_neg (show ¬ I 7 = (4 : Int32) by decide), if_neg (show ¬ I 7 = (5 : Int32) by decide), if_neg (show ¬ I 7 = (6 : Int32) by decide), if_pos (show I 7 = (7 : Int32) from rfl)]
    rw [if_neg (show ¬ I 7 = I 0 by decide), if_neg (show ¬ I 7 = I 1 by decide), if_neg (show ¬ I 7 = I 2 by decide), if_neg (show ¬ I 7 = I 3 by decide), if_neg (show ¬ I 7 = I 4 by decide), if_neg (show ¬ I 7 = I 5 by decide), if_neg (show ¬ I 7 = I 6 by decide), if_pos (rfl : I 7 = I 7)]
    simp (disch := first | omega | assumption) only [r0, hbd, B.rc, hpo, Option.bind_some]
  by_cases z8 : y = I 8
  · subst z8
    unfold f_X0_count
    rw [if_neg (show ¬ I 8 = (0 : Int32) by decide), if_neg (show ¬ I 8 = (1 : Int32) by decide), if_neg (show ¬ I 8 = (2 : Int32) by decide), if_neg (show ¬ I 8 = (3 : Int32) by decide), if_neg (show ¬ I 8 = (4 : Int32) by decide), if_neg (show ¬ I 8 = (5 : Int32) by decide), if_neg (show ¬ I 8 = (6 : Int32) by decide), if_neg (show ¬ I 8 = (7 : Int32) by decide), if_pos (show I 8 = (8 : Int32) from rfl)]
    rw [if_neg (show ¬ I 8 = I 0 by decide), if_neg (show ¬ I 8 = I 1 by decide), if_neg (show ¬ I 8 = I 2 by decide), if_neg (show ¬ I 8 = I 3 by decide), if_neg (show ¬ I 8 = I 4 by decide), if_neg (show ¬ I 8 = I 5 by decide), if_neg (show ¬ I 8 = I 6 by decide), if_neg (show ¬ I 8 = I 7 by decide), if_pos (rfl : I 8 = I 8)]
    simp (disch := first | omega | assumption) only [r0, hbd, B.rc, hce1, Option.bind_some]
    all_goals rfl
  by_cases z9 : y = I 9
  · subst z9
    unfold f_X0_count
    rw [if_neg (show ¬ I 9 = (0 : Int32) by decide), if_neg (show ¬ I 9 = (1 : Int32) by decide), if_neg (show ¬ I 9 = (2 : Int32) by decide), if_neg (show ¬ I 9 = (3 : Int32) by decide), if_neg (show ¬ I 9 = (4 : Int32) by decide), if_neg (show ¬ I 9 = (5 : Int32) by decide), if_neg (show ¬ I 9 = (6 : Int32) by decide), if_neg (show ¬ I 9 = (7 : Int32) by decide), if_neg (show ¬ I 9 = (8 : Int32) by decide), if_pos (show I 9 = (9 : Int32) from rfl)]
    rw [if_neg (show ¬ I 9 = I 0 by decide), if_neg (show ¬ I 9 = I 1 by decide), if_neg (show ¬ I 9 = I 2 by decide), if_neg (show ¬ I 9 = I 3 by decide), if_neg (show ¬ I 9 = I 4 by decide), if_neg (show ¬ I 9 = I 5 by decide), if_neg (show ¬ I 9 = I 6 by decide), if_neg (show ¬ I 9 = I 7 by decide), if_neg (show ¬ I 9 = I 8 by decide), if_pos (rfl : I 9 = I 9)]
    simp (disch := first | omega | assumption) only [r0, hsn, Option.bind_some]
  by_cases z10 : y = I 10
  · subst z10
    unfold f_X0_count
    rw [if_neg (show ¬ I 10 = (0 : Int32) by decide), if_neg (show ¬ I 10 = (1 : Int32) by decide), if_neg (show ¬ I 10 = (2 : Int32) by decide), if_neg (show ¬ I 10 = (3 : Int32) by decide), if_neg (show ¬ I 10 = (4 : Int32) by decide), if_neg (show ¬ I 10 = (5 : Int32) by decide), if_neg (show ¬ I 10 = (6 : Int32) by decide), if_neg (show ¬ I 10 = (7 : Int32) by decide), if_neg (show ¬ I 10 = (8 : Int32) by decide), if_neg (show ¬ I 10 = (9 : Int32) by decide), if_pos (show I 10 = (10 : Int32) from rfl)]
    rw [if_neg (show ¬ I 10 = I 0 by decide), if_neg (show ¬ I 10 = I 1 by decide), if_neg (show ¬ I 10 = I 2 by decide), if_neg (show ¬ I 10 = I 3 by decide), if_neg (show ¬ I 10 = I 4 by decide), if_neg (show ¬ I 10 = I 5 by decide), if_neg (show ¬ I 10 = I 6 by decide), if_neg (show ¬ I 10 = I 7 by decide), if_neg (show ¬ I 10 = I 8 by decide), if_neg (show ¬ I 10 = I 9 by decide), if_pos (rfl : I 10 = I 10)]
    simp (disch := first | omega | assumption) only [rd, rdc, hds, Option.bind_some]
  by_cases z11 : y = I 11
  · subst z11
    unfold f_X0_count
    rw [if_neg (show ¬ I 11 = (0 : Int32) by decide), if_neg (show ¬ I 11 = (1 : Int32) by decide), if_neg (show ¬ I 11 = (2 : Int32) by decide), if_neg (show ¬ I 11 = (3 : Int32) by decide), if_neg (show ¬ I 11 = (4 : Int32) by decide), if_neg (show ¬ I 11 = (5 : Int32) by decide), if_neg (show ¬ I 11 = (6 : Int32) by decide), if_neg (show ¬ I 11 = (7 : Int32) by decide), if_neg (show ¬ I 11 = (8 : Int32) by decide), if_neg (show ¬ I 11 = (9 : Int32) by decide), if_neg (show ¬ I 11 = (10 : Int32) by decide), if_pos (show I 11 = (11 : Int32) from rfl)]
    rw [if_neg (show ¬ I 11 = I 0 by decide), if_neg (show ¬ I 11 = I 1 by decide), if_neg (show ¬ I 11 = I 2 by decide), if_neg (show ¬ I 11 = I 3 by decide), if_neg (show ¬ I 11 = I 4 by decide), if_neg (show ¬ I 11 = I 5 by decide), if_neg (show ¬ I 11 = I 6 by decide), if_neg (show ¬ I 11 = I 7 by decide), if_neg (show ¬ I 11 = I 8 by decide), if_neg (show ¬ I 11 = I 9 by decide), if_neg (show ¬ I 11 = I 10 by decide), if_pos (rfl : I 11 = I 11)]
    simp (disch := first | omega | assumption) only [ru, rub, hul, Option.bind_some]
  unfold f_X0_count
  rw [if_neg (show ¬ y = (0 : Int32) from z0), if_neg (show ¬ y = (1 : Int32) from z1), if_neg (show ¬ y = (2 : Int32) from z2), if_neg (show ¬ y = (3 : Int32) from z3), if_neg (show ¬ y = (4 : Int32) from z4), if_neg (show ¬ y = (5 : Int32) from z5), if_neg (show ¬ y = (6 : Int32) from z6), if_neg (show ¬ y = (7 : Int32) from z7), if_neg (show ¬ y = (8 : Int32) from z8), if_neg (show ¬ y = (9 : Int32) from z9), if_neg (show ¬ y = (10 : Int32) from z10), if_neg (show ¬ y = (11 : Int32) from z11)]
  rw [if_neg z0, if_neg z1, if_neg z2, if_neg z3, if_neg z4, if_neg z5, if_neg z6, if_neg z7, if_neg z8, if_neg z9, if_neg z10, if_neg z11]
end OP9n
