/-! PLAIN LAW: the class: looks: cell, line, possible, why -/
set_option maxRecDepth 100000
theorem I_ne {a b : Nat} (ha : a < 2147483648) (hb : b < 2147483648) (h : a ≠ b) : (I a = I b) = False := by rw [I_eq ha hb]; exact eq_false h
section OP9j
variable {m x : Nat} {h : PH} {g : GS}
/-- the object as a look reads it -/
theorem CI.lk (C : CI m h x g) (hP : PG' g.1) : ∃ sh p b co mm ms, rcv 0 (some x) h = some () ∧ f_X0_page (some x) h = some (some p, h) ∧ f_X0_board (some x) h = some (some b, h) ∧ f_X0_sheet (some x) h = some (some sh, h) ∧ PgB h p mm ms g.1 ∧ BdR h b p g.1 (bd g.1) ∧ gfi 2 2 (some sh) h = some (I (g.1 2)) ∧ gfr 2 3 (some sh) h = some (some co) ∧ rcv 2 (some sh) h = some () ∧ (∀ r, r < 5 → ald 0 (some co) (I r) h = some (I (g.1 (3 + r)))) := by
  obtain ⟨st, sh, p, b, co, mm, ms, d, u, v, r0, r1, -, -, -, r5, r6, r7, r8, r9, r10, ⟨HB, HL⟩, B, r11⟩ := C.look hP
  refine ⟨sh, p, b, co, mm, ms, r0, ?_, ?_, ?_, HB, B, r8, r9, r10, r11⟩
  · simp only [f_X0_page, r1, r5, r6, Option.bind_some]
  · simp only [f_X0_board, r1, r5, r7, Option.bind_some]
  · simp only [f_X0_sheet, r1, r5, Option.bind_some]
theorem Res.see {r : Int32} {o : Option (Int32 × PH)} (C : CI m h x g) (e : o = some (r, h)) : Res m x h (r, g) o := Res.same C e rfl
theorem c_strangers {p mm c : Nat} {ms : Nat → Nat} (r0 : rcv 0 (some x) h = some ()) (hpage : f_X0_page (some x) h = some (some p, h)) (H : PgR h p mm ms g.1) (hP : PG' g.1) (hS : SB g.1) (hc : c < nc g.1) : f_X0_strangers (some x) (I c) h = some (I (strg g.1 c), h) := by
  have hnc := nc_le hP
  unfold f_X0_strangers
  refine loop_FU (fun k (p : Nat × Nat) => f_X0_strangers_L4 k (some x) (I c) (I p.1) (I p.2) h) (fun k => (sumTo (fun d => if adjb (g.1 1) c d = true ∧ ¬ g.1 (8 + d) = g.1 (8 + c) then 1 else 0) k, k)) (nc g.1) _ (by omega) (fun k j hj => ?_) (fun k => ?_)
  · have ha := cp_adj H hP hc hj
    have hb1 := H.b hc
    have hb2 := H.b hj
    have h1 := hS (8 + c)
    have h2 := hS (8 + j)
    show f_X0_strangers_L4 (k + 1) _ _ (I _) (I _) h = f_X0_strangers_L4 k _ _ (I (_ + _)) (I (j + 1)) h
    cases hadj : adjb (g.1 1) c j with
    | false =>
      rw [hadj] at ha
      simp (disch := first | omega | assumption) only [f_X0_strangers_L4, r0, hpage, H.rc, cp_cells H, ha, Option.bind_some, lit_I, I_le, if_neg, Bool.false_eq_true, bit_F', if_true, I_add, false_and, if_false, hadj]
    | true =>
      rw [hadj] at ha
      by_cases q : g.1 (8 + j) = g.1 (8 + c)
      · rw [q] at hb2
        simp (disch := first | omega | assumption) only [f_X0_strangers_L4, r0, hpage, H.rc, H.r2, cp_cells H, ha, hb1, hb2, Option.bind_some, lit_I, I_le, if_neg, bit_T, I_10, if_false, if_true, I_add, q, not_true, and_false, hadj]
      · have q' : ¬ I (g.1 (8 + c)) = I (g.1 (8 + j)) := by rw [I_eq (by omega) (by omega)]; omega
        simp (disch := first | omega | assumption) only [f_X0_strangers_L4, r0, hpage, H.rc, H.r2, cp_cells H, ha, hb1, hb2, Option.bind_some, lit_I, I_le, if_neg, bit_T, I_10, if_false, if_true, I_add, q, q', not_false_eq_true, and_self, hadj]
  · show f_X0_strangers_L4 (k + 1) _ _ (I _) (I _) h = _
    simp (disch := first | omega | assumption) only [f_X0_strangers_L4, r0, hpage, H.rc, cp_cells H, Option.bind_some, lit_I, I_le, if_pos, strg]
theorem c_cell {y z : Int32} (C : CI m h x g) (hI : RInv g.1) (hS : SB g.1) : Res m x h (r_cell g y z, g) (f_X0_cell (some x) y z h) := by
  have hQ := hI.1.1
  have hN := hI.1.2.1
  have hP := hQ.1
  have hnc := nc_le hP
  obtain ⟨sh, p, b, co, mm, ms, r0, hpage, hbd, hsh, HB, B, r8, r9, r10, r11⟩ := C.lk hP
  have H := HB.1
  have hic := cp_isCell (x := y) H hP
  refine Res.see C ?_
  unfold r_cell
  cases h1 : bt y 0 (nc g.1 - 1) with
  | false =>
    rw [h1] at hic
    simp only [Bool.false_eq_true, if_false]
    simp (disch := first | omega | assumption) only [f_X0_cell, r0, hpage, H.rc, hic, Option.bind_some, lit_I, Bool.false_eq_true, bit_F', if_true]
  | true =>
    rw [h1] at hic
    obtain ⟨e1, -, e3⟩ := bt_na (by decide) (by omega) h1
    have hc : na y < nc g.1 := by omega
    generalize na y = c at *
    subst e1
    simp only [if_true]
    have hst := c_strangers r0 hpage H hP hS hc
    have hps := cb_possible B hI.1.W7 hc
    have hw7 := hI.1.W7 c hc
    by_cases z0 : z = I 0
    · subst z0
      simp (disch := first | omega | assumption) only [f_X0_cell, r0, hpage, H.rc, H.r2, H.b hc, hic, Option.bind_some, lit_I, bit_T, I_ne, eq_self, if_false, if_true]
    · by_cases z1 : z = I 1
      · subst z1
        simp (disch := first | omega | assumption) only [f_X0_cell, r0, hpage, H.rc, H.r3, H.n hc, hic, Option.bind_some, lit_I, bit_T, I_ne, eq_self, if_false, if_true]
      · by_cases z2 : z = I 2
        · subst z2
          have hg1 := (hQ.2.2.1 c hc).2.2.1
          have hgg : (if I (g.1 (58 + c)) = I 0 then some (I 0, h) else some (I 1, h)) = some (I (g.1 (58 + c)), h) := by
            rcases Nat.le_one_iff_eq_zero_or_eq_one.mp hg1 with e | e <;> rw [e]
            · rw [if_pos rfl]
            · rw [if_neg (by rw [I_10]; exact fun q => q)]
          simp (disch := first | omega | assumption) only [f_X0_cell, r0, hpage, H.rc, H.r4, H.g hc, hic, Option.bind_some, lit_I, bit_T, I_ne, eq_self, if_false, if_true]
          exact hgg
        · by_cases z3 : z = I 3
          · subst z3
            simp (disch := first | omega | assumption) only [f_X0_cell, r0, hpage, hbd, H.rc, B.rc, hps, hic, Option.bind_some, lit_I, bit_T, I_ne, eq_self, if_false, if_true]
            all_goals rfl
          · by_cases z4 : z = I 4
            · subst z4
              by_cases q : pc (bd g.1 c) = 1
              · have hl := cl_least (h := h) (a := bd g.1 c) (pc_pos q) (by omega)
                rw [q] at hps
                have q' : pc (g.1 (93 + c)) = 1 := q
                simp (disch := first | omega | assumption) only [f_X0_cell, r0, hpage, hbd, H.rc, B.rc, B.r1, B.c hc, hps, hl, hic, Option.bind_some, lit_I, bit_T, I_ne, eq_self, if_false, if_true, q']
                all_goals rfl
              · have q' : ¬ pc (g.1 (93 + c)) = 1 := q
                have q2 : pc (bd g.1 c) ≤ 31 := pc_le _
                have q3 : ¬ I (pc (bd g.1 c)) = I 1 := by rw [I_eq (by omega) (by decide)]; exact q
                simp (disch := first | omega | assumption) only [f_X0_cell, r0, hpage, hbd, H.rc, B.rc, B.r1, B.c hc, hps, hic, Option.bind_some, lit_I, bit_T, I_ne, eq_self, if_false, if_true, q', q3]
                all_goals rfl
            · by_cases z5 : z = I 5
              · subst z5
                simp (disch := first | omega | assumption) only [f_X0_cell, r0, hpage, H.rc, hic, hst, Option.bind_some, lit_I, bit_T, I_ne, eq_self, if_false, if_true]
                all_goals rfl
              · simp (disch := first | omega | assumption) only [f_X0_cell, r0, hpage, H.rc, hic, Option.bind_some, lit_I, bit_T, I_10, if_false, z0, z1, z2, z3, z4, z5]
end OP9j
