/-! PLAIN LAW: the class: looks: line, possible, why, count -/
set_option maxRecDepth 100000
section OP9l
variable {m x : Nat} {h : PH} {g : GS}
theorem b01_if {a : Nat} {h : PH} (ha : a ≤ 1) : (if I a = I 0 then some (I 0, h) else some (I 1, h)) = some (I a, h) := by
  rcases Nat.le_one_iff_eq_zero_or_eq_one.mp ha with e | e <;> rw [e]
  · rw [if_pos rfl]
  · rw [if_neg (by rw [I_10]; exact fun q => q)]
theorem c_line {y z : Int32} (C : CI m h x g) (hI : RInv g.1) (hS : SB g.1) : Res m x h (r_line g y z, g) (f_X0_line (some x) y z h) := by
  have hQ := hI.1.1
  have hN := hI.1.2.1
  have hP := hQ.1
  have hnc := nc_le hP
  obtain ⟨sh, p, b, co, mm, ms, r0, hpage, hbd, hsh, HB, B, r8, r9, r10, r11⟩ := C.lk hP
  have H := HB.1
  have hil := cp_isLine (x := y) H hP
  have hRC := hP
  unfold PG' at hRC
  refine Res.see C ?_
  unfold r_line
  cases h1 : bt y 0 (g.1 0 + g.1 1 - 1) with
  | false =>
    rw [h1] at hil
    simp only [Bool.false_and, Bool.false_eq_true, if_false]
    simp (disch := first | omega | assumption) only [f_X0_line, r0, hpage, H.rc, hil, Option.bind_some, lit_I, Bool.false_eq_true, bit_F', if_true]
  | true =>
    rw [h1] at hil
    obtain ⟨e1, -, e3⟩ := bt_na (by decide) (by omega) h1
    have hi : na y < g.1 0 + g.1 1 := by omega
    generalize na y = i at *
    subst e1
    have hsm := cb_sums (o := none) H B hP hI.1.W7 hi (fun j hj => by cases hj)
    have h99 : nz' none = -99 := rfl
    rw [h99] at hsm
    have h99' : (-99 : Int32) = - I 99 := rfl
    have hlt := lsums_31 (s := g.1) (w := bd g.1) (i := i) (b := none) hP
    have hpcl : pc (lsums g.1 (bd g.1) i none (ln g.1 i)) ≤ 31 := pc_le _
    have hbc : f_J3_bitCount (I (lsums g.1 (bd g.1) i none (ln g.1 i))) h = some (I (pc (lsums g.1 (bd g.1) i none (ln g.1 i))), h) := cl_bitCountL hlt
    generalize hL : lsums g.1 (bd g.1) i none (ln g.1 i) = S at *
    have hsum := cp_sum H hP hi
    have hsb := hQ.2.2.2.2 i hi
    have z99 : ∀ {u : Option (Int32 × PH)}, (if S = 0 then some (-99, h) else u) = if I S = 0 then some (-99, h) else u := fun {u} => by
      have e : (I S = 0) = (S = 0) := I_eq (b := 0) (by omega) (by decide)
      simp only [e]
    cases h2 : bt z 0 4 with
    | false =>
      simp only [Bool.true_and, Bool.false_eq_true, if_false]
      have hz : ∀ k, k ≤ 4 → ¬ z = I k := fun k hk e => by
        rw [e, bt_I (by omega) (by decide) (by decide)] at h2; simp at h2; omega
      have z0 := hz 0 (by decide)
      have z1 := hz 1 (by decide)
      have z2 := hz 2 (by decide)
      have z3 := hz 3 (by decide)
      have z4 := hz 4 (by decide)
      rw [h99'] at hsm
      simp (disch := first | omega | assumption) only [f_X0_line, r0, hpage, hbd, B.rc, H.rc, hil, hsm, Option.bind_some, lit_I, bit_T, I_10, if_false, z0, z1, z2, z3, z4]
    | true =>
      obtain ⟨e4, -, e5⟩ := bt_na (by decide) (by decide) h2
      generalize na z = k at *
      subst e4
      simp only [Bool.true_and, if_true]
      rw [h99'] at hsm
      by_cases k0 : k = 0
      · subst k0
        simp (disch := first | omega | assumption) only [f_X0_line, r0, hpage, hbd, B.rc, H.rc, hil, hsm, hsum, Option.bind_some, lit_I, bit_T, I_ne, eq_self, if_false, if_true]
      · by_cases k1 : k = 1
        · subst k1
          have := b01_if (h := h) hsb
          simp (disch := first | omega | assumption) only [f_X0_line, r0, hpage, hbd, B.rc, H.rc, H.r5, H.sh hi, hil, hsm, Option.bind_some, lit_I, bit_T, I_ne, eq_self, if_false, if_true]
          exact this
        · rw [if_neg k0, if_neg k1]
          by_cases hS0 : S = 0
          · rw [if_pos hS0]
            subst hS0
            have hb0 : pc 0 = 0 := by decide
            by_cases k4 : k = 4
            · subst k4
              rw [hb0] at hbc
              simp (disch := first | omega | assumption) only [f_X0_line, r0, hpage, hbd, B.rc, H.rc, hil, hsm, hbc, Option.bind_some, lit_I, bit_T, I_ne, eq_self, if_false, if_true]
            · have hk : k = 2 ∨ k = 3 := by omega
              rw [if_neg k4]
              rcases hk with e | e <;> subst e <;>
              simp (disch := first | omega | assumption) only [f_X0_line, r0, hpage, hbd, B.rc, H.rc, hil, hsm, hbc, Option.bind_some, lit_I, bit_T, I_ne, eq_self, if_false, if_true]
          · rw [if_neg hS0]
            have hl := cl_least (h := h) hS0 (show S < 2147483648 by omega)
            have hgr := cl_greatest (h := h) hS0 (show S < 2147483648 by omega)
            have hk : k = 2 ∨ k = 3 ∨ k = 4 := by omega
            rcases hk with e | e | e
            · subst e
              simp (disch := first | omega | assumption) only [f_X0_line, r0, hpage, hbd, B.rc, H.rc, hil, hsm, hl, Option.bind_some, lit_I, bit_T, I_ne, eq_self, if_false, if_true]
            · subst e
              simp (disch := first | omega | assumption) only [f_X0_line, r0, hpage, hbd, B.rc, H.rc, hil, hsm, hgr, Option.bind_some, lit_I, bit_T, I_ne, eq_self, if_false, if_true]
              rfl
            · subst e
              simp (disch := first | omega | assumption) only [f_X0_line, r0, hpage, hbd, B.rc, H.rc, hil, hsm, hbc, Option.bind_some, lit_I, bit_T, I_ne, eq_self, if_false, if_true]
              rfl
end OP9l
