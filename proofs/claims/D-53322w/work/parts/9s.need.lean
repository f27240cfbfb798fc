/-! PLAIN LAW: the class: needed -/
set_option maxRecDepth 100000
section OP9s
variable {m x : Nat} {h : PH} {g : GS}
theorem SB_nup {s : Nat → Nat} {i k : Nat} (h : SB s) (hk : k < 1000000) : SB (nup s i k) := by
  intro j; by_cases e : j = i
  · subst e; rw [nup_eq]; exact hk
  · rw [nup_ne e]; exact h j
theorem place_hi {kind i j : Nat} (hj : j < 58) : j ≠ place kind i := by unfold place; split <;> omega
theorem Nrm_clue {s : Nat → Nat} {kind i k : Nat} (hP : PG' s) (h : Nrm s) : Nrm (nup s (place kind i) k) := by
  have := nc_le hP
  exact Nrm_Eq8 (nup_ne (place_hi (by decide))) (nup_ne (place_hi (by decide))) (fun d hd => nup_ne (place_hi (by omega))) h
theorem c_needed {y z : Int32} (C : CI m h x g) (hI : RInv g.1) (hS : SB g.1) : Res m x h (r_needed g y z, g) (f_X0_needed (some x) y z h) := by
  have hQ := hI.1.1
  have hN := hI.1.2.1
  have hP := hQ.1
  have hnc := nc_le hP
  obtain ⟨sh, p, b, co, mm, ms, r0, hpage, hbd, hsh, HB, B, r8, r9, r10, r11⟩ := C.lk hP
  have H := HB.1
  have hip := cp_isPlace (k := y) (y := z) H hP
  have hcl : ∀ kind, (if kind = 0 then nc g.1 - 1 else g.1 0 + g.1 1 - 1) = clAll g.1 kind - 1 := fun kind => by unfold clAll; split <;> rfl
  unfold r_needed
  rw [hcl]
  cases h1 : bt y 0 1 && bt z 0 (clAll g.1 (na y) - 1) with
  | false =>
    rw [h1] at hip
    refine Res.see C ?_
    simp only [Bool.false_eq_true, if_false]
    simp (disch := first | omega | assumption) only [f_X0_needed, r0, hpage, H.rc, hip, Option.bind_some, lit_I, Bool.false_eq_true, bit_F', if_true]
  | true =>
    rw [h1] at hip
    obtain ⟨h2, h3⟩ := Bool.and_eq_true _ _ ▸ h1
    obtain ⟨e1, -, e3⟩ := bt_na (by decide) (by decide) h2
    have hle := clAll_le hP (na y)
    obtain ⟨e4, -, e5⟩ := bt_na (by decide) (by omega) h3
    generalize na y = kind at *
    generalize na z = i at *
    subst e1 e4
    have hi : i < clAll g.1 kind := by omega
    have hic := cp_isClue H hQ e3 hi
    have hb1 : g.1 (place kind i) ≤ 1 := by
      have hk : kind = 0 ∨ kind = 1 := by omega
      rcases hk with rfl | rfl
      · exact (hQ.2.2.1 i hi).2.2.1
      · exact hQ.2.2.2.2 i hi
    simp only [if_true]
    by_cases q0 : g.1 (place kind i) = 0
    · rw [q0] at hic
      rw [if_pos (Or.inl q0)]
      refine Res.see C ?_
      simp (disch := first | omega | assumption) only [f_X0_needed, r0, hpage, H.rc, hip, hic, Option.bind_some, lit_I, bit_T, I_10, if_false, if_true]
    · have q1 : g.1 (place kind i) = 1 := by omega
      rw [q1] at hic
      obtain ⟨h1', s1, C1, K1, n1, s1', fr1⟩ := c_isSolv C hI HB hQ hN hS
      cases hsv : solv g.1 (g.1 2) with
      | false =>
        rw [hsv] at s1
        rw [if_pos (Or.inr rfl)]
        refine ⟨h1', ?_, C1, K1, by omega, by omega⟩
        simp (disch := first | omega | assumption) only [f_X0_needed, r0, hpage, H.rc, hip, hic, s1, Option.bind_some, lit_I, bit_T, I_10, if_false, Bool.false_eq_true, bit_F', if_true]
      | true =>
        rw [hsv] at s1
        rw [if_neg (by simp [q0])]
        obtain ⟨-, -, -, -, -, -, t0, -⟩ := C1.lk hP
        obtain ⟨p1, mm1, ms1, f1, u1, N1⟩ := C1.pgn
        obtain ⟨h2', v1, N2, O2, n2, s2⟩ := N1.copy hP
        have hmm : mm1 < hn h1' := N1.2.2.2.2.1.1
        obtain ⟨h3', f3, v2, N3, n3, s3, g3, a3⟩ := N2.clue (kind := kind) (i := i) (k := 0) hP e3 hi (by decide) ⟨hmm, fun k hk => (N1.2.2.2.2.2 k hk).1⟩
        have O3 : Old h1' h3' := ⟨by rw [n3]; exact O2.1, g3.trans O2.2.1, fun a ha => (a3 a (Or.inl ha)).trans (O2.2.2 a ha)⟩
        have C3 := C1.old O3
        have hQ3 : QInv (nup g.1 (place kind i) 0) := QInv_off hQ e3
        have hP3 := hQ3.1
        obtain ⟨h4', s4, C4, K4, n4, s4', fr4⟩ := c_isSolv C3 hI (N3.B hP3) hQ3 (Nrm_clue hP hN) (SB_nup hS (by decide))
        obtain ⟨-, -, -, -, -, -, t3, -⟩ := C3.lk hP
        have rc1 : rcv 3 (some p1) h1' = some () := (N1.B hP).1.rc
        have rc2 : rcv 3 (some (hn h1')) h2' = some () := (N2.B hP).1.rc
        refine ⟨h4', ?_, C4, (K1.trans O3.keep).trans K4, by omega, by omega⟩
        cases hsv2 : solv (nup g.1 (place kind i) 0) (g.1 2) with
        | false =>
          rw [hsv2] at s4
          simp (disch := first | omega | assumption) only [f_X0_needed, r0, hpage, H.rc, hip, hic, s1, t0, u1, rc1, v1, rc2, v2, t3, s4, Option.bind_some, lit_I, bit_T, I_10, if_false, Bool.false_eq_true, bit_F', if_true]
        | true =>
          rw [hsv2] at s4
          simp (disch := first | omega | assumption) only [f_X0_needed, r0, hpage, H.rc, hip, hic, s1, t0, u1, rc1, v1, rc2, v2, t3, s4, Option.bind_some, lit_I, bit_T, I_10, if_false, reduceCtorEq, bit_F', Bool.true_eq_false]
end OP9s
