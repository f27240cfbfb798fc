/-! PLAIN LAW: the class: clues, restart, fill -/
set_option maxRecDepth 100000
def canB (s : Nat → Nat) (kind i : Nat) : Bool := if kind = 0 then !(s (33 + i) == 0) else canS s i
def o_clue (g : GS) (kind : Nat) (y z : Int32) : Int32 × GS :=
  if (bt y 0 (clAll g.1 kind - 1) && bt z 0 1) = true then
    (if na z = 1 ∧ canB g.1 kind (na y) = false then (-2, g) else chg g (I (if kind = 0 then ngiv (nup g.1 ((if kind = 0 then 58 else 83) + na y) (na z)) else nshw (nup g.1 ((if kind = 0 then 58 else 83) + na y) (na z)))) (sReset (nup g.1 ((if kind = 0 then 58 else 83) + na y) (na z)))) else (-1, g)
section OP9a
variable {m x : Nat} {h : PH} {g : GS}
theorem c_setClue {kind : Nat} {y z : Int32} (hk : kind ≤ 1) (C : CI m h x g) (hI : RInv g.1) (hS : SB g.1) : Res m x h (o_clue g kind y z) (f_X0_setClue (some x) (I kind) y z h) := by
  have hQ := hI.1.1
  have hN := hI.1.2.1
  have hP := hQ.1
  have hnc := nc_le hP
  have hcl := clAll_le hP kind
  obtain ⟨st, sh, p, b, co, mm, ms, d, u, v, r0, r1, -, -, -, r5, r6, r7, r8, r9, r10, ⟨HB, HL⟩, -, -⟩ := C.look hP
  have H := HB.1
  have hpage : f_X0_page (some x) h = some (some p, h) := by simp only [f_X0_page, r1, r5, r6, Option.bind_some]
  have hip := cp_isPlace (k := I kind) (y := y) H hP
  have hb1 : bt (I kind) 0 1 = true := by rw [bt_I (by omega) (by decide) (by decide)]; simp; omega
  rw [hb1, na_I (by omega), Bool.true_and] at hip
  unfold o_clue
  cases h1 : bt y 0 (clAll g.1 kind - 1) with
  | false =>
    rw [h1] at hip
    refine Res.same C ?_ rfl
    simp only [Bool.false_and, Bool.false_eq_true, if_false]
    simp (disch := first | omega | assumption) only [f_X0_setClue, r0, hpage, H.rc, hip, Option.bind_some, lit_I, Bool.false_eq_true, bit_F', if_true]
  | true =>
    rw [h1] at hip
    obtain ⟨e1, -, e3⟩ := bt_na (by decide) (by omega) h1
    have hc : na y < clAll g.1 kind := by omega
    generalize na y = c at *
    subst e1
    cases h2 : bt z 0 1 with
    | false =>
      refine Res.same C ?_ rfl
      simp only [Bool.and_false, Bool.false_eq_true, if_false]
      simp (disch := first | omega | assumption) only [f_X0_setClue, r0, hpage, H.rc, hip, Option.bind_some, lit_I, bit_T, I_10, if_false, betZ, h2, Bool.false_eq_true, bit_F', if_true]
    | true =>
      obtain ⟨e4, -, e5⟩ := bt_na (by decide) (by decide) h2
      generalize na z = k at *
      subst e4
      have hcb := cp_canBe H hQ hS hk hc
      have hfold : (if kind = 0 then !(g.1 (33 + c) == 0) else canS g.1 c) = canB g.1 kind c := rfl
      rw [hfold] at hcb
      have hij : if kind = 0 then c < nc g.1 else c < g.1 0 + g.1 1 := by unfold clAll at hc; split at hc <;> simp_all
      -- the setting itself
      have key : (k = 1 → canB g.1 kind c = true) → Res m x h (chg g (I (if kind = 0 then ngiv (nup g.1 ((if kind = 0 then 58 else 83) + c) k) else nshw (nup g.1 ((if kind = 0 then 58 else 83) + c) k))) (sReset (nup g.1 ((if kind = 0 then 58 else 83) + c) k))) (f_X0_setClue_B43 (some x) (I kind) (I c) (I k) h) := by
        intro hcan
        obtain ⟨h1, mm1, ms1, f1, fc1, fw1, fs1, a1, a2, a3, a4, a5, a6⟩ := ca_begin C hI.1
        obtain ⟨h2, f2, b1, b2, b3, b4, b5⟩ := a2.clue hP hk hij e5
        have hQ2 : QInv (nup g.1 ((if kind = 0 then 58 else 83) + c) k) := by
          have hh : kind = 0 ∨ kind = 1 := by omega
          rcases hh with rfl | rfl
          · exact QInv_give hQ hij e5 (fun e => by have := hcan e; unfold canB at this; simpa using this)
          · exact QInv_show hQ e5
        have hlo : ∀ j, j < 58 → nup g.1 ((if kind = 0 then 58 else 83) + c) k j = g.1 j := fun j hj => nup_ne (by split <;> omega)
        have hN2 : Nrm (nup g.1 ((if kind = 0 then 58 else 83) + c) k) := Nrm_Eq8 (hlo _ (by omega)) (hlo _ (by omega)) (fun d hd => hlo _ (by omega)) hN
        obtain ⟨h3, c1, c2, c3, c4, c5⟩ := b2.reset hQ2 hN2
        refine ⟨h3, ?_, c2.fin (Mid.reset_w hQ2.1), Keep_old a4 (Old.tr2 b3 c3), by omega, by omega⟩
        obtain ⟨-, -, -, -, m5, m6, -⟩ := a2.rd
        obtain ⟨-, -, -, -, m7, -⟩ := b2.rd
        obtain ⟨-, -, -, -, -, m9, -⟩ := c2.rd
        have P1 := (a2.pg hP).1
        have hQr := (PInv_sReset hQ2 hN2).1
        have P3 := (c2.pg hQr.1).1
        have hcs := cp_clues P3 hQr hk
        rw [ngiv_reset hQ2.1, nshw_reset hQ2.1] at hcs
        have hkk : k = 0 ∨ k = 1 := by omega
        rcases hkk with rfl | rfl
        · simp (disch := first | omega | assumption) only [f_X0_setClue_B43, f_X0_setClue_B66, r0, a1, m6, Option.bind_some, lit_I, I_01, if_false, P1.rc, b1, m7, c1, m9, P3.rc, hcs]
          rfl
        · simp (disch := first | omega | assumption) only [f_X0_setClue_B43, f_X0_setClue_B66, r0, a1, m6, Option.bind_some, lit_I, if_true, P1.rc, b1, m7, c1, m9, P3.rc, hcs]
          rfl
      simp only [Bool.and_self, if_true]
      by_cases hk1 : k = 1
      · subst hk1
        cases hcan : canB g.1 kind c with
        | false =>
          rw [hcan] at hcb
          rw [if_pos ⟨rfl, rfl⟩]
          refine Res.same C ?_ rfl
          simp (disch := first | omega | assumption) only [f_X0_setClue, r0, hpage, H.rc, hip, Option.bind_some, lit_I, bit_T, I_10, if_false, betZ, h2, if_true, hcb, Bool.false_eq_true, bit_F']
        | true =>
          rw [hcan] at hcb
          rw [if_neg (by simp)]
          have := key (fun _ => hcan)
          simp (disch := first | omega | assumption) only [f_X0_setClue, r0, hpage, H.rc, hip, Option.bind_some, lit_I, bit_T, I_10, if_false, betZ, h2, if_true, hcb]
          exact this
      · have hk0 : k = 0 := by omega
        subst hk0
        rw [if_neg (fun z => hk1 z.1)]
        have := key (fun e => absurd e hk1)
        simp (disch := first | omega | assumption) only [f_X0_setClue, r0, hpage, H.rc, hip, Option.bind_some, lit_I, bit_T, I_10, I_01, if_false, betZ, h2]
        exact this
theorem c_give {y z : Int32} (C : CI m h x g) (hI : RInv g.1) (hS : SB g.1) : Res m x h (o_give g y z) (f_X0_give (some x) y z h) := by
  obtain ⟨st, sh, p, b, co, mm, ms, d, u, v, r0, -⟩ := C.look hI.1.1.1
  have := c_setClue (kind := 0) (y := y) (z := z) (by decide) C hI hS
  have e : o_clue g 0 y z = o_give g y z := by
    unfold o_clue o_give canB clAll
    simp
  rw [e] at this
  obtain ⟨h', e1, e2⟩ := this
  refine ⟨h', ?_, e2⟩
  simp only [f_X0_give, r0, lit_I, e1, Option.bind_some]
theorem c_showSum {y z : Int32} (C : CI m h x g) (hI : RInv g.1) (hS : SB g.1) : Res m x h (o_showSum g y z) (f_X0_showSum (some x) y z h) := by
  obtain ⟨st, sh, p, b, co, mm, ms, d, u, v, r0, -⟩ := C.look hI.1.1.1
  have := c_setClue (kind := 1) (y := y) (z := z) (by decide) C hI hS
  have e : o_clue g 1 y z = o_showSum g y z := by
    unfold o_clue o_showSum canB clAll
    simp
  rw [e] at this
  obtain ⟨h', e1, e2⟩ := this
  refine ⟨h', ?_, e2⟩
  simp only [f_X0_showSum, r0, lit_I, e1, Option.bind_some]
theorem cb_sumP {p b mm : Nat} {ms : Nat → Nat} {s w : Nat → Nat} (H : PgR h p mm ms s) (B : BdR h b p s w) (hP : PG' s) (hW : W7 s w) : f_X4_possible_2 (some b) h = some (I (pcs s w), h) := by
  have hnc := nc_le hP
  unfold f_X4_possible_2
  refine loop_FU (fun k (q : Nat × Nat) => f_X4_possible_2_L4 k (some b) (I q.1) (I q.2) h) (fun k => (sumTo (fun c => pc (w c)) k, k)) (nc s) _ (by omega) (fun k j hj => ?_) (fun k => ?_)
  · simp (disch := first | omega | assumption) only [f_X4_possible_2_L4, B.r0, B.rc, H.rc, cp_cells H, Option.bind_some, I_le, if_neg, cb_possible B hW hj, lit_I, I_add, sumTo]
  · simp (disch := first | omega | assumption) only [f_X4_possible_2_L4, B.r0, H.rc, cp_cells H, Option.bind_some, I_le, if_pos]
    rfl
theorem pcs_E {s t w w' : Nat → Nat} (h0 : t 0 = s 0) (h1 : t 1 = s 1) (hw : ∀ c, c < nc s → w' c = w c) : pcs t w' = pcs s w := by
  unfold pcs; rw [nc_of h0 h1]; exact sumTo_congr (fun c hc => by rw [hw c hc])
theorem c_restart (C : CI m h x g) (hI : RInv g.1) : Res m x h (o_restart g) (f_X0_restart (some x) h) := by
  have hQ := hI.1.1
  have hN := hI.1.2.1
  have hP := hQ.1
  have hnc := nc_le hP
  obtain ⟨st, sh, p, b, co, mm, ms, d, u, v, r0, -⟩ := C.look hP
  obtain ⟨h1, mm1, ms1, f1, fc1, fw1, fs1, a1, a2, a3, a4, a5, a6⟩ := ca_begin C hI.1
  obtain ⟨h3, c1, c2, c3, c4, c5⟩ := a2.reset hQ hN
  have hcI := c2.fin (Mid.reset_w hP)
  refine ⟨h3, ?_, hcI, Keep_old a4 c3, by omega, by omega⟩
  obtain ⟨-, -, -, -, m5, -⟩ := a2.rd
  obtain ⟨n0, n1, n2, -, -, -, n6, -⟩ := c2.rd
  have hPr := (PInv_sReset hQ hN).1.1
  have P3 := (c2.pg hPr).1
  have hw : ∀ c, c < nc (sReset g.1) → fbI g.1 (nc g.1) c = I (sReset g.1 (93 + c)) := Mid.reset_w hP
  have B3 : BdR h3 (hn h1) (hn h + 2) (sReset g.1) (bd (sReset g.1)) := BdC.R c2.2.1.1.2.2.2.2.1 (nc_le hPr).2 hw
  have hW : W7 (sReset g.1) (bd (sReset g.1)) := fun c hc => ((PInv_sReset hQ hN).2.2 c hc).1
  have hs := cb_sumP P3 B3 hPr hW
  rw [pcs_E (s := g.1) (w := fb g.1) (w' := bd (sReset g.1)) (sReset_lo (Or.inl (by decide))) (sReset_lo (Or.inl (by decide))) (fun c hc => sReset_93 hP hc)] at hs
  simp (disch := first | omega | assumption) only [f_X0_restart, f_X0_board, r0, a1, m5, c1, n0, n1, n2, n6, B3.rc, hs, Option.bind_some]
  rfl
end OP9a
