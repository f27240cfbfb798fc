/-! PLAIN LAW: the class: looks: possible, why, next, count -/
set_option maxRecDepth 100000
theorem CI.old {m x : Nat} {h h' : PH} {g : GS} (C : CI m h x g) (O : Old h h') : CI m h' x g := by
  obtain ⟨st, d, da, u, ua, v, ra, ru, la, CM0, S⟩ := C
  exact ⟨st, d, da, u, ua, v, ra, ru, la, CM0.old O, S.las O.las⟩
/-- a step's four numbers -/
def stp4 (q : Int32 × Int32 × Int32 × Int32) : Nat → Int32 := upd (upd (upd (upd (fun _ => 0) 0 q.1) 1 q.2.1) 2 q.2.2.1) 3 q.2.2.2
def stpL (n : Nat) (q : Int32 × Int32 × Int32 × Int32) : List (PC × Nat) := [(.inr (22, [.ref (n + 1)]), 1), (nar 0 4 (stp4 q), 4)]
theorem cs_step {h : PH} {v ra : Nat} {q : Int32 × Int32 × Int32 × Int32} (hv : h.1 v = some (svo ra q)) (hl : v < hn h) : f_X5_step (some v) h = some (some (hn h + 0), ov h (stpL (hn h) q)) := by
  have e0 : f_X5_step (some v) h = f_X5_step (some v) (ov h []) := by rw [ov_nil]
  rw [e0]
  have g1 : ∀ l, gfi 5 1 (some v) (ov h l) = some q.1 := fun l => by rw [ov_gfi_o hl]; exact gfi_at hv rfl
  have g2 : ∀ l, gfi 5 2 (some v) (ov h l) = some q.2.1 := fun l => by rw [ov_gfi_o hl]; exact gfi_at hv rfl
  have g3 : ∀ l, gfi 5 3 (some v) (ov h l) = some q.2.2.1 := fun l => by rw [ov_gfi_o hl]; exact gfi_at hv rfl
  have g4 : ∀ l, gfi 5 4 (some v) (ov h l) = some q.2.2.2 := fun l => by rw [ov_gfi_o hl]; exact gfi_at hv rfl
  unfold f_X5_step f_X25_init
  simp (disch := first | omega | assumption) only [ov_nwO, ov_nwi, ov_nwr, ov_pfC, ovpf, ov_gfiC, ov_gfrC, ov_rcvC, ovob, List.length_cons, List.length_nil, Nat.reduceAdd, Nat.zero_add, List.nil_append, List.cons_append, List.getElem?_cons_zero, List.getElem?_cons_succ, List.getElem?_nil, List.set_cons_zero, List.set_cons_succ, Option.bind_some, Option.map_some, lit_I, va_rf, vI, vR, true_and, Nat.reduceLT, Nat.reduceLeDiff, Nat.reduceEqDiff, if_true, if_false, nn, ov_ov, ov_asiC, ovasi, inb_I, I_clamp, g1, g2, g3, g4]
  rfl
section OP9m
variable {m x : Nat} {h : PH} {g : GS}
theorem c_possible {y z : Int32} (C : CI m h x g) (hI : RInv g.1) : Res m x h (r_possible g y z, g) (f_X0_possible (some x) y z h) := by
  have hQ := hI.1.1
  have hP := hQ.1
  have hnc := nc_le hP
  obtain ⟨sh, p, b, co, mm, ms, r0, hpage, hbd, hsh, HB, B, r8, r9, r10, r11⟩ := C.lk hP
  have hin := c_isNumber (y := y) (z := z) C hI
  refine Res.see C ?_
  unfold r_possible
  cases h1 : bt y 0 (nc g.1 - 1) && bt z 1 (bsz g.1 (g.1 (8 + na y))) with
  | false =>
    rw [h1] at hin
    simp only [Bool.false_eq_true, if_false]
    simp (disch := first | omega | assumption) only [f_X0_possible, r0, hin, Option.bind_some, lit_I, Bool.false_eq_true, bit_F', if_true]
  | true =>
    rw [h1] at hin
    obtain ⟨h2, h3⟩ := Bool.and_eq_true _ _ ▸ h1
    obtain ⟨e1, -, e3⟩ := bt_na (by decide) (by omega) h2
    have hc : na y < nc g.1 := by omega
    have hbz := (hQ.2.2.1 _ hc).1
    obtain ⟨e4, -, e5⟩ := bt_na (by decide) (by omega) h3
    generalize na y = c at *
    generalize na z = k at *
    subst e1 e4
    have hp := cb_isPossible (n := k) B hI.1.W7 hc (by omega)
    simp only [if_true]
    have e6 : bd g.1 c = g.1 (93 + c) := rfl
    rw [e6] at hp
    cases ht : (g.1 (93 + c)).testBit k with
    | false =>
      rw [ht] at hp
      simp (disch := first | omega | assumption) only [f_X0_possible, r0, hin, hbd, B.rc, hp, Option.bind_some, lit_I, bit_T, I_10, if_false, Bool.false_eq_true, bit_F', if_true]
    | true =>
      rw [ht] at hp
      simp (disch := first | omega | assumption) only [f_X0_possible, r0, hin, hbd, B.rc, hp, Option.bind_some, lit_I, bit_T, I_10, if_false]
theorem c_why {y z w : Int32} (C : CI m h x g) (hI : RInv g.1) (hS : SB g.1) : Res m x h (r_why g y z w, g) (f_X0_why (some x) y z w h) := by
  have hQ := hI.1.1
  have hP := hQ.1
  have hnc := nc_le hP
  obtain ⟨-, -, -, -, -, -, -, -, -, -, r0, -⟩ := C.look hP
  have hin := c_isNumber (y := y) (z := z) C hI
  unfold r_why
  cases h1 : bt y 0 (nc g.1 - 1) && bt z 1 (bsz g.1 (g.1 (8 + na y))) with
  | false =>
    rw [h1] at hin
    refine Res.see C ?_
    simp only [Bool.false_and, Bool.false_eq_true, if_false]
    simp (disch := first | omega | assumption) only [f_X0_why, r0, hin, Option.bind_some, lit_I, Bool.false_eq_true, bit_F', if_true]
  | true =>
    rw [h1] at hin
    cases h5 : bt w 0 1 with
    | false =>
      refine Res.see C ?_
      simp only [Bool.and_false, Bool.false_eq_true, if_false]
      simp (disch := first | omega | assumption) only [f_X0_why, r0, hin, betZ, h5, Option.bind_some, lit_I, bit_T, I_10, if_false, Bool.false_eq_true, bit_F', if_true]
    | true =>
      obtain ⟨h2, h3⟩ := Bool.and_eq_true _ _ ▸ h1
      obtain ⟨e1, -, e3⟩ := bt_na (by decide) (by omega) h2
      have hc : na y < nc g.1 := by omega
      have hbz := (hQ.2.2.1 _ hc).1
      obtain ⟨e4, -, e5⟩ := bt_na (by decide) (by omega) h3
      obtain ⟨e6, -, e7⟩ := bt_na (by decide) (by decide) h5
      generalize na y = c at *
      generalize na z = k at *
      generalize na w = j at *
      subst e1 e4 e6
      obtain ⟨h', v, q, f1, f2, f3, f4, f5, f6, f7, f8⟩ := c_findRule (c := c) (n := k) C hI hS hc (by omega)
      simp only [Bool.and_self, if_true]
      cases hst : strk g.1 (bd g.1) c k with
      | none =>
        rw [hst] at f1
        refine ⟨h', ?_, f2, f3, by omega, by omega⟩
        simp only [Option.isSome_none] at f1
        simp (disch := first | omega | assumption) only [f_X0_why, r0, hin, betZ, h5, Option.bind_some, lit_I, bit_T, I_10, if_false, f1, Bool.false_eq_true, bit_F', if_true]
      | some t =>
        rw [hst] at f1
        rw [show (some t : Option (Nat × Nat)).isSome = true from rfl] at f1
        obtain ⟨⟨ra, f9⟩, f10⟩ := f8 t hst
        subst f10
        have s1 : gfi 5 1 (some v) h' = some (I t.1) := gfi_at f9 rfl
        have s4 : gfi 5 4 (some v) h' = some (I t.2) := gfi_at f9 rfl
        refine ⟨h', ?_, f2, f3, by omega, by omega⟩
        by_cases hj : j = 0
        · subst hj
          simp (disch := first | omega | assumption) only [f_X0_why, r0, hin, betZ, h5, Option.bind_some, lit_I, bit_T, I_10, if_false, f1, f6, s1, if_true]
        · have hj' : ¬ I j = I 0 := by rw [I_eq (by omega) (by decide)]; exact hj
          simp (disch := first | omega | assumption) only [f_X0_why, r0, hin, betZ, h5, Option.bind_some, lit_I, bit_T, I_10, if_false, f1, f6, s4, hj', hj]
/-- a step looked for on the object's board -/
theorem c_find (C : CI m h x g) (hI : RInv g.1) (hS : SB g.1) : ∃ v b sh h', gfr 0 3 (some x) h = some (some v) ∧ rcv 5 (some v) h = some () ∧ rcv 0 (some x) h = some () ∧ f_X0_board (some x) h = some (some b, h) ∧ f_X0_sheet (some x) h = some (some sh, h) ∧ gfi 2 2 (some sh) h = some (I (g.1 2)) ∧ f_X5_find (some v) (some b) (I (g.1 2)) h = some (I (bit ((findS g.1 (bd g.1) (g.1 2)).isSome = true)), h') ∧ CI m h' x g ∧ Keep h h' ∧ hn h' = hn h ∧ hs h' = hs h ∧ gfr 0 3 (some x) h' = some (some v) ∧ v < hn h' ∧ ∀ t, findS g.1 (bd g.1) (g.1 2) = some t → ∃ ra, h'.1 v = some (svo ra (qS t)) := by
  have hQ := hI.1.1
  have hN := hI.1.2.1
  have hP := hQ.1
  obtain ⟨sh, p, b, co, mm, ms, r0, hpage, hbd, hsh, HB, B, r8, r9, r10, r11⟩ := C.lk hP
  obtain ⟨v, ra, ru, w1, w2, w3, w4⟩ := C.solver
  have CC := CU_of HB.1 B w2 hQ hN hS hI.1.W7 hI.1.B0
  obtain ⟨q, e1, e2⟩ := cs_find CC (show g.1 2 < 1000000 by have := hQ.2.1.1; omega)
  obtain ⟨k1, k2, k3, k4⟩ := w4 q
  refine ⟨v, b, sh, _, w1, ?_, r0, hbd, hsh, r8, e1, k1, k3, rfl, rfl, k4, w3, fun t ht => ⟨ra, by rw [← e2 t ht]; exact hset_at⟩⟩
  obtain ⟨⟨q0, hq⟩, -⟩ := w2
  exact rcv_at hq
theorem c_next {y : Int32} (C : CI m h x g) (hI : RInv g.1) (hS : SB g.1) : Res m x h (r_next g y, g) (f_X0_next (some x) y h) := by
  obtain ⟨v, b, sh, h', r3, r5, r0, hbd, hsh, r8, hf, C', K', n', s', r3', hv, ht⟩ := c_find C hI hS
  have hip : f_X0_isPart y h = some (I (bit (bt y 0 3 = true)), h) := by
    simp (disch := first | omega | assumption) only [f_X0_isPart, betZ, lit_I, Option.bind_some, gb_bit]
  unfold r_next
  cases h1 : bt y 0 3 with
  | false =>
    rw [h1] at hip
    refine Res.see C ?_
    simp only [Bool.false_eq_true, if_false]
    simp (disch := first | omega | assumption) only [f_X0_next, hip, Option.bind_some, lit_I, Bool.false_eq_true, bit_F', if_true]
  | true =>
    rw [h1] at hip
    obtain ⟨e6, -, e7⟩ := bt_na (by decide) (by decide) h1
    generalize na y = j at *
    subst e6
    simp only [if_true]
    cases hst : findS g.1 (bd g.1) (g.1 2) with
    | none =>
      rw [hst] at hf
      refine ⟨h', ?_, C', K', by omega, by omega⟩
      simp only [Option.isSome_none] at hf
      simp (disch := first | omega | assumption) only [f_X0_next, hip, r3, r5, r0, hbd, hsh, r8, hf, Option.bind_some, lit_I, bit_T, I_10, if_false, Bool.false_eq_true, bit_F', if_true]
    | some t =>
      rw [hst] at hf
      rw [show (some t : Option SP4).isSome = true from rfl] at hf
      obtain ⟨ra, hvt⟩ := ht t hst
      have es := cs_step hvt hv
      have O : Old h' (ov h' (stpL (hn h') (qS t))) := Old.ov
      have r5' : rcv 5 (some v) h' = some () := rcv_at hvt
      have g1 : gfr 22 0 (some (hn h' + 0)) (ov h' (stpL (hn h') (qS t))) = some (some (hn h' + 1)) := ov_gfr (x := some (hn h' + 1)) (i := 0) rfl rfl
      have g2 : ald 0 (some (hn h' + 1)) (I j) (ov h' (stpL (hn h') (qS t))) = some (I (prt t j)) := by
        rw [ov_ald (i := 1) rfl (show j < 4 by omega) (by decide)]
        have : j = 0 ∨ j = 1 ∨ j = 2 ∨ j = 3 := by omega
        rcases this with e | e | e | e <;> subst e <;> rfl
      refine ⟨_, ?_, C'.old O, K'.trans O.keep, ?_, ?_⟩
      rotate_left
      · rw [ov_hn]; show hn h' + 2 ≤ _; omega
      · rw [ov_hs]; show hs h' + 5 ≤ _; omega
      simp (disch := first | omega | assumption) only [f_X0_next, hip, r3, r5, r0, hbd, hsh, r8, hf, Option.bind_some, lit_I, bit_T, I_10, if_false, r3', r5', es, g1, g2]
end OP9m
