/-! PLAIN LAW: the class: strike, advance -/
set_option maxRecDepth 100000
section OP9e
variable {m x : Nat} {h : PH} {g : GS}
theorem c_isNumber {y z : Int32} (C : CI m h x g) (hI : RInv g.1) : f_X0_isNumber (some x) y z h = some (I (bit ((bt y 0 (nc g.1 - 1) && bt z 1 (bsz g.1 (g.1 (8 + na y)))) = true)), h) := by
  have hQ := hI.1.1
  have hN := hI.1.2.1
  have hP := hQ.1
  have hnc := nc_le hP
  obtain ⟨st, sh, p, b, co, mm, ms, d, u, v, r0, r1, -, -, -, r5, r6, r7, r8, r9, r10, ⟨HB, HL⟩, -, -⟩ := C.look hP
  have H := HB.1
  have hpage : f_X0_page (some x) h = some (some p, h) := by simp only [f_X0_page, r1, r5, r6, Option.bind_some]
  have hic := cp_isCell (x := y) H hP
  cases h1 : bt y 0 (nc g.1 - 1) with
  | false =>
    rw [h1] at hic
    simp only [Bool.false_and]
    simp (disch := first | omega | assumption) only [f_X0_isNumber, r0, hpage, H.rc, hic, Option.bind_some, lit_I, Bool.false_eq_true, bit_F', if_true]
  | true =>
    rw [h1] at hic
    obtain ⟨e1, -, e3⟩ := bt_na (by decide) (by omega) h1
    have hc : na y < nc g.1 := by omega
    have hin := cp_isNumber (y := z) H hN hc
    rw [← e1] at hin
    simp only [Bool.true_and]
    cases h2 : bt z 1 (bsz g.1 (g.1 (8 + na y))) with
    | false =>
      rw [h2] at hin
      simp (disch := first | omega | assumption) only [f_X0_isNumber, r0, hpage, H.rc, hic, hin, Option.bind_some, lit_I, bit_T, I_10, if_false, Bool.false_eq_true, bit_F', if_true]
    | true =>
      rw [h2] at hin
      simp (disch := first | omega | assumption) only [f_X0_isNumber, r0, hpage, H.rc, hic, hin, Option.bind_some, lit_I, bit_T, I_10, if_false]
/-- the rule for a number, on the board of the object -/
theorem c_findRule {c n : Nat} (C : CI m h x g) (hI : RInv g.1) (hS : SB g.1) (hc : c < nc g.1) (hn' : n ≤ 6) : ∃ h' v q, f_X0_findRule (some x) (I c) (I n) h = some (I (bit ((strk g.1 (bd g.1) c n).isSome = true)), h') ∧ CI m h' x g ∧ Keep h h' ∧ hn h' = hn h ∧ hs h' = hs h ∧ gfr 0 3 (some x) h' = some (some v) ∧ v < hn h ∧ ∀ t, strk g.1 (bd g.1) c n = some t → (∃ ra, h'.1 v = some (svo ra q)) ∧ q = (I t.1, I c, I n, I t.2) := by
  have hQ := hI.1.1
  have hN := hI.1.2.1
  have hP := hQ.1
  have hnc := nc_le hP
  obtain ⟨st, sh, p, b, co, mm, ms, d, u, v', r0, r1, -, -, r4, r5, r6, r7, r8, r9, r10, ⟨HB, HL⟩, B, -⟩ := C.look hP
  obtain ⟨v, ra, ru, w1, w2, w3, w4⟩ := C.solver
  have hvv : v' = v := by rw [r4] at w1; cases w1; rfl
  subst hvv
  have H := HB.1
  have hW := hI.1.W7
  have hip := cb_isPossible B hW hc (show n < 32 by omega)
  have hbd : f_X0_board (some x) h = some (some b, h) := by simp only [f_X0_board, r1, r5, r7, Option.bind_some]
  have hsh : f_X0_sheet (some x) h = some (some sh, h) := by simp only [f_X0_sheet, r1, r5, Option.bind_some]
  cases hbit : (bd g.1 c).testBit n with
  | false =>
    rw [hbit] at hip
    have e : strk g.1 (bd g.1) c n = none := by unfold strk; rw [hbit]; simp
    rw [e]
    refine ⟨h, v', (0, 0, 0, 0), ?_, C, Keep.refl h, rfl, rfl, w1, w3, fun t ht => by cases ht⟩
    simp only [Option.isSome_none]
    simp (disch := first | omega | assumption) only [f_X0_findRule, r0, hbd, B.rc, hip, Option.bind_some, lit_I, Bool.false_eq_true, bit_F', if_true]
  | true =>
    rw [hbit] at hip
    have CC := CU_of H B w2 hQ hN hS hW hI.1.B0
    obtain ⟨q, e1, e2⟩ := cs_findRule CC (by have := hQ.2.1.1; omega) hc hn' hbit
    obtain ⟨k1, k2, k3, k4⟩ := w4 q
    refine ⟨_, v', q, ?_, k1, k3, rfl, rfl, k4, w3, fun t ht => ⟨⟨ra, hset_at⟩, e2 t ht⟩⟩
    have hrc5 : rcv 5 (some v') h = some () := by
      obtain ⟨⟨q0, hq⟩, -⟩ := w2
      exact rcv_at hq
    cases hs5 : strk g.1 (bd g.1) c n with
    | none =>
      rw [hs5] at e1
      simp only [Option.isSome_none] at e1 ⊢
      simp (disch := first | omega | assumption) only [f_X0_findRule, r0, hbd, hsh, r8, B.rc, hip, Option.bind_some, lit_I, bit_T, I_10, if_false, r4, hrc5, e1, Bool.false_eq_true, bit_F', if_true]
    | some t =>
      rw [hs5] at e1
      rw [show (some t : Option (Nat × Nat)).isSome = true from rfl] at e1 ⊢
      simp (disch := first | omega | assumption) only [f_X0_findRule, r0, hbd, hsh, r8, B.rc, hip, Option.bind_some, lit_I, bit_T, I_10, if_false, r4, hrc5, e1]
theorem c_strike {y z : Int32} (C : CI m h x g) (hI : RInv g.1) (hS : SB g.1) : Res m x h (o_strike g y z) (f_X0_strike (some x) y z h) := by
  have hQ := hI.1.1
  have hN := hI.1.2.1
  have hP := hQ.1
  have hnc := nc_le hP
  obtain ⟨-, -, -, -, -, -, -, -, -, -, r0, -⟩ := C.look hP
  have hin := c_isNumber (y := y) (z := z) C hI
  unfold o_strike
  cases h1 : bt y 0 (nc g.1 - 1) && bt z 1 (bsz g.1 (g.1 (8 + na y))) with
  | false =>
    rw [h1] at hin
    refine Res.same C ?_ rfl
    simp only [Bool.false_eq_true, if_false]
    simp (disch := first | omega | assumption) only [f_X0_strike, r0, hin, Option.bind_some, lit_I, Bool.false_eq_true, bit_F', if_true]
  | true =>
    rw [h1] at hin
    obtain ⟨h2, h3⟩ := Bool.and_eq_true _ _ ▸ h1
    obtain ⟨e1, -, e3⟩ := bt_na (by decide) (by omega) h2
    have hc : na y < nc g.1 := by omega
    have hbz := (hQ.2.2.1 _ hc).1
    obtain ⟨e4, -, e5⟩ := bt_na (by decide) (by omega) h3
    generalize na y = c at *
    generalize na z = k at *
    subst e1 e4
    obtain ⟨h', v, q, f1, f2, f3, f4, f5, f6, f7, f8⟩ := c_findRule (c := c) (n := k) C hI hS hc (by omega)
    simp only [if_true]
    obtain ⟨-, -, -, -, -, -, -, -, -, -, r0', -⟩ := f2.look hP
    cases hst : strk g.1 (bd g.1) c k with
    | none =>
      rw [hst] at f1
      refine ⟨h', ?_, f2, f3, by omega, by omega⟩
      simp only [Option.isSome_none] at f1
      simp (disch := first | omega | assumption) only [f_X0_strike, r0, hin, Option.bind_some, lit_I, bit_T, I_10, if_false, f1, Bool.false_eq_true, bit_F', if_true]
    | some t =>
      rw [hst] at f1
      rw [show (some t : Option (Nat × Nat)).isSome = true from rfl] at f1
      obtain ⟨⟨ra, f9⟩, f10⟩ := f8 t hst
      obtain ⟨h1, mm1, ms1, f1', fc1, fw1, fs1, a1, a2, a3, a4, a5, a6, a7, a8⟩ := ca_begin2 f2 hI.1
      have B1 := a2.bc
      have hb := cb_strike (n := k) B1 (show c < 25 by omega) (a3 c hc) (by omega)
      have hrow : ∀ j, j < 93 ∨ 118 ≤ j → nup g.1 (93 + c) (andn (g.1 (93 + c)) (1 <<< k)) j = g.1 j := fun j hj => nup_ne (by omega)
      obtain ⟨b1, b2⟩ := a2.board (f2 := upd fw1 c (I (andn (g.1 (93 + c)) (1 <<< k)))) (t := nup g.1 (93 + c) (andn (g.1 (93 + c)) (1 <<< k))) hP hrow
      obtain ⟨-, -, -, -, -, -, m7, -⟩ := a2.rd
      have hK := Keep_old a4 b2
      refine ⟨bdw h1 (hn h' + 8) (upd fw1 c (I (andn (g.1 (93 + c)) (1 <<< k)))), ?_, b1.fin (fun d hd => ?_), f3.trans hK, ?_, ?_⟩
      · have hv : h1.1 v = some (svo ra q) := (a7 v _ f9 (by omega) (by simp [ki, svo]) (by simp [ki, svo]) (by simp [ki, svo])).trans f9
        have hvb : v ≠ hn h' + 8 + 1 := by omega
        have hv2 : (bdw h1 (hn h' + 8) (upd fw1 c (I (andn (g.1 (93 + c)) (1 <<< k))))).1 v = some (svo ra q) := (hset_ne hvb).trans hv
        have g3 : gfr 0 3 (some x) (bdw h1 (hn h' + 8) (upd fw1 c (I (andn (g.1 (93 + c)) (1 <<< k))))) = some (some v) := by
          have := a8 3 _ (by decide) f6
          have hx : x ≠ hn h' + 8 + 1 := by
            obtain ⟨⟨d, da, u, ua, v0, ra0, ru0, la, CMx⟩, -⟩ := a2
            have hx' : x < hn h' := CMx.2.2.2.2.2.2.1.1
            omega
          rw [← this]; exact gfr_ne hx
        have g4 : gfi 5 1 (some v) (bdw h1 (hn h' + 8) (upd fw1 c (I (andn (g.1 (93 + c)) (1 <<< k))))) = some (I t.1) := by
          rw [f10] at hv2; exact gfi_at hv2 rfl
        simp (disch := first | omega | assumption) only [f_X0_strike, r0, hin, Option.bind_some, lit_I, bit_T, I_10, if_false, f1, r0', a1, m7, rcv_at B1.1, hb, g3, g4]
        rfl
      · rw [nc_of (s := g.1) (t := nup g.1 (93 + c) (andn (g.1 (93 + c)) (1 <<< k))) (nup_ne (by omega)) (nup_ne (by omega))] at hd
        by_cases e : d = c
        · subst e; rw [nup_eq]; simp [upd]
        · rw [nup_ne (by omega)]; simp only [upd, e, if_false]; exact a3 d hd
      · show hn h1 ≤ _; omega
      · show hs h1 ≤ _; omega
theorem c_advance {y : Int32} (C : CI m h x g) (hI : RInv g.1) (hS : SB g.1) : Res m x h (o_advance g y) (f_X0_advance (some x) y h) := by
  have hQ := hI.1.1
  have hN := hI.1.2.1
  have hP := hQ.1
  have hnc := nc_le hP
  have hru := hQ.2.1.1
  obtain ⟨st, sh, p, b, co, mm, ms, d, u, v', r0, r1, -, -, r4, r5, r6, r7, r8, r9, r10, ⟨HB, HL⟩, B, -⟩ := C.look hP
  unfold o_advance
  cases hbt : bt y 1 99 with
  | false =>
    refine Res.same C ?_ rfl
    simp only [Bool.false_eq_true, if_false]
    simp (disch := first | omega | assumption) only [f_X0_advance, betZ, hbt, Option.bind_some, lit_I, Bool.false_eq_true, bit_F', if_true]
  | true =>
    obtain ⟨e1, -, e3⟩ := bt_na (by decide) (by decide) hbt
    generalize na y = k at *
    subst e1
    obtain ⟨v, ra, ru, w1, w2, w3, w4⟩ := C.solver
    have hvv : v' = v := by rw [r4] at w1; cases w1; rfl
    subst hvv
    have hbd : f_X0_board (some x) h = some (some b, h) := by simp only [f_X0_board, r1, r5, r7, Option.bind_some]
    have hsh : f_X0_sheet (some x) h = some (some sh, h) := by simp only [f_X0_sheet, r1, r5, Option.bind_some]
    have CC := CU_of HB.1 B w2 hQ hN hS hI.1.W7 hI.1.B0
    obtain ⟨q, e1, e2⟩ := cs_find (rules := g.1 2) CC (by omega)
    obtain ⟨k1, k2, k3, k4⟩ := w4 q
    have hrc5 : rcv 5 (some v') h = some () := by
      obtain ⟨⟨q0, hq⟩, -⟩ := w2
      exact rcv_at hq
    simp only [if_true]
    cases hf : findS g.1 (bd g.1) (g.1 2) with
    | none =>
      rw [hf] at e1
      simp only [Option.isSome_none, Bool.false_eq_true, if_false] at e1 ⊢
      refine ⟨sol h v' ra q, ?_, k1, k3, by show hn h ≤ _; omega, by show hs h ≤ _; omega⟩
      simp (disch := first | omega | assumption) only [f_X0_advance, betZ, hbt, Option.bind_some, lit_I, bit_T, I_10, if_false, r4, r0, hbd, hsh, r8, hrc5, e1, Bool.false_eq_true, bit_F', if_true]
    | some t =>
      rw [hf] at e1
      rw [show (some t : Option SP4).isSome = true from rfl] at e1 ⊢
      rw [if_pos rfl]
      generalize hgh : sol h v' ra q = h' at *
      have hn' : hn h' = hn h := by rw [← hgh]; rfl
      have hs' : hs h' = hs h := by rw [← hgh]; rfl
      obtain ⟨-, -, -, -, -, -, -, -, -, -, r0', -⟩ := k1.look hP
      obtain ⟨h1, mm1, ms1, f1', fc1, fw1, fs1, a1, a2, a3, a4, a5, a6, a7, a8⟩ := ca_begin2 k1 hI.1
      have B1 := a2.bc
      obtain ⟨v2, ra2, ru2, z1, z2, z3, z4⟩ := a2.solver
      have CC1 := CU_of (a2.pg hP).1 (B1.R (w := bd g.1) hnc.2 a3) z2 hQ hN hS hI.1.W7 hI.1.B0
      obtain ⟨f', q', s1, s2⟩ := cs_solve (rules := g.1 2) (L := k) (by omega) (by omega) a2.dj CC1 B1 a3
      have hrow : ∀ j, j < 93 ∨ 118 ≤ j → (fun j => if 93 ≤ j ∧ j < 93 + nc g.1 then (goN g.1 (g.1 2) k (bd g.1)).2 (j - 93) else g.1 j) j = g.1 j := fun j hj => if_neg (by omega)
      obtain ⟨b1, b2⟩ := a2.board (f2 := f') (t := fun j => if 93 ≤ j ∧ j < 93 + nc g.1 then (goN g.1 (g.1 2) k (bd g.1)).2 (j - 93) else g.1 j) hP hrow
      obtain ⟨v3, ra3, ru3, y1, y2, y3, y4⟩ := b1.solver
      have hv3 : v3 = v2 ∧ ra3 = ra2 := by
        obtain ⟨⟨d2, da2, u2, ua2, v4, ra4, ru4, la4, CMx⟩, -⟩ := id a2
        have hx : h1.1 x = some (eso (hn h') d2 u2 v4) := CMx.1
        have hxn : x < hn h' := CMx.2.2.2.2.2.2.1.1
        have hx2 : (bdw h1 (hn h' + 8) f').1 x = some (eso (hn h') d2 u2 v4) := (hset_ne (by omega)).trans hx
        have q1 : gfr 0 3 (some x) h1 = some (some v4) := gfr_at (x := some v4) hx rfl
        have q2 : gfr 0 3 (some x) (bdw h1 (hn h' + 8) f') = some (some v4) := gfr_at (x := some v4) hx2 rfl
        rw [q1] at z1; cases z1
        rw [q2] at y1; cases y1
        refine ⟨rfl, ?_⟩
        obtain ⟨⟨qa, ha⟩, -⟩ := z2
        obtain ⟨⟨qb, hb⟩, -⟩ := y2
        have : (bdw h1 (hn h' + 8) f').1 v2 = h1.1 v2 := hset_ne (by omega)
        rw [this, ha] at hb
        simp only [svo, Option.some.injEq, Sum.inr.injEq, Prod.mk.injEq, List.cons.injEq, Value.ref.injEq] at hb
        exact hb.2.1.symm
      obtain ⟨rfl, rfl⟩ := hv3
      have hM := y4 q'
      have hrc5' : rcv 5 (some v3) h1 = some () := by
        obtain ⟨⟨q0, hq⟩, -⟩ := z2
        exact rcv_at hq
      obtain ⟨-, -, -, -, -, -, m7, m8, -⟩ := a2.rd
      have hK : Keep h' (sol (bdw h1 (hn h' + 8) f') v3 ra3 q') := by
        have K1 := Keep_old a4 b2
        obtain ⟨⟨qb, hb⟩, -⟩ := y2
        refine K1.set (Or.inr ?_)
        have z5 := a8 3 _ (by decide) k4
        rw [z1] at z5; cases z5
        exact ⟨svo ra q, by rw [← hgh]; exact hset_at, rfl⟩
      refine ⟨sol (bdw h1 (hn h' + 8) f') v3 ra3 q', ?_, hM.fin (fun d hd => ?_), k3.trans hK, ?_, ?_⟩
      · simp (disch := first | omega | assumption) only [f_X0_advance, betZ, hbt, Option.bind_some, lit_I, bit_T, I_10, if_false, r4, r0, hbd, hsh, r8, hrc5, e1, r0', a1, z1, m7, m8, hrc5', s1]
        rfl
      · have hd2 : d < nc g.1 := hd
        rw [s2 d hd2]
        show _ = I (if 93 ≤ 93 + d ∧ 93 + d < 93 + nc g.1 then _ else _)
        rw [if_pos (by omega), Nat.add_sub_cancel_left]
      · show hn h1 ≤ _; omega
      · show hs h1 ≤ _; omega
end OP9e
