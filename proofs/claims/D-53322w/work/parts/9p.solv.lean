/-! PLAIN LAW: the class: a board of its own solved -/
set_option maxRecDepth 100000
section OP9p
variable {m x : Nat} {h : PH} {g : GS}
theorem BdC_new {p : Nat} {f : Nat → Int32} : BdC (ov h (bdl (hn h) p f)) (hn h) p f := ⟨ov_at (i := 0) rfl, ov_at (i := 1) rfl⟩
theorem bdw_new {p : Nat} {f f' : Nat → Int32} : bdw (ov h (bdl (hn h) p f)) (hn h) f' = ov h (bdl (hn h) p f') := ov_set (i := 1) (n := 25) rfl
/-- a new board of a page, solved by the object's solver -/
theorem c_solveB {p mm rules L : Nat} {ms : Nat → Nat} {s w : Nat → Nat} {f : Nat → Int32} (C : CI m h x g) (H : PgB h p mm ms s) (hQ : QInv s) (hN : Nrm s) (hS : SB s) (hW : W7 s w) (hB : B0 s w) (hru : rules < 1000000) (hL : L < 2147483648) (hf : ∀ c, c < nc s → f c = I (w c)) :
    ∃ h' v, gfr 0 3 (some x) h = some (some v) ∧ rcv 5 (some v) h = some () ∧ rcv 5 (some v) (ov h (bdl (hn h) p f)) = some () ∧ f_X5_solve (some v) (some (hn h + 0)) (I rules) (I L) (ov h (bdl (hn h) p f)) = some (I (goN s rules L w).1.length, h') ∧ CI m h' x g ∧ Keep h h' ∧ hn h' = hn h + 2 ∧ hs h' = hs h + 27 ∧ PgR h' p mm ms s ∧ BdR h' (hn h + 0) p s (goN s rules L w).2 ∧ gfr 0 3 (some x) h' = some (some v) ∧ (∀ a c, a < hn h → h.1 a = some c → ki c ≠ 5 → h'.1 a = some c) := by
  have hnc := nc_le hQ.1
  have C1 : CI m (ov h (bdl (hn h) p f)) x g := C.old Old.ov
  obtain ⟨v, ra, ru, w1, w2, w3, w4⟩ := C1.solver
  obtain ⟨v0, ra0, ru0, u1, u2, u3, u4⟩ := C.solver
  have hx : x < hn h := by obtain ⟨st, d, da, u, ua, v', ra', ru', la, ⟨-, -, -, -, -, -, o1, -⟩, -⟩ := C; exact o1.1
  have hv : v0 = v := by rw [ov_gfr_o hx, u1] at w1; cases w1; rfl
  subst hv
  have hBd : BdC (ov h (bdl (hn h) p f)) (hn h) p f := BdC_new
  have hPg := (H.ov (l := bdl (hn h) p f)).1
  have CC := CU_of hPg (hBd.R hnc.2 hf) w2 hQ hN hS hW hB
  have hlt := H.2
  have D : DjB p ms s (hn h) := ⟨by have := hlt (p + 1) (Or.inl (by omega)); omega, by have := hlt (p + 2) (Or.inl (by omega)); omega, fun k hk => by have := hlt (ms k) (Or.inr (Or.inr ⟨k, hk, rfl⟩)); omega⟩
  obtain ⟨f', q', s1, s2⟩ := cs_solve (rules := rules) (L := L) hru hL D CC hBd hf
  rw [bdw_new] at s1
  have C2 : CI m (ov h (bdl (hn h) p f')) x g := C.old Old.ov
  obtain ⟨v2, ra2, ru2, y1, y2, y3, y4⟩ := C2.solver
  have hv2 : v2 = v0 := by rw [ov_gfr_o hx, u1] at y1; cases y1; rfl
  subst hv2
  have hra : ra2 = ra := by
    obtain ⟨⟨qa, ha⟩, -⟩ := w2
    obtain ⟨⟨qb, hb⟩, -⟩ := y2
    rw [ov_old u3] at ha hb
    rw [ha] at hb
    simp only [svo, Option.some.injEq, Sum.inr.injEq, Prod.mk.injEq, List.cons.injEq, Value.ref.injEq] at hb
    exact hb.2.1.symm
  subst hra
  obtain ⟨k1, k2, k3, k4⟩ := y4 q'
  refine ⟨_, v2, u1, ?_, ?_, s1, k1, Old.keep Old.ov |>.trans k3, rfl, rfl, PgR_sol y2 (H.ov (l := bdl (hn h) p f')).1, BdR_sol y2 (BdC_new.R hnc.2 s2), k4, fun a c ha hc hk => ?_⟩
  · obtain ⟨⟨q0, hq⟩, -⟩ := u2
    exact rcv_at hq
  · obtain ⟨⟨q0, hq⟩, -⟩ := w2
    exact rcv_at hq
  · have : a ≠ v2 := by
      intro e; subst e
      obtain ⟨⟨q0, hq⟩, -⟩ := u2
      rw [hq] at hc; cases hc; exact hk rfl
    show (hset _ v2 _).1 a = some c
    rw [hset_ne this, ov_old ha]; exact hc
theorem goN_big {s w : Nat → Nat} {rules : Nat} (hP : PG' s) : goN s rules 2147483647 w = goE s rules w := by
  have hmu := mu_le s w
  have hnc := nc_le hP
  exact (goN_end 151 w (by omega)).2 2147483647 (by omega)
/-- can a page be solved -/
theorem c_solvable {p mm rules : Nat} {ms : Nat → Nat} {s : Nat → Nat} (C : CI m h x g) (H : PgB h p mm ms s) (hQ : QInv s) (hN : Nrm s) (hS : SB s) (hru : rules < 1000000) :
    ∃ h' v, gfr 0 3 (some x) h = some (some v) ∧ rcv 5 (some v) h = some () ∧ f_X5_isSolvable (some v) (some p) (I rules) h = some (I (bit (solv s rules = true)), h') ∧ CI m h' x g ∧ Keep h h' ∧ hn h' = hn h + 2 ∧ hs h' = hs h + 27 ∧ gfr 0 3 (some x) h' = some (some v) ∧ (∀ a c, a < hn h → h.1 a = some c → ki c ≠ 5 → h'.1 a = some c) := by
  have hnc := nc_le hQ.1
  have hW := fb_W7 hQ.NB
  have hB : B0 s (fb s) := fun c hc => fb_0 hQ hc
  obtain ⟨h', v, a1, a2, a3, a4, a5, a6, a7, a8, a9, a10, a11, a12⟩ := c_solveB (f := fbI s (nc s)) (w := fb s) (L := 2147483647) C H hQ hN hS hW hB hru (by decide) (fun c hc => by unfold fbI; rw [if_pos hc])
  rw [goN_big hQ.1] at a4 a10
  have hW2 : W7 s (goE s rules (fb s)).2 := goN_W7 151 _ hW
  have hout := cb_outcome a9 a10 hQ.1 hW2
  obtain ⟨n1, n2⟩ := cb_new H hQ.1 hQ.NB hN (fun c hc => (hQ.2.2.1 c hc).2.2.1)
  refine ⟨h', v, a1, a2, ?_, a5, a6, a7, a8, a11, a12⟩
  have e : solv s rules = (outc s (goE s rules (fb s)).2 == 1) := rfl
  unfold f_X5_isSolvable
  rw [n1, Option.bind_some]
  simp only [nn, Option.bind_some, n2, a3, show (2147483647 : Int32) = I 2147483647 from rfl, a4, a10.rc, hout]
  have hol := outc_le s (goE s rules (fb s)).2
  by_cases q : outc s (goE s rules (fb s)).2 = 1
  · rw [if_pos (by rw [q]; rfl), e, q]; rfl
  · rw [if_neg (by rw [show (1 : Int32) = I 1 from rfl, I_eq (by omega) (by decide)]; exact q), e]
    have : (outc s (goE s rules (fb s)).2 == 1) = false := by simpa using q
    rw [this]; rfl
theorem c_isSolv {p mm : Nat} {ms : Nat → Nat} {s : Nat → Nat} (C : CI m h x g) (hI : RInv g.1) (H : PgB h p mm ms s) (hQ : QInv s) (hN : Nrm s) (hS : SB s) :
    ∃ h', f_X0_isSolvable (some x) (some p) h = some (I (bit (solv s (g.1 2) = true)), h') ∧ CI m h' x g ∧ Keep h h' ∧ hn h' = hn h + 2 ∧ hs h' = hs h + 27 ∧ (∀ a c, a < hn h → h.1 a = some c → ki c ≠ 5 → h'.1 a = some c) := by
  obtain ⟨h', v, a1, a2, a3, a4, a5, a6, a7, a8, a9⟩ := c_solvable (rules := g.1 2) C H hQ hN hS (by have := hI.1.1.2.1.1; omega)
  obtain ⟨sh, p', b, co, mm', ms', r0, hpage, hbd, hsh, HB, B, r8, -⟩ := C.lk hI.1.1.1
  refine ⟨h', ?_, a4, a5, a6, a7, a9⟩
  unfold f_X0_isSolvable
  simp only [a1, r0, hsh, r8, a2, a3, Option.bind_some, gb_bit]
theorem c_bcopy {p mm b : Nat} {ms : Nat → Nat} (C : CI m h x g) (hI : RInv g.1) (H : PgB h p mm ms g.1) (B : BdR h b p g.1 (bd g.1)) (hbd : f_X0_board (some x) h = some (some b, h)) : ∃ f1 : Nat → Int32, f_X4_copy (some b) h = some (some (hn h + 0), ov h (bdl (hn h) p f1)) ∧ ∀ c, c < nc g.1 → f1 c = I (bd g.1 c) := by
  have hQ := hI.1.1
  have hnc := nc_le hQ.1
  obtain ⟨st, d, da, u, ua, v, ra, ru, la, CM0, sh, sl, fs, t1, t2, ⟨p2, b2, co, mm2, ms2, f, al, fc, fw, ⟨⟨s1, s2⟩, X, W, M, ⟨Bc, b3⟩, ⟨c1, c2⟩, l1, l2, l3, l4, l5, l6, l7⟩⟩, -⟩ := C
  have r0 : gfr 0 0 (some x) h = some (some st) := gfr_at (x := some st) CM0.1 rfl
  have r1 : gfr 1 0 (some st) h = some (some sh) := gfr_at (x := some sh) t1 rfl
  have r2 : gfr 2 1 (some sh) h = some (some b2) := gfr_at (x := some b2) s1 rfl
  have hb : b2 = b := by
    simp only [f_X0_board, r0, r1, r2, Option.bind_some, Option.some.injEq, Prod.mk.injEq, and_true] at hbd
    exact hbd
  subst hb
  have hp : p2 = p := by
    have e1 := B.r0
    have e2 : gfr 4 0 (some b2) h = some (some p2) := gfr_at (x := some p2) Bc.1 rfl
    rw [e2] at e1; cases e1; rfl
  subst hp
  have g0 : ∀ l, gfr 4 0 (some b2) (ov h l) = some (some p2) := fun l => by rw [ov_gfr_o l3.1]; exact gfr_at (x := some p2) Bc.1 rfl
  have g1 : ∀ l, gfr 4 1 (some b2) (ov h l) = some (some (b2 + 1)) := fun l => by rw [ov_gfr_o l3.1]; exact gfr_at (x := some (b2 + 1)) Bc.1 rfl
  have g2 : ∀ l, ar 0 (some (b2 + 1)) (ov h l) = some (25, .inl fw) := fun l => by rw [ov_ar l4.1]; exact ar_at Bc.2
  obtain ⟨n1, n2⟩ := cb_new H hQ.1 hQ.NB hI.1.2.1 (fun c hc => (hQ.2.2.1 c hc).2.2.1)
  have g3 : gfr 4 1 (some (hn h + 0)) (ov h (bdl (hn h) p2 (fbI g.1 (nc g.1)))) = some (some (hn h + 1)) := ov_gfr (x := some (hn h + 1)) (i := 0) rfl rfl
  have g4 := ov_aci (t := 0) (h := h) (l := bdl (hn h) p2 (fbI g.1 (nc g.1))) (i := 1) (k := 25) (g2 _) rfl (by decide) (by decide) (by decide) (fun j _ => fits0 _)
  refine ⟨va_cpy fw (fbI g.1 (nc g.1)) 0 0 25, ?_, fun c hc => ?_⟩
  · unfold f_X4_copy
    rw [n1, Option.bind_some]
    simp only [g0, nn, Option.bind_some, n2, g1, g3]
    rw [show (0 : Int32) = I 0 from rfl, show (25 : Int32) = I 25 from rfl, g4]
    rfl
  · rw [cpy_cut2 (fun j hj => by unfold fbI; rw [if_neg (by omega)]), cut_lt (by omega)]; exact b3 c hc
theorem c_suppose {y z w : Int32} (C : CI m h x g) (hI : RInv g.1) (hS : SB g.1) : Res m x h (r_suppose g y z w, g) (f_X0_suppose (some x) y z w h) := by
  have hQ := hI.1.1
  have hN := hI.1.2.1
  have hP := hQ.1
  have hnc := nc_le hP
  obtain ⟨sh, p, b, co, mm, ms, r0, hpage, hbd, hsh, HB, B, r8, r9, r10, r11⟩ := C.lk hP
  have hin := c_isNumber (y := y) (z := z) C hI
  unfold r_suppose
  cases h1 : bt y 0 (nc g.1 - 1) && bt z 1 (bsz g.1 (g.1 (8 + na y))) with
  | false =>
    rw [h1] at hin
    refine Res.see C ?_
    simp only [Bool.false_and, Bool.false_eq_true, if_false]
    simp (disch := first | omega | assumption) only [f_X0_suppose, r0, hin, Option.bind_some, lit_I, Bool.false_eq_true, bit_F', if_true]
  | true =>
    rw [h1] at hin
    cases h5 : bt w 0 1 with
    | false =>
      refine Res.see C ?_
      simp only [Bool.and_false, Bool.false_eq_true, if_false]
      simp (disch := first | omega | assumption) only [f_X0_suppose, r0, hin, betZ, h5, Option.bind_some, lit_I, bit_T, I_10, if_false, Bool.false_eq_true, bit_F', if_true]
    | true =>
      obtain ⟨h2, h3⟩ := Bool.and_eq_true _ _ ▸ h1
      obtain ⟨e1, -, e3⟩ := bt_na (by decide) (by omega) h2
      have hc : na y < nc g.1 := by omega
      have hbz := (hQ.2.2.1 _ hc).1
      obtain ⟨e4, e40, e5⟩ := bt_na (by decide) (by omega) h3
      obtain ⟨e6, -, e7⟩ := bt_na (by decide) (by decide) h5
      generalize na y = c at *
      generalize na z = k at *
      generalize na w = j at *
      subst e1 e4 e6
      have hp := cb_isPossible (n := k) B hI.1.W7 hc (by omega)
      have e8 : bd g.1 c = g.1 (93 + c) := rfl
      rw [e8] at hp
      simp only [Bool.and_self, if_true]
      cases ht : (g.1 (93 + c)).testBit k with
      | false =>
        rw [ht] at hp
        refine Res.see C ?_
        simp only [Bool.false_eq_true, if_false]
        simp (disch := first | omega | assumption) only [f_X0_suppose, r0, hin, betZ, h5, hbd, B.rc, hp, Option.bind_some, lit_I, bit_T, I_10, if_false, Bool.false_eq_true, bit_F', if_true]
      | true =>
        rw [ht] at hp
        simp only [if_true]
        -- the copy
        obtain ⟨l, hcp, hl⟩ : ∃ f1 : Nat → Int32, f_X4_copy (some b) h = some (some (hn h + 0), ov h (bdl (hn h) p f1)) ∧ ∀ c, c < nc g.1 → f1 c = I (bd g.1 c) := c_bcopy C hI HB B hbd
        have h25 : c < 25 := by omega
        have hW2 : W7 g.1 (nup (bd g.1) c (1 <<< k)) := fun d hd => by
          by_cases e : d = c
          · subst e; rw [nup_eq]
            have : k ≤ 6 := by omega
            have : k = 0 ∨ k = 1 ∨ k = 2 ∨ k = 3 ∨ k = 4 ∨ k = 5 ∨ k = 6 := by omega
            rcases this with e | e | e | e | e | e | e <;> subst e <;> decide
          · rw [nup_ne e]; exact hI.1.W7 d hd
        have hB2 : B0 g.1 (nup (bd g.1) c (1 <<< k)) := fun d hd => by
          by_cases e : d = c
          · subst e; rw [nup_eq, sh1_tb]; simp; omega
          · rw [nup_ne e]; exact hI.1.B0 d hd
        obtain ⟨h', v, a1, a2, a3, a4, a5, a6, a7, a8, a9, a10, a11, a12⟩ := c_solveB (f := upd l c (I (1 <<< k))) (w := nup (bd g.1) c (1 <<< k)) (L := 2147483647) (rules := g.1 2) C HB hQ hN hS hW2 hB2 (by have := hQ.2.1.1; omega) (by decide) (fun d hd => by
          by_cases e : d = c
          · subst e; rw [nup_eq]; simp [upd]
          · rw [nup_ne e]; simp only [upd, e, if_false]; exact hl d hd)
        rw [goN_big hP] at a4 a10
        have hW3 : W7 g.1 (goE g.1 (g.1 2) (nup (bd g.1) c (1 <<< k))).2 := goN_W7 151 _ hW2
        have hout := cb_outcome a9 a10 hP hW3
        have q1 : gfr 4 1 (some (hn h + 0)) (ov h (bdl (hn h) p l)) = some (some (hn h + 1)) := ov_gfr (x := some (hn h + 1)) (i := 0) rfl rfl
        have q2 : asi 0 (some (hn h + 1)) (I c) (I (1 <<< k)) (ov h (bdl (hn h) p l)) = some (ov h (bdl (hn h) p (upd l c (I (1 <<< k))))) := ov_asi (i := 1) rfl h25 (by decide)
        have hx : x < hn h := by obtain ⟨st, d, da, u, ua, v', ra', ru', la, ⟨-, -, -, -, -, -, o1, -⟩, -⟩ := C; exact o1.1
        obtain ⟨st', sh', p', b', co', mm', ms', d', u', v', z0, z1, -, -, z4, z5, z6, z7, z8, -⟩ := (C.old (Old.ov (l := bdl (hn h) p (upd l c (I (1 <<< k)))))).look hP
        have hvv : v' = v := by rw [ov_gfr_o hx, a1] at z4; cases z4; rfl
        subst hvv
        have hsh' : f_X0_sheet (some x) (ov h (bdl (hn h) p (upd l c (I (1 <<< k))))) = some (some sh', ov h (bdl (hn h) p (upd l c (I (1 <<< k))))) := by simp only [f_X0_sheet, z1, z5, Option.bind_some]
        have hsl : (1 : Int32) <<< (I k &&& 31) = I (1 <<< k) := I_shl (a := 1) (by omega)
        refine ⟨h', ?_, a5, a6, by omega, by omega⟩
        have hj : j = 0 ∨ j = 1 := by omega
        unfold f_X0_suppose
        rw [hsl]
        rcases hj with e | e <;> subst e <;>
        simp (disch := first | omega | assumption) only [r0, hin, betZ, h5, hbd, B.rc, hp, hcp, q1, q2, z4, z0, hsh', z8, a3, a4, a10.rc, hout, Option.bind_some, lit_I, bit_T, I_10, if_false, if_true, I_ne, eq_self, Nat.one_ne_zero]
end OP9p
