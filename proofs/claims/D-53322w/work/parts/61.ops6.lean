/-! PLAIN LAW: the reference's calls: rules, board, snapshots, undo, text -/
set_option maxRecDepth 100000
/-- a row that differs in the rules alone -/
theorem PInv_rule {s t : Nat → Nat} (h : PInv s) (he : ∀ k, k < 2 ∨ 8 ≤ k → t k = s k) (h2 : t 2 < 32) (h3 : ∀ r, r < 5 → 1 ≤ t (3 + r) ∧ t (3 + r) ≤ 9) : PInv t := by
  obtain ⟨⟨hP, -, h4, h5, h6⟩, h7, h8⟩ := h
  have hn := nc_le hP
  have en : nc t = nc s := nc_of (he 0 (by omega)) (he 1 (by omega))
  have hbs : ∀ e, bsz t e = bsz s e := fun e => by
    unfold bsz; rw [en]; exact sumTo_congr (fun i hi => by rw [he _ (by omega)])
  have hf : ∀ c, c < nc s → fst t c = fst s c := fun c hc => by
    unfold fst; rw [en]
    rw [firstI_congr (fun d hd => by rw [he (8 + d) (by omega), he (8 + c) (by omega)])]
  refine ⟨⟨PG_of (he 0 (by omega)) (he 1 (by omega)) hP, ⟨h2, h3⟩, fun d hd => ?_, fun d e hd hee hde => ?_, fun i hi => ?_⟩, fun c hc => ?_, fun c hc => ?_⟩
  · rw [en] at hd
    rw [he (8 + d) (by omega), hbs, he (33 + d) (by omega), he (58 + d) (by omega)]
    exact h4 d hd
  · rw [en] at hd hee
    rw [he (8 + d) (by omega), he (8 + e) (by omega), he (33 + d) (by omega), he (33 + e) (by omega)]
    exact h5 d e hd hee hde
  · rw [he 0 (by omega), he 1 (by omega)] at hi
    rw [he _ (by omega)]; exact h6 i hi
  · rw [en] at hc
    have h1 := fst_spec hc
    rw [he (8 + c) (by omega)]
    have e : rk t c = rk s c := by
      unfold rk rkTo
      rw [hf c hc]
      exact sumTo_congr (fun d hd => by unfold isF; rw [hf d (by omega)])
    rw [e]; exact h7 c hc
  · rw [en] at hc
    rw [he (93 + c) (by omega)]
    exact h8 c hc
/-- a row whose board alone differs -/
theorem PInv_brd {s t : Nat → Nat} (h : PInv s) (he : ∀ k, k < 93 → t k = s k) (h8 : BdI t) : PInv t :=
  ⟨QInv_Eq93 (fun k hk => (he k hk).symm) h.1, Nrm_Eq (fun k hk => (he k (by omega)).symm) h.1.1 h.2.1, h8⟩
def alw (a r k : Nat) : Nat := andn a (1 <<< r) ||| (k <<< r)
theorem alw_lt {a r k : Nat} (ha : a < 32) (hr : r < 5) (hk : k ≤ 1) : alw a r k < 32 := by
  have h1 := andn_le a (1 <<< r)
  have h2 : k <<< r < 2 ^ 5 := by
    rw [Nat.shiftLeft_eq]
    have h3 : k * 2 ^ r ≤ 1 * 2 ^ 4 := Nat.mul_le_mul hk (Nat.pow_le_pow_right (by decide) (by omega))
    omega
  exact Nat.or_lt_two_pow (n := 5) (show andn a (1 <<< r) < 2 ^ 5 by omega) h2
def o_allow (g : GS) (x y : Int32) : Int32 × GS :=
  if (bt x 0 4 && bt y 0 1) = true then chg g (I (pc (alw (g.1 2) (na x) (na y)))) (nup g.1 2 (alw (g.1 2) (na x) (na y))) else (-1, g)
def o_setCost (g : GS) (x y : Int32) : Int32 × GS :=
  if (bt x 0 4 && bt y 1 9) = true then chg g (I (g.1 (3 + na x))) (nup g.1 (3 + na x) (na y)) else (-1, g)
def o_restart (g : GS) : Int32 × GS := chg g (I (pcs g.1 (fb g.1))) (sReset g.1)
def bd (s : Nat → Nat) : Nat → Nat := fun c => s (93 + c)
def o_strike (g : GS) (x y : Int32) : Int32 × GS :=
  if (bt x 0 (nc g.1 - 1) && bt y 1 (bsz g.1 (g.1 (8 + na x)))) = true then
    (match strk g.1 (bd g.1) (na x) (na y) with
      | some t => chg g (I t.1) (nup g.1 (93 + na x) (andn (g.1 (93 + na x)) (1 <<< na y)))
      | none => (-2, g)) else (-1, g)
/-- the board on the way: at most so many steps -/
def sAdv (s : Nat → Nat) (n : Nat) : Nat → Nat := sBrd s (goN s (s 2) n (bd s)).2 25
def o_advance (g : GS) (x : Int32) : Int32 × GS :=
  if bt x 1 99 = true then
    (if (findS g.1 (bd g.1) (g.1 2)).isSome = true then chg g (I (goN g.1 (g.1 2) (na x) (bd g.1)).1.length) (fun k => if 93 ≤ k ∧ k < 93 + nc g.1 then (goN g.1 (g.1 2) (na x) (bd g.1)).2 (k - 93) else g.1 k) else (-2, g)) else (-1, g)
/-- a snapshot taken, a page put back -/
def sTake (s : Nat → Nat) (q : Nat) : Nat → Nat := fun k => if k = 118 + 119 * q then 1 else if 119 + 119 * q ≤ k ∧ k < 119 + 119 * q + 118 then s (k - (119 + 119 * q)) else s k
def sBack (s : Nat → Nat) (q : Nat) : Nat → Nat := fun k => if k < 118 then s (119 + 119 * q + k) else s k
def o_take (g : GS) (x : Int32) : Int32 × GS :=
  if bt x 0 1 = true then chg g (I (ngiv g.1 + nshw g.1)) (sTake g.1 (na x)) else (-1, g)
def o_restore (g : GS) (x : Int32) : Int32 × GS :=
  if bt x 0 1 = true then (if g.1 (118 + 119 * na x) = 0 then (-2, g) else chg g (I (ngiv (slt g.1 (na x)) + nshw (slt g.1 (na x)))) (sBack g.1 (na x))) else (-1, g)
def sUndo (s r : Nat → Nat) : Nat → Nat := fun k => if k < 356 then r k else s k
def o_undo (g : GS) : Int32 × GS := match g.2.1.getLast? with
  | none => (-2, g)
  | some r => (I (g.2.1.length - 1), (sUndo g.1 r, g.2.1.dropLast, g.2.2))
def o_append (g : GS) (x : Int32) : Int32 × GS :=
  if bt x 1 255 = true then (if g.2.2.1 = 140 then (-3, g) else (I (g.2.2.1 + 1), (g.1, g.2.1, g.2.2.1 + 1, nup g.2.2.2 g.2.2.1 (na x)))) else (-1, g)
def o_clearText (g : GS) : Int32 × GS := (I g.2.2.1, (g.1, g.2.1, 0, g.2.2.2))
section TW61
variable {m : Nat} {v : Nat → Int32} {A : Nat → Nat → Nat} {h : PH} {g : GS}
theorem tw_allow {x y : Int32} (hT : TI v A g) (hI : RInv g.1) : ∃ v' A', f_X13_allow (some m) x y (TW m v A h) = some ((o_allow g x y).1, TW m v' A' h) ∧ TI v' A' (o_allow g x y).2 := by
  have hs := TI_SB hT
  have hT0 := TI_v0 (x := I 0) hT
  unfold o_allow
  cases h1 : bt x 0 4 with
  | false =>
    refine ⟨_, _, ?_, hT0⟩
    simp (disch := first | omega | assumption) only [tw_rcv, tw_r1, tw_r2, tw_r3, tw_r5, tw_r7, tw_r12, tw_r14, tw_r15, tw_r16, tw_r17, tw_r18, Option.bind_some, lit_I, I_add, I_mul, I_le, I_lt, I_eq, if_neg, if_pos, if_true, if_false, I_10, I_01, bit_T, bit_F, bit_F', bit_0, bit_1, gb_bit, tw_s, tw_rw, tw_cells, tw_blockOf, tw_numberOf, aset_eq, aset_ne, aset_aset, Bool.false_eq_true, not_true_eq_false, not_false_eq_true, f_X13_allow, tw_p0, inZ, h1, Bool.false_and]
  | true =>
  obtain ⟨c, rfl, hna, -, hx⟩ := bt_ex (by decide) (by decide) h1
  simp only [hna]
  cases h2 : bt y 0 1 with
  | false =>
    refine ⟨_, _, ?_, hT0⟩
    simp (disch := first | omega | assumption) only [tw_rcv, tw_r1, tw_r2, tw_r3, tw_r5, tw_r7, tw_r12, tw_r14, tw_r15, tw_r16, tw_r17, tw_r18, Option.bind_some, lit_I, I_add, I_mul, I_le, I_lt, I_eq, if_neg, if_pos, if_true, if_false, I_10, I_01, bit_T, bit_F, bit_F', bit_0, bit_1, gb_bit, tw_s, tw_rw, tw_cells, tw_blockOf, tw_numberOf, aset_eq, aset_ne, aset_aset, Bool.false_eq_true, not_true_eq_false, not_false_eq_true, f_X13_allow, tw_p0, h1, inZ, h2, Bool.true_and]
  | true =>
  obtain ⟨k, rfl, hnk, -, hy⟩ := bt_ex (by decide) (by decide) h2
  simp only [hnk]
  obtain ⟨v1, A1, a1, a2, -, -⟩ := tw_actT (m := m) (h := h) hT0
  have s2 : A1 1 = g.1 := a2.2.1
  have h32 := alw_lt (k := k) hI.1.1.2.1.1 (show c < 5 by omega) hy
  have e : andn (g.1 2) (1 <<< c) ||| (k <<< c) = alw (g.1 2) c k := rfl
  refine ⟨v1, _, ?_, TI_set (s := nup g.1 2 (alw (g.1 2) c k)) a2 (nup_SB hs (by omega))⟩
  simp (disch := first | omega | assumption) only [tw_rcv, tw_r1, tw_r2, tw_r3, tw_r5, tw_r7, tw_r12, tw_r14, tw_r15, tw_r16, tw_r17, tw_r18, Option.bind_some, lit_I, I_add, I_mul, I_le, I_lt, I_eq, if_neg, if_pos, if_true, if_false, I_10, I_01, bit_T, bit_F, bit_F', bit_0, bit_1, gb_bit, tw_s, tw_rw, tw_cells, tw_blockOf, tw_numberOf, aset_eq, aset_ne, aset_aset, Bool.false_eq_true, not_true_eq_false, not_false_eq_true, f_X13_allow, tw_p0, h1, inZ, h2, Bool.true_and, a1, s2, I_andnI, I_shlM, I_and, I_or, tw_ws, e, nup_eq, tw_ones, chg]
theorem tw_setCost {x y : Int32} (hT : TI v A g) (hI : RInv g.1) : ∃ v' A', f_X13_setCost (some m) x y (TW m v A h) = some ((o_setCost g x y).1, TW m v' A' h) ∧ TI v' A' (o_setCost g x y).2 := by
  have hs := TI_SB hT
  have hT0 := TI_v0 (x := I 0) hT
  unfold o_setCost
  cases h1 : bt x 0 4 with
  | false =>
    refine ⟨_, _, ?_, hT0⟩
    simp (disch := first | omega | assumption) only [tw_rcv, tw_r1, tw_r2, tw_r3, tw_r5, tw_r7, tw_r12, tw_r14, tw_r15, tw_r16, tw_r17, tw_r18, Option.bind_some, lit_I, I_add, I_mul, I_le, I_lt, I_eq, if_neg, if_pos, if_true, if_false, I_10, I_01, bit_T, bit_F, bit_F', bit_0, bit_1, gb_bit, tw_s, tw_rw, tw_cells, tw_blockOf, tw_numberOf, aset_eq, aset_ne, aset_aset, Bool.false_eq_true, not_true_eq_false, not_false_eq_true, f_X13_setCost, tw_p0, inZ, h1, Bool.false_and]
  | true =>
  obtain ⟨c, rfl, hna, -, hx⟩ := bt_ex (by decide) (by decide) h1
  simp only [hna]
  cases h2 : bt y 1 9 with
  | false =>
    refine ⟨_, _, ?_, hT0⟩
    simp (disch := first | omega | assumption) only [tw_rcv, tw_r1, tw_r2, tw_r3, tw_r5, tw_r7, tw_r12, tw_r14, tw_r15, tw_r16, tw_r17, tw_r18, Option.bind_some, lit_I, I_add, I_mul, I_le, I_lt, I_eq, if_neg, if_pos, if_true, if_false, I_10, I_01, bit_T, bit_F, bit_F', bit_0, bit_1, gb_bit, tw_s, tw_rw, tw_cells, tw_blockOf, tw_numberOf, aset_eq, aset_ne, aset_aset, Bool.false_eq_true, not_true_eq_false, not_false_eq_true, f_X13_setCost, tw_p0, h1, inZ, h2, Bool.true_and]
  | true =>
  obtain ⟨k, rfl, hnk, -, hy⟩ := bt_ex (by decide) (by decide) h2
  simp only [hnk]
  obtain ⟨v1, A1, a1, a2, -, -⟩ := tw_actT (m := m) (h := h) hT0
  have s2 : A1 1 = g.1 := a2.2.1
  refine ⟨v1, _, ?_, TI_set (s := nup g.1 (3 + c) k) a2 (nup_SB hs (by omega))⟩
  simp (disch := first | omega | assumption) only [tw_rcv, tw_r1, tw_r2, tw_r3, tw_r5, tw_r7, tw_r12, tw_r14, tw_r15, tw_r16, tw_r17, tw_r18, Option.bind_some, lit_I, I_add, I_mul, I_le, I_lt, I_eq, if_neg, if_pos, if_true, if_false, I_10, I_01, bit_T, bit_F, bit_F', bit_0, bit_1, gb_bit, tw_s, tw_rw, tw_cells, tw_blockOf, tw_numberOf, aset_eq, aset_ne, aset_aset, Bool.false_eq_true, not_true_eq_false, not_false_eq_true, f_X13_setCost, tw_p0, h1, inZ, h2, Bool.true_and, a1, s2, tw_ws, chg]
theorem tw_restart (hT : TI v A g) (hI : RInv g.1) : ∃ v' A', f_X13_restart (some m) (TW m v A h) = some ((o_restart g).1, TW m v' A' h) ∧ TI v' A' (o_restart g).2 := by
  have hQ := hI.1.1
  obtain ⟨v1, A1, a1, a2, -, -⟩ := tw_actT (m := m) (h := h) (TI_v0 (x := I 0) hT)
  obtain ⟨A4, f3, f4, -, f5⟩ := tw_resetT (m := m) (h := h) a2 hQ
  have s4 : A4 1 = sReset g.1 := f4.2.1
  have hpm := tw_possibleMany (m := m) (v := v1) (A := A4) (h := h) (f4.1 5) (by rw [s4]; exact PG_of (sReset_lo (by omega)) (sReset_lo (by omega)) hQ.1)
  have e : pcs (A4 1) (A4 5) = pcs g.1 (fb g.1) := by
    rw [f5, s4]
    unfold pcs
    rw [nc_sReset]
    exact sumTo_congr (fun i hi => by rw [wTo_Eq i hi])
  rw [e] at hpm
  refine ⟨v1, A4, ?_, f4⟩
  simp (disch := first | omega | assumption) only [tw_rcv, tw_r1, tw_r2, tw_r3, tw_r5, tw_r7, tw_r12, tw_r14, tw_r15, tw_r16, tw_r17, tw_r18, Option.bind_some, lit_I, I_add, I_mul, I_le, I_lt, I_eq, if_neg, if_pos, if_true, if_false, I_10, I_01, bit_T, bit_F, bit_F', bit_0, bit_1, gb_bit, tw_s, tw_rw, tw_cells, tw_blockOf, tw_numberOf, aset_eq, aset_ne, aset_aset, Bool.false_eq_true, not_true_eq_false, not_false_eq_true, f_X13_restart, tw_p0, a1, f3, hpm, o_restart, chg]
theorem tw_layPT (hT : TI v A g) (hI : RInv g.1) : ∃ A', f_X13_layPlayers (some m) (TW m v A h) = some (TW m v A' h) ∧ TI v A' g ∧ EqN (nc g.1) (A' 5) (bd g.1) ∧ W7 g.1 (A' 5) ∧ SB (A' 5) ∧ A' = aset A 5 (A' 5) := by
  have hP := hI.1.1.1
  have s1 : A 1 = g.1 := hT.2.1
  have e := tw_layPlayers (m := m) (v := v) (A := A) (h := h) (by rw [s1]; exact hP)
  rw [s1] at e
  have h7 : W7 g.1 (bd g.1) := fun c hc => (hI.1.2.2 c hc).1
  have hsb : SB (wTo (bd g.1) (A 5) (nc g.1)) := wTo_SB h7 (hT.1 5)
  refine ⟨_, e, TI_o hT hsb (by decide) (by decide) (by decide), ?_, ?_, ?_, ?_⟩
  · rw [aset_eq]; exact wTo_Eq
  · rw [aset_eq]; exact W7_Eq h7 wTo_Eq
  · rw [aset_eq]; exact hsb
  · rw [aset_eq]
theorem strk_congr {s w w' : Nat → Nat} {c n : Nat} (hP : PG' s) (hc : c < nc s) (hE : EqN (nc s) w w') : strk s w c n = strk s w' c n := by
  unfold strk
  rw [hE c hc, brk_congr hE, firstI_congr (fun r hr => by rw [causeC_congr hP hc hE])]
  congr 2
  funext r
  rw [causeC_congr hP hc hE]
theorem TI_VK {v' : Nat → Int32} (hT : TI v A g) (h4 : v' 4 = v 4) (h6 : v' 6 = v 6) : TI v' A g := by
  obtain ⟨i1, i2, i3, i4, i5, i6⟩ := hT
  exact ⟨i1, i2, i3, h4.trans i4, h6.trans i5, i6⟩
theorem tw_strkT {c n : Nat} (hT : TI v A g) (hI : RInv g.1) (hc : c < nc g.1) (hn6 : n ≤ 6) (hE : EqN (nc g.1) (A 5) (bd g.1)) (h7 : W7 g.1 (A 5)) : f_X13_strikerOf (some m) (I c) (I n) (TW m v A h) = some (cz ((strk g.1 (bd g.1) c n).map Prod.fst), TW m (strV v (strk g.1 (bd g.1) c n)) A h) ∧ TI (strV v (strk g.1 (bd g.1) c n)) A g := by
  have hP := hI.1.1.1
  have s1 : A 1 = g.1 := hT.2.1
  have e := tw_strikerOf (m := m) (v := v) (A := A) (h := h) (c := c) (n := n) (by rw [s1]; exact hc) hn6 hT.1 (by rw [s1]; exact hP) (by rw [s1]; exact hI.1.1.NB) (by rw [s1]; exact h7)
  rw [s1, strk_congr hP hc hE] at e
  refine ⟨e, ?_⟩
  cases strk g.1 (bd g.1) c n with
  | none => exact hT
  | some t => exact TI_VK hT (vup_ne _ (by decide)) (vup_ne _ (by decide))
theorem tw_strike {x y : Int32} (hT : TI v A g) (hI : RInv g.1) : ∃ v' A', f_X13_strike (some m) x y (TW m v A h) = some ((o_strike g x y).1, TW m v' A' h) ∧ TI v' A' (o_strike g x y).2 := by
  have hQ := hI.1.1
  have hP := hQ.1
  have hn := nc_le hP
  have hT0 := TI_v0 (x := I 0) hT
  have s1 : A 1 = g.1 := hT.2.1
  have hP1 : PG' (A 1) := by rw [s1]; exact hP
  have hA1 : SB (A 1) := hT.1 1
  have hs := TI_SB hT
  have hin := isNumberZ (m := m) (v := vup v 0 (I 0)) (h := h) (x := x) (y := y) hA1 hP1
  rw [s1] at hin
  unfold o_strike
  cases h1 : (bt x 0 (nc g.1 - 1) && bt y 1 (bsz g.1 (g.1 (8 + na x)))) with
  | false =>
    refine ⟨_, _, ?_, hT0⟩
    simp (disch := first | omega | assumption) only [tw_rcv, tw_r1, tw_r2, tw_r3, tw_r5, tw_r7, tw_r12, tw_r14, tw_r15, tw_r16, tw_r17, tw_r18, Option.bind_some, lit_I, I_add, I_mul, I_le, I_lt, I_eq, if_neg, if_pos, if_true, if_false, I_10, I_01, bit_T, bit_F, bit_F', bit_0, bit_1, gb_bit, tw_s, tw_rw, tw_cells, tw_blockOf, tw_numberOf, aset_eq, aset_ne, aset_aset, Bool.false_eq_true, not_true_eq_false, not_false_eq_true, f_X13_strike, tw_p0, hin, h1]
  | true =>
  obtain ⟨h2, h3⟩ := (Bool.and_eq_true _ _).mp h1
  obtain ⟨c, rfl, hna, -, hx⟩ := bt_ex (by decide) (by omega) h2
  have hc : c < nc g.1 := by omega
  rw [hna] at h3
  have hz6 := (hQ.2.2.1 _ hc).1
  obtain ⟨k, rfl, hnk, hy0, hy⟩ := bt_ex (by decide) (by omega) h3
  simp only [hna, hnk]
  obtain ⟨A2, b1, b2, b3, b4, -⟩ := tw_layPT (m := m) (h := h) hT0 hI
  obtain ⟨c1, c2⟩ := tw_strkT (m := m) (h := h) (c := c) (n := k) b2 hI hc (by omega) b3 b4
  cases hst : strk g.1 (bd g.1) c k with
  | none =>
    rw [hst] at c1 c2
    refine ⟨_, _, ?_, c2⟩
    simp (disch := first | omega | assumption) only [tw_rcv, tw_r1, tw_r2, tw_r3, tw_r5, tw_r7, tw_r12, tw_r14, tw_r15, tw_r16, tw_r17, tw_r18, Option.bind_some, lit_I, I_add, I_mul, I_le, I_lt, I_eq, if_neg, if_pos, if_true, if_false, I_10, I_01, bit_T, bit_F, bit_F', bit_0, bit_1, gb_bit, tw_s, tw_rw, tw_cells, tw_blockOf, tw_numberOf, aset_eq, aset_ne, aset_aset, Bool.false_eq_true, not_true_eq_false, not_false_eq_true, f_X13_strike, tw_p0, hin, h1, b1, c1, Option.map_none, cz]
  | some t =>
    rw [hst] at c1 c2
    have ht := strk_lt hst
    obtain ⟨v1, A1, a1, a2, -, -⟩ := tw_actT (m := m) (h := h) c2
    have s2 : A1 1 = g.1 := a2.2.1
    have h93 := (hI.1.2.2 c hc).1
    have h94 := andn_le (g.1 (93 + c)) (1 <<< k)
    refine ⟨v1, _, ?_, TI_set (s := nup g.1 (93 + c) (andn (g.1 (93 + c)) (1 <<< k))) a2 (nup_SB hs (by omega))⟩
    simp (disch := first | omega | assumption) only [tw_rcv, tw_r1, tw_r2, tw_r3, tw_r5, tw_r7, tw_r12, tw_r14, tw_r15, tw_r16, tw_r17, tw_r18, Option.bind_some, lit_I, I_add, I_mul, I_le, I_lt, I_eq, if_neg, if_pos, if_true, if_false, I_10, I_01, bit_T, bit_F, bit_F', bit_0, bit_1, gb_bit, tw_s, tw_rw, tw_cells, tw_blockOf, tw_numberOf, aset_eq, aset_ne, aset_aset, Bool.false_eq_true, not_true_eq_false, not_false_eq_true, f_X13_strike, tw_p0, hin, h1, b1, c1, Option.map_some, cz, cz_none_ne, a1, s2, I_andnI, I_shlM, I_and, tw_ws, chg]
end TW61
