/-! PLAIN LAW: the reference's calls: cells moved, numbers written, clues -/
set_option maxRecDepth 100000
noncomputable def connB (s : Nat → Nat) (b : Nat) (but : Option Nat) : Bool := @decide (Conn s b but) (Classical.propDecidable _)
theorem connB_eq {s : Nat → Nat} {b : Nat} {but : Option Nat} {r : Bool} (h : r = true ↔ Conn s b but) : r = connB s b but := by
  have h2 : connB s b but = true ↔ Conn s b but := by
    unfold connB
    exact @decide_eq_true_iff _ (Classical.propDecidable _)
  exact Bool.eq_iff_iff.mpr (h.trans h2.symm)
def sMove (s : Nat → Nat) (c b' : Nat) : Nat → Nat := nup (sClr (sClr s (s (8 + c))) b') (8 + c) b'
def sSplit (s : Nat → Nat) (c : Nat) : Nat → Nat := nup (sClr s (s (8 + c))) (8 + c) 25
/-- what a change of the page leaves -/
def chg (g : GS) (r : Int32) (s : Nat → Nat) : Int32 × GS := (r, (s, push g.2.1 g.1, g.2.2))
noncomputable def o_moveCell (g : GS) (x y : Int32) : Int32 × GS :=
  if (bt x 0 (nc g.1 - 1) && (bt y 0 (nc g.1 - 1) && adjb (g.1 1) (na x) (na y))) = true then
    (if g.1 (8 + na x) = g.1 (8 + na y) then (-2, g) else if connB g.1 (g.1 (8 + na x)) (some (na x)) = true then
      (if bsz g.1 (g.1 (8 + na y)) = 6 then (-3, g) else chg g (I (rkTo (sMove g.1 (na x) (g.1 (8 + na y))) (nc g.1))) (sReset (sRen (sMove g.1 (na x) (g.1 (8 + na y)))))) else (-2, g)) else (-1, g)
noncomputable def o_splitCell (g : GS) (x : Int32) : Int32 × GS :=
  if bt x 0 (nc g.1 - 1) = true then
    (if bsz g.1 (g.1 (8 + na x)) = 1 then (-2, g) else if connB g.1 (g.1 (8 + na x)) (some (na x)) = true then chg g (I (rkTo (sSplit g.1 (na x)) (nc g.1))) (sReset (sRen (sSplit g.1 (na x)))) else (-2, g)) else (-1, g)
theorem bsz_none {s : Nat → Nat} {b : Nat} (h : ∀ c, c < nc s → s (8 + c) ≠ b) : bsz s b = 0 := by
  have : bsz s b ≤ sumTo (fun _ => 0) (nc s) := sumTo_le (fun i hi => by rw [if_neg (h i hi)]; exact Nat.le_refl _)
  have e : ∀ n, sumTo (fun _ => 0) n = 0 := fun n => by induction n with | zero => rfl | succ n ih => simp [sumTo, ih]
  rw [e] at this; omega
theorem QInv_move {s : Nat → Nat} {c d : Nat} (h : QInv s) (hc : c < nc s) (hd : d < nc s) (hne : ¬ s (8 + c) = s (8 + d)) (h6 : ¬ bsz s (s (8 + d)) = 6) : QInv (sMove s c (s (8 + d))) := by
  have hP := h.1
  have h1 := QInv_sClr (b := s (8 + c)) h
  have h2 := QInv_sClr (b := s (8 + d)) h1
  have hn := nc_le hP
  have hP1 := PG_sClr (b := s (8 + c)) hP
  have e8 : ∀ e, e < nc s → sClr (sClr s (s (8 + c))) (s (8 + d)) (8 + e) = s (8 + e) := fun e he => by rw [sClr_lo hP1 (by omega), sClr_lo hP (by omega)]
  have hle := (h.2.2.1 d hd).1
  refine QInv_put h2 (by rw [nc_sClr hP1, nc_sClr hP]; exact hc) (fun e he => ?_) (by rw [bsz_sClr hP1, bsz_sClr hP]; omega) (by rw [e8 c hc]; exact hne)
  rw [nc_sClr hP1, nc_sClr hP] at he
  rw [e8 e he, e8 c hc]
  intro hq
  rw [(sClr_33 hP1 (by rw [nc_sClr hP]; exact he)).1, (sClr_33 hP he).1, sClr_lo (k := 8 + e) hP (by omega)]
  rcases hq with q | q
  · rw [if_pos q]; split <;> rfl
  · rw [if_pos q]
theorem QInv_split {s : Nat → Nat} {c : Nat} (h : QInv s) (hN : Nrm s) (hc : c < nc s) : QInv (sSplit s c) := by
  have hP := h.1
  have h1 := QInv_sClr (b := s (8 + c)) h
  have hn := nc_le hP
  have e8 : ∀ e, e < nc s → sClr s (s (8 + c)) (8 + e) = s (8 + e) := fun e he => sClr_lo hP (by omega)
  have hlt : ∀ e, e < nc s → s (8 + e) ≠ 25 := fun e he => by
    rw [hN e he]
    have h2 := fst_spec he
    have h3 := rkTo_le s (fst s e)
    unfold rk; omega
  refine QInv_put h1 (by rw [nc_sClr hP]; exact hc) (fun e he => ?_) ?_ (by rw [e8 c hc]; exact hlt c hc)
  · rw [nc_sClr hP] at he
    rw [e8 e he, e8 c hc]
    intro hq
    rcases hq with q | q
    · rw [(sClr_33 hP he).1, if_pos q]
    · exact absurd q (hlt e he)
  · rw [bsz_none]
    · decide
    · intro e he; rw [nc_sClr hP] at he; rw [e8 e he]; exact hlt e he
section TW59
variable {m : Nat} {v : Nat → Int32} {A : Nat → Nat → Nat} {h : PH} {g : GS}
theorem TI_o {o : Nat} {w : Nat → Nat} (hT : TI v A g) (hw : SB w) (h1 : ¬ 1 = o) (h3 : ¬ 3 = o) (h4 : ¬ 4 = o) : TI v (aset A o w) g := by
  obtain ⟨i1, i2, i3, i4, i5, i6⟩ := hT
  exact ⟨AB_set i1 hw, by rw [aset_ne h1]; exact i2, by rw [aset_ne h3]; exact i3, i4, i5, by rw [aset_ne h4]; exact i6⟩
theorem TI_LK {v' : Nat → Int32} {A' : Nat → Nat → Nat} (hT : TI v A g) (hL : LK v A v' A') : TI v' A' g := by
  obtain ⟨i1, i2, i3, i4, i5, i6⟩ := hT
  obtain ⟨l1, l2, l3⟩ := hL
  exact ⟨l3, by rw [l2 1 (by decide) (by decide)]; exact i2, by rw [l2 3 (by decide) (by decide)]; exact i3, by rw [l1 4 (by omega) (by decide)]; exact i4, by rw [l1 6 (by omega) (by decide)]; exact i5, by rw [l2 4 (by decide) (by decide)]; exact i6⟩
theorem tw_connT {c : Nat} {b : Nat} (hT : TI v A g) (hP : PG' g.1) (hb : b < 1000000) (hc : c < 1000000) : ∃ A', f_X13_isConnected (some m) (I b) (I c) (TW m v A h) = some (I (bit (connB g.1 b (some c) = true)), TW m v A' h) ∧ TI v A' g ∧ A' 1 = g.1 := by
  obtain ⟨M', r, e1, e2, e3⟩ := tw_isConnected (m := m) (v := v) (h := h) (b := b) (but := some c) hb (fun j hj => by cases hj; exact hc) hT.1 (by rw [hT.2.1]; exact hP)
  rw [hT.2.1] at e3
  rw [connB_eq e3] at e1
  exact ⟨_, e1, TI_o hT e2 (by decide) (by decide) (by decide), by rw [aset_ne (by decide)]; exact hT.2.1⟩
theorem tw_clrT {b : Nat} (hT : TI v A g) (hP : PG' g.1) (hb : b < 1000000) : f_X13_emptyBlock (some m) (I b) (TW m v A h) = some (TW m v (aset A 1 (sClr g.1 b)) h) ∧ TI v (aset A 1 (sClr g.1 b)) (sClr g.1 b, g.2) := by
  have e := tw_emptyBlock (m := m) (v := v) (h := h) (b := b) hb (hT.1 1) (by rw [hT.2.1]; exact hP)
  rw [hT.2.1] at e
  exact ⟨e, TI_set hT (sClr_SB hP (TI_SB hT))⟩
theorem sMove_nc {s : Nat → Nat} {c b' : Nat} (hP : PG' s) : nc (sMove s c b') = nc s := by
  have hP1 := PG_sClr (b := s (8 + c)) hP
  unfold sMove
  rw [nc_of (nup_ne (by omega)) (nup_ne (by omega)), nc_sClr hP1, nc_sClr hP]
theorem sSplit_nc {s : Nat → Nat} {c : Nat} (hP : PG' s) : nc (sSplit s c) = nc s := by
  unfold sSplit
  rw [nc_of (nup_ne (by omega)) (nup_ne (by omega)), nc_sClr hP]
theorem tw_moveCell {x y : Int32} (hT : TI v A g) (hI : RInv g.1) : ∃ v' A', f_X13_moveCell (some m) x y (TW m v A h) = some ((o_moveCell g x y).1, TW m v' A' h) ∧ TI v' A' (o_moveCell g x y).2 := by
  have hQ := hI.1.1
  have hP := hQ.1
  have hn := nc_le hP
  have hT0 := TI_v0 (x := I 0) hT
  have s1 : A 1 = g.1 := hT.2.1
  have hP1 : PG' (A 1) := by rw [s1]; exact hP
  have hs := TI_SB hT
  unfold o_moveCell
  cases h1 : bt x 0 (nc g.1 - 1) with
  | false =>
    refine ⟨_, _, ?_, hT0⟩
    simp (disch := first | omega | assumption) only [tw_rcv, tw_r1, tw_r2, tw_r3, tw_r5, tw_r7, tw_r12, tw_r14, tw_r15, tw_r16, tw_r17, tw_r18, Option.bind_some, lit_I, I_add, I_mul, I_le, I_lt, I_eq, if_neg, if_pos, if_true, if_false, I_10, I_01, bit_T, bit_F, bit_F', bit_0, bit_1, gb_bit, tw_s, tw_rw, tw_cells, tw_blockOf, tw_numberOf, aset_eq, aset_ne, aset_aset, Bool.false_eq_true, not_true_eq_false, not_false_eq_true, f_X13_moveCell, tw_p0, isCellZ hP1, s1, h1, Bool.false_and]
  | true =>
  cases h2 : bt y 0 (nc g.1 - 1) with
  | false =>
    refine ⟨_, _, ?_, hT0⟩
    simp (disch := first | omega | assumption) only [tw_rcv, tw_r1, tw_r2, tw_r3, tw_r5, tw_r7, tw_r12, tw_r14, tw_r15, tw_r16, tw_r17, tw_r18, Option.bind_some, lit_I, I_add, I_mul, I_le, I_lt, I_eq, if_neg, if_pos, if_true, if_false, I_10, I_01, bit_T, bit_F, bit_F', bit_0, bit_1, gb_bit, tw_s, tw_rw, tw_cells, tw_blockOf, tw_numberOf, aset_eq, aset_ne, aset_aset, Bool.false_eq_true, not_true_eq_false, not_false_eq_true, f_X13_moveCell, tw_p0, isCellZ hP1, s1, h1, h2, Bool.true_and, Bool.false_and]
  | true =>
  obtain ⟨ex, -, hx⟩ := bt_na (by decide) (by omega) h1
  obtain ⟨ey, -, hy⟩ := bt_na (by decide) (by omega) h2
  have hc : na x < nc g.1 := by omega
  have hd : na y < nc g.1 := by omega
  have had := tw_adj (m := m) (v := vup v 0 (I 0)) (h := h) (A := A) (a := na x) (b := na y) (by omega) (by omega) hP1
  rw [← ex, ← ey, s1] at had
  have hbx := tw_blockOf (m := m) (v := vup v 0 (I 0)) (h := h) (A := A) (c := na x) (by omega)
  have hby := tw_blockOf (m := m) (v := vup v 0 (I 0)) (h := h) (A := A) (c := na y) (by omega)
  rw [← ex, s1] at hbx
  rw [← ey, s1] at hby
  have b1 := hs (8 + na x)
  have b2 := hs (8 + na y)
  cases h3 : adjb (g.1 1) (na x) (na y) with
  | false =>
    refine ⟨_, _, ?_, hT0⟩
    simp (disch := first | omega | assumption) only [tw_rcv, tw_r1, tw_r2, tw_r3, tw_r5, tw_r7, tw_r12, tw_r14, tw_r15, tw_r16, tw_r17, tw_r18, Option.bind_some, lit_I, I_add, I_mul, I_le, I_lt, I_eq, if_neg, if_pos, if_true, if_false, I_10, I_01, bit_T, bit_F, bit_F', bit_0, bit_1, gb_bit, tw_s, tw_rw, tw_cells, tw_blockOf, tw_numberOf, aset_eq, aset_ne, aset_aset, Bool.false_eq_true, not_true_eq_false, not_false_eq_true, f_X13_moveCell, tw_p0, isCellZ hP1, s1, h1, h2, had, h3, Bool.true_and]
  | true =>
  by_cases h4 : g.1 (8 + na x) = g.1 (8 + na y)
  · refine ⟨_, _, ?_, by simp only [Bool.true_and, if_true, if_pos h4]; exact hT0⟩
    simp (disch := first | omega | assumption) only [tw_rcv, tw_r1, tw_r2, tw_r3, tw_r5, tw_r7, tw_r12, tw_r14, tw_r15, tw_r16, tw_r17, tw_r18, Option.bind_some, lit_I, I_add, I_mul, I_le, I_lt, I_eq, if_neg, if_pos, if_true, if_false, I_10, I_01, bit_T, bit_F, bit_F', bit_0, bit_1, gb_bit, tw_s, tw_rw, tw_cells, tw_blockOf, tw_numberOf, aset_eq, aset_ne, aset_aset, Bool.false_eq_true, not_true_eq_false, not_false_eq_true, f_X13_moveCell, tw_p0, isCellZ hP1, s1, h1, h2, had, h3, Bool.true_and, hbx, hby, h4]
  · obtain ⟨A2, c1, c2, c3⟩ := tw_connT (m := m) (h := h) (c := na x) (b := g.1 (8 + na x)) hT0 hP b1 (by omega)
    rw [← ex] at c1
    cases h5 : connB g.1 (g.1 (8 + na x)) (some (na x)) with
    | false =>
      refine ⟨_, _, ?_, by simp only [Bool.true_and, if_true, if_neg h4, Bool.false_eq_true, if_false]; exact c2⟩
      simp (disch := first | omega | assumption) only [tw_rcv, tw_r1, tw_r2, tw_r3, tw_r5, tw_r7, tw_r12, tw_r14, tw_r15, tw_r16, tw_r17, tw_r18, Option.bind_some, lit_I, I_add, I_mul, I_le, I_lt, I_eq, if_neg, if_pos, if_true, if_false, I_10, I_01, bit_T, bit_F, bit_F', bit_0, bit_1, gb_bit, tw_s, tw_rw, tw_cells, tw_blockOf, tw_numberOf, aset_eq, aset_ne, aset_aset, Bool.false_eq_true, not_true_eq_false, not_false_eq_true, f_X13_moveCell, tw_p0, isCellZ hP1, s1, h1, h2, had, h3, Bool.true_and, hbx, hby, c1, h5]
    | true =>
      have hsz := tw_blockSize (m := m) (v := vup v 0 (I 0)) (h := h) (A := A2) (b := g.1 (8 + na y)) b2 (c2.1 1) (by rw [c3]; exact hP)
      rw [c3] at hsz
      have hz6 := (hQ.2.2.1 _ hd).1
      by_cases h6 : bsz g.1 (g.1 (8 + na y)) = 6
      · refine ⟨_, _, ?_, by simp only [Bool.true_and, if_true, if_neg h4, if_pos h6]; exact c2⟩
        simp (disch := first | omega | assumption) only [tw_rcv, tw_r1, tw_r2, tw_r3, tw_r5, tw_r7, tw_r12, tw_r14, tw_r15, tw_r16, tw_r17, tw_r18, Option.bind_some, lit_I, I_add, I_mul, I_le, I_lt, I_eq, if_neg, if_pos, if_true, if_false, I_10, I_01, bit_T, bit_F, bit_F', bit_0, bit_1, gb_bit, tw_s, tw_rw, tw_cells, tw_blockOf, tw_numberOf, aset_eq, aset_ne, aset_aset, Bool.false_eq_true, not_true_eq_false, not_false_eq_true, f_X13_moveCell, tw_p0, isCellZ hP1, s1, h1, h2, had, h3, Bool.true_and, hbx, hby, c1, h5, hsz, h6]
      · obtain ⟨v3, A3, d1, d2, -, -⟩ := tw_actT (m := m) (h := h) c2
        obtain ⟨e1, e2⟩ := tw_clrT (m := m) (h := h) (b := g.1 (8 + na x)) d2 hP b1
        obtain ⟨e3, e4⟩ := tw_clrT (m := m) (h := h) (b := g.1 (8 + na y)) e2 (PG_sClr hP) b2
        have e5 := TI_set (s := sMove g.1 (na x) (g.1 (8 + na y))) e4 (nup_SB (TI_SB e4) b2)
        have hQ5 := QInv_move hQ hc hd h4 h6
        obtain ⟨A6, f1, f2⟩ := tw_renT (m := m) (h := h) e5 hQ5
        obtain ⟨A7, f3, f4, -, -⟩ := tw_resetT (m := m) (h := h) f2 (QInv_sRen hQ5).1
        have hnc := sMove_nc (c := na x) (b' := g.1 (8 + na y)) hP
        simp only [hnc] at f1
        refine ⟨_, _, ?_, by simp only [Bool.true_and, if_true, if_neg h4, if_neg h6]; exact f4⟩
        have ew : asi 0 (some (m + 1)) (I 8 + x) (I (g.1 (8 + na y))) (TW m v3 (aset (aset A3 1 (sClr g.1 (g.1 (8 + na x)))) 1 (sClr (sClr g.1 (g.1 (8 + na x))) (g.1 (8 + na y)))) h) = some (TW m v3 (aset (aset (aset A3 1 (sClr g.1 (g.1 (8 + na x)))) 1 (sClr (sClr g.1 (g.1 (8 + na x))) (g.1 (8 + na y)))) 1 (sMove g.1 (na x) (g.1 (8 + na y)))) h) := by
          rw [ex, I_add, tw_ws (by omega), aset_eq]
          rw [← ex]; rfl
        simp (disch := first | omega | assumption) only [tw_rcv, tw_r1, tw_r2, tw_r3, tw_r5, tw_r7, tw_r12, tw_r14, tw_r15, tw_r16, tw_r17, tw_r18, Option.bind_some, lit_I, I_add, I_mul, I_le, I_lt, I_eq, if_neg, if_pos, if_true, if_false, I_10, I_01, bit_T, bit_F, bit_F', bit_0, bit_1, gb_bit, tw_s, tw_rw, tw_cells, tw_blockOf, tw_numberOf, aset_eq, aset_ne, aset_aset, Bool.false_eq_true, not_true_eq_false, not_false_eq_true, f_X13_moveCell, tw_p0, isCellZ hP1, s1, h1, h2, had, h3, Bool.true_and, hbx, hby, c1, h5, hsz, d1]
        simp only [aset_aset] at e1 e3 ew f1 f3
        simp (disch := first | omega | assumption) only [tw_rcv, tw_r1, tw_r2, tw_r3, tw_r5, tw_r7, tw_r12, tw_r14, tw_r15, tw_r16, tw_r17, tw_r18, Option.bind_some, lit_I, I_add, I_mul, I_le, I_lt, I_eq, if_neg, if_pos, if_true, if_false, I_10, I_01, bit_T, bit_F, bit_F', bit_0, bit_1, gb_bit, tw_s, tw_rw, tw_cells, tw_blockOf, tw_numberOf, aset_eq, aset_ne, aset_aset, Bool.false_eq_true, not_true_eq_false, not_false_eq_true, e1, e3, ew, f1, f3, chg]
theorem tw_splitCell {x : Int32} (hT : TI v A g) (hI : RInv g.1) : ∃ v' A', f_X13_splitCell (some m) x (TW m v A h) = some ((o_splitCell g x).1, TW m v' A' h) ∧ TI v' A' (o_splitCell g x).2 := by
  have hQ := hI.1.1
  have hP := hQ.1
  have hn := nc_le hP
  have hT0 := TI_v0 (x := I 0) hT
  have s1 : A 1 = g.1 := hT.2.1
  have hP1 : PG' (A 1) := by rw [s1]; exact hP
  have hs := TI_SB hT
  unfold o_splitCell
  cases h1 : bt x 0 (nc g.1 - 1) with
  | false =>
    refine ⟨_, _, ?_, hT0⟩
    simp (disch := first | omega | assumption) only [tw_rcv, tw_r1, tw_r2, tw_r3, tw_r5, tw_r7, tw_r12, tw_r14, tw_r15, tw_r16, tw_r17, tw_r18, Option.bind_some, lit_I, I_add, I_mul, I_le, I_lt, I_eq, if_neg, if_pos, if_true, if_false, I_10, I_01, bit_T, bit_F, bit_F', bit_0, bit_1, gb_bit, tw_s, tw_rw, tw_cells, tw_blockOf, tw_numberOf, aset_eq, aset_ne, aset_aset, Bool.false_eq_true, not_true_eq_false, not_false_eq_true, f_X13_splitCell, tw_p0, isCellZ hP1, s1, h1]
  | true =>
  obtain ⟨ex, -, hx⟩ := bt_na (by decide) (by omega) h1
  have hc : na x < nc g.1 := by omega
  have hbx := fun v A (e : A 1 = g.1) => (by
    have hbx := tw_blockOf (m := m) (v := v) (h := h) (A := A) (c := na x) (by omega)
    rw [← ex, e] at hbx
    exact hbx : f_X13_blockOf (some m) x (TW m v A h) = some (I (g.1 (8 + na x)), TW m v A h))
  have hmx := tw_mostIn (m := m) (v := vup v 0 (I 0)) (h := h) (A := A) (c := na x) (by omega) (hT.1 1) hP1
  rw [← ex, s1] at hmx
  have b1 := hs (8 + na x)
  have hz6 := (hQ.2.2.1 _ hc).1
  by_cases h4 : bsz g.1 (g.1 (8 + na x)) = 1
  · refine ⟨_, _, ?_, by simp only [if_true, if_pos h4]; exact hT0⟩
    simp (disch := first | omega | assumption) only [tw_rcv, tw_r1, tw_r2, tw_r3, tw_r5, tw_r7, tw_r12, tw_r14, tw_r15, tw_r16, tw_r17, tw_r18, Option.bind_some, lit_I, I_add, I_mul, I_le, I_lt, I_eq, if_neg, if_pos, if_true, if_false, I_10, I_01, bit_T, bit_F, bit_F', bit_0, bit_1, gb_bit, tw_s, tw_rw, tw_cells, tw_blockOf, tw_numberOf, aset_eq, aset_ne, aset_aset, Bool.false_eq_true, not_true_eq_false, not_false_eq_true, f_X13_splitCell, tw_p0, isCellZ hP1, s1, h1, hmx, h4]
  · obtain ⟨A2, c1, c2, c3⟩ := tw_connT (m := m) (h := h) (c := na x) (b := g.1 (8 + na x)) hT0 hP b1 (by omega)
    rw [← ex] at c1
    cases h5 : connB g.1 (g.1 (8 + na x)) (some (na x)) with
    | false =>
      refine ⟨_, _, ?_, by simp only [if_true, if_neg h4, Bool.false_eq_true, if_false]; exact c2⟩
      simp (disch := first | omega | assumption) only [tw_rcv, tw_r1, tw_r2, tw_r3, tw_r5, tw_r7, tw_r12, tw_r14, tw_r15, tw_r16, tw_r17, tw_r18, Option.bind_some, lit_I, I_add, I_mul, I_le, I_lt, I_eq, if_neg, if_pos, if_true, if_false, I_10, I_01, bit_T, bit_F, bit_F', bit_0, bit_1, gb_bit, tw_s, tw_rw, tw_cells, tw_blockOf, tw_numberOf, aset_eq, aset_ne, aset_aset, Bool.false_eq_true, not_true_eq_false, not_false_eq_true, f_X13_splitCell, tw_p0, isCellZ hP1, s1, h1, hmx, hbx _ _ s1, c1, h5]
    | true =>
      obtain ⟨v3, A3, d1, d2, -, -⟩ := tw_actT (m := m) (h := h) c2
      obtain ⟨e1, e2⟩ := tw_clrT (m := m) (h := h) (b := g.1 (8 + na x)) d2 hP b1
      have e5 := TI_set (s := sSplit g.1 (na x)) e2 (nup_SB (TI_SB e2) (by decide))
      have hQ5 := QInv_split hQ hI.1.2.1 hc
      obtain ⟨A6, f1, f2⟩ := tw_renT (m := m) (h := h) e5 hQ5
      obtain ⟨A7, f3, f4, -, -⟩ := tw_resetT (m := m) (h := h) f2 (QInv_sRen hQ5).1
      have hnc := sSplit_nc (c := na x) hP
      simp only [hnc] at f1
      refine ⟨_, _, ?_, by simp only [if_true, if_neg h4]; exact f4⟩
      have ew : asi 0 (some (m + 1)) (I 8 + x) (I 25) (TW m v3 (aset A3 1 (sClr g.1 (g.1 (8 + na x)))) h) = some (TW m v3 (aset (aset A3 1 (sClr g.1 (g.1 (8 + na x)))) 1 (sSplit g.1 (na x))) h) := by
        rw [ex, I_add, tw_ws (by omega), aset_eq]
        rw [← ex]; rfl
      simp (disch := first | omega | assumption) only [tw_rcv, tw_r1, tw_r2, tw_r3, tw_r5, tw_r7, tw_r12, tw_r14, tw_r15, tw_r16, tw_r17, tw_r18, Option.bind_some, lit_I, I_add, I_mul, I_le, I_lt, I_eq, if_neg, if_pos, if_true, if_false, I_10, I_01, bit_T, bit_F, bit_F', bit_0, bit_1, gb_bit, tw_s, tw_rw, tw_cells, tw_blockOf, tw_numberOf, aset_eq, aset_ne, aset_aset, Bool.false_eq_true, not_true_eq_false, not_false_eq_true, f_X13_splitCell, tw_p0, isCellZ hP1, s1, h1, hmx, hbx _ _ s1, c1, h5, d1, hbx _ _ d2.2.1]
      simp only [aset_aset] at e1 ew f1 f3
      simp (disch := first | omega | assumption) only [tw_rcv, tw_r1, tw_r2, tw_r3, tw_r5, tw_r7, tw_r12, tw_r14, tw_r15, tw_r16, tw_r17, tw_r18, Option.bind_some, lit_I, I_add, I_mul, I_le, I_lt, I_eq, if_neg, if_pos, if_true, if_false, I_10, I_01, bit_T, bit_F, bit_F', bit_0, bit_1, gb_bit, tw_s, tw_rw, tw_cells, tw_blockOf, tw_numberOf, aset_eq, aset_ne, aset_aset, Bool.false_eq_true, not_true_eq_false, not_false_eq_true, e1, ew, f1, f3, chg]
end TW59
