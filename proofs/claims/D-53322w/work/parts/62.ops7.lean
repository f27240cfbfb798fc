/-! PLAIN LAW: the reference's calls: steps on the board, snapshots, undo, text -/
set_option maxRecDepth 100000
section E93
variable {s t w : Nat → Nat}
theorem nc_E93 (h : EqN 93 s t) : nc s = nc t := nc_of (h 0 (by decide)) (h 1 (by decide))
theorem lc_E93 (h : EqN 93 s t) (i k : Nat) : lc s i k = lc t i k := by unfold lc; rw [h 0 (by decide), h 1 (by decide)]
theorem ln_E93 (h : EqN 93 s t) (i : Nat) : ln s i = ln t i := by unfold ln; rw [h 0 (by decide), h 1 (by decide)]
theorem sole_E93 (h : EqN 93 s t) (hP : PG' s) {c n : Nat} (hc : c < nc s) : sole s w c n = sole t w c n := by
  have hn := nc_le hP
  unfold sole
  rw [← nc_E93 h]
  exact firstI_congr (fun k hk => by unfold soleP; rw [h (8 + k) (by omega), h (8 + c) (by omega)])
theorem only_E93 (h : EqN 93 s t) (hP : PG' s) {c n : Nat} (hc : c < nc s) : only s w c n = only t w c n := by
  have hn := nc_le hP
  have e : onlyN s w c n = onlyN t w c n := by
    unfold onlyN els
    rw [← nc_E93 h, orTo_congr (fun i hi => by rw [h (8 + i) (by omega), h (8 + c) (by omega)])]
  unfold only; rw [e]
theorem lsum_E93 (h : EqN 93 s t) (hP : PG' s) {i : Nat} (hi : i < s 0 + s 1) : lsum s i = lsum t i := by
  have hn := nc_le hP
  unfold lsum
  rw [← ln_E93 h]
  exact sumTo_congr (fun k hk => by have := lc_lt hP hi hk; rw [← lc_E93 h, h _ (by omega)])
theorem lsums_E93 (h : EqN 93 s t) {i : Nat} {b : Option Nat} : ∀ k, lsums s w i b k = lsums t w i b k := by
  intro k
  induction k with
  | zero => rfl
  | succ k ih => simp only [lsums]; rw [ih, lc_E93 h]
theorem lineP_E93 (h : EqN 93 s t) (hP : PG' s) {r c n i : Nat} (hil : i < s 0 + s 1) : lineP s w r c n i = lineP t w r c n i := by
  have hP' := hP
  obtain ⟨a1, a2, a3, a4⟩ := hP
  have e1 : beyond s w i c n = beyond t w i c n := by
    unfold beyond lows highs
    rw [lsum_E93 h hP' hil, ln_E93 h, sumTo_congr (fun k _ => by rw [lc_E93 h]), sumTo_congr (n := ln t i) (f := fun k => if lc s i k = c then 0 else hi (w (lc s i k))) (g := fun k => if lc t i k = c then 0 else hi (w (lc t i k))) (fun k _ => by rw [lc_E93 h])]
  have e2 : missed s w i c n = missed t w i c n := by
    unfold missed
    rw [lsum_E93 h hP' hil, ln_E93 h, lsums_E93 h]
  unfold lineP; rw [e1, e2, h (83 + i) (by omega)]
theorem lineC_E93 (h : EqN 93 s t) (hP : PG' s) {r c n : Nat} (hc : c < nc s) : lineC s w r c n = lineC t w r c n := by
  have hd := dv_lt hP hc
  unfold lineC
  rw [← h 0 (by decide), ← h 1 (by decide), lineP_E93 h hP (by omega), lineP_E93 (i := s 0 + md c (s 1)) h hP (by omega)]
theorem pairC_E93 (h : EqN 93 s t) (hP : PG' s) {c n : Nat} (hc : c < nc s) : pairC s w c n = pairC t w c n := by
  have hn := nc_le hP
  unfold pairC
  rw [← nc_E93 h]
  refine firstI_congr (fun d hd => ?_)
  unfold pairQ mayP
  rw [h (8 + d) (by omega), h (8 + c) (by omega), ← nc_E93 h]
  congr 2
  refine firstFrom_congr _ _ (fun k h1 h2 => ?_)
  unfold pairE
  rw [h (8 + k) (by omega), h (8 + c) (by omega)]
theorem causeC_E93 (h : EqN 93 s t) (hP : PG' s) {r c n : Nat} (hc : c < nc s) : causeC s w r c n = causeC t w r c n := by
  unfold causeC
  rw [sole_E93 h hP hc, only_E93 h hP hc, lineC_E93 h hP hc, lineC_E93 (r := 3) h hP hc, pairC_E93 h hP hc]
theorem findS_E93 (h : EqN 93 s t) (hP : PG' s) {rules : Nat} : findS s w rules = findS t w rules := by
  have hnum : ∀ r c, c < nc s → numC s w r c = numC t w r c := fun r c hc => by
    unfold numC; exact firstI_congr (fun i hi => by unfold numP; rw [causeC_E93 h hP hc])
  have hcell : ∀ r, cellC s w r = cellC t w r := fun r => by
    unfold cellC; rw [← nc_E93 h]; exact firstI_congr (fun i hi => by rw [hnum r i hi])
  have hst : ∀ r, stepR s w r = stepR t w r := fun r => by
    unfold stepR
    rw [← hcell]
    cases hq : cellC s w r with
    | none => rfl
    | some c =>
      have hc : c < nc s := by unfold cellC at hq; rw [firstI_some] at hq; exact hq.1
      show stepRC s w r c = stepRC t w r c
      unfold stepRC
      rw [hnum r c hc]
      congr 1
      funext k
      rw [causeC_E93 h hP hc]
  have hb : brk s w = brk t w := by unfold brk; rw [nc_E93 h]
  unfold findS ruleC
  rw [hb, firstI_congr (fun i hi => by rw [hcell])]
  congr 2
  funext r
  rw [hst]
end E93
/-- the row with a board -/
def wBd (s w : Nat → Nat) : Nat → Nat := fun k => if 93 ≤ k ∧ k < 93 + nc s then w (k - 93) else s k
theorem wBd_lo {s w : Nat → Nat} {k : Nat} (hP : PG' s) (h : k < 93 ∨ 118 ≤ k) : wBd s w k = s k := by
  have hn := nc_le hP
  unfold wBd; rw [if_neg (by omega)]
theorem wBd_at {s w : Nat → Nat} {c : Nat} (hc : c < nc s) : wBd s w (93 + c) = w c := by
  unfold wBd; rw [if_pos (by omega), Nat.add_sub_cancel_left]
theorem wBd_str {s w : Nat → Nat} {c n : Nat} (hc : c < nc s) : nup (wBd s w) (93 + c) (andn (w c) (1 <<< n)) = wBd s (strW w c n) := by
  funext k
  unfold wBd
  by_cases e : k = 93 + c
  · subst e; rw [nup_eq, if_pos (by omega), Nat.add_sub_cancel_left]; unfold strW; rw [nup_eq]
  · rw [nup_ne e]
    by_cases e2 : 93 ≤ k ∧ k < 93 + nc s
    · rw [if_pos e2, if_pos e2]; unfold strW; rw [nup_ne (by omega)]
    · rw [if_neg e2, if_neg e2]
theorem wBd_SB {s w : Nat → Nat} (hs : SB s) (hw : SB w) : SB (wBd s w) := by
  intro k; unfold wBd; split
  · exact hw _
  · exact hs _
section TW62
variable {m : Nat} {v : Nat → Int32} {A : Nat → Nat → Nat} {h : PH} {g : GS}
theorem tw_adv {s : Nat → Nat} {most : Nat} (hP : PG' s) (hN : NB s) (hs : SB s) (hmost : most < 1000) : ∀ (k f many : Nat) (v : Nat → Int32) (w : Nat → Nat), many + k = most → k < f → W7 s w → SB w →
    ∃ v', f_X13_advance_L43 f (some m) (I most) (I many) (TW m v (aset (aset A 5 w) 1 (wBd s w)) h) = some (I (many + (goN s (s 2) k w).1.length), TW m v' (aset (aset A 5 (goN s (s 2) k w).2) 1 (wBd s (goN s (s 2) k w).2)) h) ∧ VK v v' := by
  have hn := nc_le hP
  have a1 : ∀ w x, (aset (aset A 5 w) 1 x) 1 = x := fun w x => aset_eq
  have a5 : ∀ w x, (aset (aset A 5 w) 1 x) 5 = w := fun w x => by rw [aset_ne (by decide), aset_eq]
  have ea : ∀ w x q, aset (aset (aset A 5 w) 1 x) 5 q = aset (aset A 5 q) 1 x := fun w x q => by rw [aset_comm (by decide), aset_aset]
  intro k
  induction k with
  | zero =>
    intro f many v w hm hf hW hS
    obtain ⟨f, rfl⟩ : ∃ f', f = f' + 1 := ⟨f - 1, by omega⟩
    refine ⟨v, ?_, VK.refl v⟩
    simp (disch := first | omega | assumption) only [tw_rcv, tw_r1, tw_r2, tw_r3, tw_r5, tw_r7, tw_r12, tw_r14, tw_r15, tw_r16, tw_r17, tw_r18, Option.bind_some, lit_I, I_add, I_mul, I_le, I_lt, I_eq, if_neg, if_pos, if_true, if_false, I_10, I_01, bit_T, bit_F, bit_F', bit_0, bit_1, gb_bit, tw_s, tw_rw, tw_cells, tw_blockOf, tw_numberOf, aset_eq, aset_ne, aset_aset, Bool.false_eq_true, not_true_eq_false, not_false_eq_true, f_X13_advance_L43, goN, List.length_nil, Nat.add_zero]
  | succ k ih =>
    intro f many v w hm hf hW hS
    obtain ⟨f, rfl⟩ : ∃ f', f = f' + 1 := ⟨f - 1, by omega⟩
    have hE : EqN 93 s (wBd s w) := fun j hj => (wBd_lo hP (by omega)).symm
    have hnc := nc_E93 hE
    have h2 : wBd s w 2 = s 2 := (hE 2 (by decide)).symm
    have hfs := tw_findStep (m := m) (v := v) (h := h) (A := aset (aset A 5 w) 1 (wBd s w)) (rules := s 2) (hs 2) (by rw [a1, a5]; intro c hc; rw [← hnc] at hc; exact hW c hc) (by rw [a1]; exact wBd_SB hs hS) (by rw [a5]; exact hS) (by rw [a1]; exact PG_of (wBd_lo hP (by omega)) (wBd_lo hP (by omega)) hP) (by
      rw [a1]; intro c hc
      rw [← hnc] at hc
      have := hN c hc
      have hb : ∀ b, bsz (wBd s w) b = bsz s b := fun b => by
        unfold bsz; rw [← hnc]; exact sumTo_congr (fun i hi => by rw [← hE (8 + i) (by omega)])
      rw [← hE (33 + c) (by omega), hb, ← hE (8 + c) (by omega)]; exact this)
    rw [a1, a5, ← findS_E93 hE hP] at hfs
    cases hfd : findS s w (s 2) with
    | none =>
      rw [hfd] at hfs
      refine ⟨v, ?_, VK.refl v⟩
      simp (disch := first | omega | assumption) only [tw_rcv, tw_r1, tw_r2, tw_r3, tw_r5, tw_r7, tw_r12, tw_r14, tw_r15, tw_r16, tw_r17, tw_r18, Option.bind_some, lit_I, I_add, I_mul, I_le, I_lt, I_eq, if_neg, if_pos, if_true, if_false, I_10, I_01, bit_T, bit_F, bit_F', bit_0, bit_1, gb_bit, tw_s, tw_rw, tw_cells, tw_blockOf, tw_numberOf, aset_eq, aset_ne, aset_aset, Bool.false_eq_true, not_true_eq_false, not_false_eq_true, f_X13_advance_L43, h2, hfs, goN, hfd, List.length_nil, Nat.add_zero]
    | some t =>
      rw [hfd] at hfs
      obtain ⟨-, f1, f2, f3, f4, f5, f6, f7⟩ := findS_some hfd
      obtain ⟨v', b1, b2⟩ := ih f (many + 1) (stp v t) (strW w t.2.1 t.2.2.1) (by omega) (by omega) (strW_W7 hW) (strW_SB hS)
      refine ⟨v', ?_, VK.trans stp_VK b2⟩
      have e5 : nup w t.2.1 (andn (w t.2.1) (1 <<< t.2.2.1)) = strW w t.2.1 t.2.2.1 := rfl
      have e6 : strW w t.2.1 t.2.2.1 t.2.1 = andn (w t.2.1) (1 <<< t.2.2.1) := by unfold strW; rw [nup_eq]
      simp (disch := first | omega | assumption) only [tw_rcv, tw_r1, tw_r2, tw_r3, tw_r5, tw_r7, tw_r12, tw_r14, tw_r15, tw_r16, tw_r17, tw_r18, Option.bind_some, lit_I, I_add, I_mul, I_le, I_lt, I_eq, if_neg, if_pos, if_true, if_false, I_10, I_01, bit_T, bit_F, bit_F', bit_0, bit_1, gb_bit, tw_s, tw_rw, tw_cells, tw_blockOf, tw_numberOf, aset_eq, aset_ne, aset_aset, Bool.false_eq_true, not_true_eq_false, not_false_eq_true, f_X13_advance_L43, h2, hfs, goN, hfd, List.length_cons, tw_int (k := 9) rfl, tw_int (k := 10) rfl, stp_9, stp_10, I_andnI, I_shlM, I_and, tw_ww, e5, ea, a5, e6, tw_ws, a1, wBd_str]
      rw [b1]
      congr 3
      omega
theorem tw_advance {x : Int32} (hT : TI v A g) (hI : RInv g.1) : ∃ v' A', f_X13_advance (some m) x (TW m v A h) = some ((o_advance g x).1, TW m v' A' h) ∧ TI v' A' (o_advance g x).2 := by
  have hQ := hI.1.1
  have hP := hQ.1
  have hn := nc_le hP
  have hT0 := TI_v0 (x := I 0) hT
  have s1 : A 1 = g.1 := hT.2.1
  have hs := TI_SB hT
  unfold o_advance
  cases h1 : bt x 1 99 with
  | false =>
    refine ⟨_, _, ?_, hT0⟩
    simp (disch := first | omega | assumption) only [tw_rcv, tw_r1, tw_r2, tw_r3, tw_r5, tw_r7, tw_r12, tw_r14, tw_r15, tw_r16, tw_r17, tw_r18, Option.bind_some, lit_I, I_add, I_mul, I_le, I_lt, I_eq, if_neg, if_pos, if_true, if_false, I_10, I_01, bit_T, bit_F, bit_F', bit_0, bit_1, gb_bit, tw_s, tw_rw, tw_cells, tw_blockOf, tw_numberOf, aset_eq, aset_ne, aset_aset, Bool.false_eq_true, not_true_eq_false, not_false_eq_true, f_X13_advance, tw_p0, inZ, h1]
  | true =>
  obtain ⟨k, rfl, hna, hk0, hx⟩ := bt_ex (by decide) (by decide) h1
  simp only [hna]
  obtain ⟨A2, b1, b2, b3, b4, b5, b6⟩ := tw_layPT (m := m) (h := h) hT0 hI
  have s2 : A2 1 = g.1 := b2.2.1
  have hfs := tw_findStep (m := m) (v := vup v 0 (I 0)) (h := h) (A := A2) (rules := g.1 2) (hs 2) (by rw [s2]; exact b4) (b2.1 1) b5 (by rw [s2]; exact hP) (by rw [s2]; exact hQ.NB)
  rw [s2, findS_congr hP b3] at hfs
  cases hf : findS g.1 (bd g.1) (g.1 2) with
  | none =>
    rw [hf] at hfs
    refine ⟨_, _, ?_, b2⟩
    simp (disch := first | omega | assumption) only [tw_rcv, tw_r1, tw_r2, tw_r3, tw_r5, tw_r7, tw_r12, tw_r14, tw_r15, tw_r16, tw_r17, tw_r18, Option.bind_some, lit_I, I_add, I_mul, I_le, I_lt, I_eq, if_neg, if_pos, if_true, if_false, I_10, I_01, bit_T, bit_F, bit_F', bit_0, bit_1, gb_bit, tw_s, tw_rw, tw_cells, tw_blockOf, tw_numberOf, aset_eq, aset_ne, aset_aset, Bool.false_eq_true, not_true_eq_false, not_false_eq_true, f_X13_advance, tw_p0, inZ, h1, b1, s2, hfs, Option.isSome_none]
  | some t =>
    rw [hf] at hfs
    have hT3 : TI (stp (vup v 0 (I 0)) t) A2 g := TI_VK b2 (stp_VK 4 (by omega) (by decide)) (stp_VK 6 (by omega) (by decide))
    obtain ⟨v3, A3, a1, a2, -, a5⟩ := tw_actT (m := m) (h := h) hT3
    have s3 : A3 1 = g.1 := a2.2.1
    have e5 : A3 5 = A2 5 := a5 5 (by decide)
    have hself : aset (aset A3 5 (A3 5)) 1 (wBd g.1 (A3 5)) = A3 := by
      rw [show aset A3 5 (A3 5) = A3 from aset_self]
      have : wBd g.1 (A3 5) = A3 1 := by
        rw [s3]; funext j; unfold wBd
        split
        · rename_i hj
          rw [e5, b3 (j - 93) (by omega)]
          exact congrArg g.1 (by omega)
        · rfl
      rw [this]; exact aset_self
    obtain ⟨v', c1, c2⟩ := tw_adv (m := m) (A := A3) (h := h) (s := g.1) (most := k) hP hQ.NB hs (by omega) k FU 0 v3 (A3 5) (by omega) (by rw [FU_eq]; omega) (by rw [e5]; exact b4) (a2.1 5)
    rw [hself, Nat.zero_add] at c1
    have hcg := goN_congr (rules := g.1 2) hP k (A3 5) (bd g.1) (by rw [e5]; exact b3)
    have hSB := goN_SB (s := g.1) (rules := g.1 2) k (A3 5) (a2.1 5)
    have ew : wBd g.1 (goN g.1 (g.1 2) k (A3 5)).2 = wBd g.1 (goN g.1 (g.1 2) k (bd g.1)).2 := by
      funext j; unfold wBd
      split
      · exact hcg.2 _ (by omega)
      · rfl
    refine ⟨v', _, ?_, TI_set (s := wBd g.1 (goN g.1 (g.1 2) k (bd g.1)).2) (TI_o (o := 5) (w := (goN g.1 (g.1 2) k (A3 5)).2) (TI_VK a2 (c2 4 (by omega) (by decide)) (c2 6 (by omega) (by decide))) hSB (by decide) (by decide) (by decide)) (by rw [← ew]; exact wBd_SB hs hSB)⟩
    rw [ew, hcg.1] at c1
    simp (disch := first | omega | assumption) only [tw_rcv, tw_r1, tw_r2, tw_r3, tw_r5, tw_r7, tw_r12, tw_r14, tw_r15, tw_r16, tw_r17, tw_r18, Option.bind_some, lit_I, I_add, I_mul, I_le, I_lt, I_eq, if_neg, if_pos, if_true, if_false, I_10, I_01, bit_T, bit_F, bit_F', bit_0, bit_1, gb_bit, tw_s, tw_rw, tw_cells, tw_blockOf, tw_numberOf, aset_eq, aset_ne, aset_aset, Bool.false_eq_true, not_true_eq_false, not_false_eq_true, f_X13_advance, tw_p0, inZ, h1, b1, s2, hfs, a1, Option.isSome_some, chg]
    exact c1
theorem tw_cluesT (hP : PG' (A 1)) : f_X13_clues (some m) (TW m v A h) = some (I (ngiv (A 1) + nshw (A 1)), TW m v A h) := by
  simp (disch := first | omega | assumption) only [tw_rcv, tw_r1, tw_r2, tw_r3, tw_r5, tw_r7, tw_r12, tw_r14, tw_r15, tw_r16, tw_r17, tw_r18, Option.bind_some, lit_I, I_add, I_mul, I_le, I_lt, I_eq, if_neg, if_pos, if_true, if_false, I_10, I_01, bit_T, bit_F, bit_F', bit_0, bit_1, gb_bit, tw_s, tw_rw, tw_cells, tw_blockOf, tw_numberOf, aset_eq, aset_ne, aset_aset, Bool.false_eq_true, not_true_eq_false, not_false_eq_true, f_X13_clues, tw_givenMany, tw_shownMany]
theorem sTake_lo {s : Nat → Nat} {q k : Nat} (h : k < 118) : sTake s q k = s k := by unfold sTake; rw [if_neg (by omega), if_neg (by omega)]
theorem tw_take {x : Int32} (hT : TI v A g) (hI : RInv g.1) : ∃ v' A', f_X13_take (some m) x (TW m v A h) = some ((o_take g x).1, TW m v' A' h) ∧ TI v' A' (o_take g x).2 := by
  have hP := hI.1.1.1
  have hn := nc_le hP
  have hT0 := TI_v0 (x := I 0) hT
  have hs := TI_SB hT
  unfold o_take
  cases h1 : bt x 0 1 with
  | false =>
    refine ⟨_, _, ?_, hT0⟩
    simp (disch := first | omega | assumption) only [tw_rcv, tw_r1, tw_r2, tw_r3, tw_r5, tw_r7, tw_r12, tw_r14, tw_r15, tw_r16, tw_r17, tw_r18, Option.bind_some, lit_I, I_add, I_mul, I_le, I_lt, I_eq, if_neg, if_pos, if_true, if_false, I_10, I_01, bit_T, bit_F, bit_F', bit_0, bit_1, gb_bit, tw_s, tw_rw, tw_cells, tw_blockOf, tw_numberOf, aset_eq, aset_ne, aset_aset, Bool.false_eq_true, not_true_eq_false, not_false_eq_true, f_X13_take, tw_p0, inZ, h1]
  | true =>
  obtain ⟨q, rfl, hna, -, hx⟩ := bt_ex (by decide) (by decide) h1
  simp only [hna]
  obtain ⟨v1, A1, a1, a2, -, -⟩ := tw_actT (m := m) (h := h) hT0
  have s2 : A1 1 = g.1 := a2.2.1
  let st : Nat → (Nat → Nat) := fun i k => if k = 118 + 119 * q then 1 else if 119 + 119 * q ≤ k ∧ k < 119 + 119 * q + i then g.1 (k - (119 + 119 * q)) else g.1 k
  have hng : ngiv (sTake g.1 q) = ngiv g.1 := by
    have e : nc (sTake g.1 q) = nc g.1 := nc_of (sTake_lo (by decide)) (sTake_lo (by decide))
    unfold ngiv; rw [e]; exact sumTo_congr (fun i hi => sTake_lo (by omega))
  have hPP := hP
  obtain ⟨p1, p2, p3, p4⟩ := hPP
  have hns : nshw (sTake g.1 q) = nshw g.1 := by
    unfold nshw; rw [sTake_lo (k := 0) (by decide), sTake_lo (k := 1) (by decide)]; exact sumTo_congr (fun i hi => sTake_lo (by omega))
  have key := loop_FU (fun k (p : Nat × (Nat → Nat)) => f_X13_take_L37 k (some m) (I (118 + 119 * q)) (I p.1) (TW m v1 (aset A1 1 p.2) h)) (fun i => (i, st i)) 118 (some (I (ngiv g.1 + nshw g.1), TW m v1 (aset A1 1 (sTake g.1 q)) h)) (by omega) (fun k i hi => ?_) (fun k => ?_)
  · have hSB : SB (sTake g.1 q) := by intro k; unfold sTake; repeat' split
                                      all_goals first | exact hs _ | decide
    refine ⟨v1, _, ?_, TI_set (s := sTake g.1 q) a2 hSB⟩
    have e0 : nup g.1 (118 + 119 * q) 1 = st 0 := by
      funext k
      simp only [nup, st]
      by_cases e : k = 118 + 119 * q
      · rw [if_pos e, if_pos e]
      · rw [if_neg e, if_neg e, if_neg (by omega)]
    simp (disch := first | omega | assumption) only [tw_rcv, tw_r1, tw_r2, tw_r3, tw_r5, tw_r7, tw_r12, tw_r14, tw_r15, tw_r16, tw_r17, tw_r18, Option.bind_some, lit_I, I_add, I_mul, I_le, I_lt, I_eq, if_neg, if_pos, if_true, if_false, I_10, I_01, bit_T, bit_F, bit_F', bit_0, bit_1, gb_bit, tw_s, tw_rw, tw_cells, tw_blockOf, tw_numberOf, aset_eq, aset_ne, aset_aset, Bool.false_eq_true, not_true_eq_false, not_false_eq_true, f_X13_take, tw_p0, inZ, h1, a1, s2, tw_ws, e0, chg]
    exact key
  · have e1 : st i i = g.1 i := by simp only [st]; rw [if_neg (by omega), if_neg (by omega)]
    have e2 : nup (st i) (118 + 119 * q + 1 + i) (g.1 i) = st (i + 1) := by
      funext k
      simp only [nup, st]
      by_cases e : k = 118 + 119 * q + 1 + i
      · subst e; rw [if_pos rfl, if_neg (by omega), if_pos (by omega)]; exact congrArg g.1 (by omega)
      · rw [if_neg e]
        by_cases e3 : k = 118 + 119 * q
        · rw [if_pos e3, if_pos e3]
        · rw [if_neg e3, if_neg e3]
          by_cases e4 : 119 + 119 * q ≤ k ∧ k < 119 + 119 * q + i
          · rw [if_pos e4, if_pos (by omega)]
          · rw [if_neg e4, if_neg (by omega)]
    simp (disch := first | omega | assumption) only [tw_rcv, tw_r1, tw_r2, tw_r3, tw_r5, tw_r7, tw_r12, tw_r14, tw_r15, tw_r16, tw_r17, tw_r18, Option.bind_some, lit_I, I_add, I_mul, I_le, I_lt, I_eq, if_neg, if_pos, if_true, if_false, I_10, I_01, bit_T, bit_F, bit_F', bit_0, bit_1, gb_bit, tw_s, tw_rw, tw_cells, tw_blockOf, tw_numberOf, aset_eq, aset_ne, aset_aset, Bool.false_eq_true, not_true_eq_false, not_false_eq_true, f_X13_take_L37, e1, tw_ws, e2]
  · have e2 : st 118 = sTake g.1 q := rfl
    have hcl := tw_cluesT (m := m) (v := v1) (A := aset A1 1 (sTake g.1 q)) (h := h) (by rw [aset_eq]; exact PG_of (sTake_lo (by decide)) (sTake_lo (by decide)) hP)
    rw [aset_eq, hng, hns] at hcl
    simp (disch := first | omega | assumption) only [tw_rcv, tw_r1, tw_r2, tw_r3, tw_r5, tw_r7, tw_r12, tw_r14, tw_r15, tw_r16, tw_r17, tw_r18, Option.bind_some, lit_I, I_add, I_mul, I_le, I_lt, I_eq, if_neg, if_pos, if_true, if_false, I_10, I_01, bit_T, bit_F, bit_F', bit_0, bit_1, gb_bit, tw_s, tw_rw, tw_cells, tw_blockOf, tw_numberOf, aset_eq, aset_ne, aset_aset, Bool.false_eq_true, not_true_eq_false, not_false_eq_true, f_X13_take_L37, e2, hcl]
theorem sBack_Eq {s : Nat → Nat} {q : Nat} : EqN 118 (slt s q) (sBack s q) := fun k hk => by unfold sBack slt; rw [if_pos hk]
theorem tw_restore {x : Int32} (hT : TI v A g) (hI : RInv g.1) : ∃ v' A', f_X13_restore (some m) x (TW m v A h) = some ((o_restore g x).1, TW m v' A' h) ∧ TI v' A' (o_restore g x).2 := by
  have hP := hI.1.1.1
  have hn := nc_le hP
  have hT0 := TI_v0 (x := I 0) hT
  have hs := TI_SB hT
  have s1 : A 1 = g.1 := hT.2.1
  unfold o_restore
  cases h1 : bt x 0 1 with
  | false =>
    refine ⟨_, _, ?_, hT0⟩
    simp (disch := first | omega | assumption) only [tw_rcv, tw_r1, tw_r2, tw_r3, tw_r5, tw_r7, tw_r12, tw_r14, tw_r15, tw_r16, tw_r17, tw_r18, Option.bind_some, lit_I, I_add, I_mul, I_le, I_lt, I_eq, if_neg, if_pos, if_true, if_false, I_10, I_01, bit_T, bit_F, bit_F', bit_0, bit_1, gb_bit, tw_s, tw_rw, tw_cells, tw_blockOf, tw_numberOf, aset_eq, aset_ne, aset_aset, Bool.false_eq_true, not_true_eq_false, not_false_eq_true, f_X13_restore, tw_p0, inZ, h1]
  | true =>
  obtain ⟨q, rfl, hna, -, hx⟩ := bt_ex (by decide) (by decide) h1
  simp only [hna]
  have b1 := hs (118 + 119 * q)
  by_cases h2 : g.1 (118 + 119 * q) = 0
  · refine ⟨_, _, ?_, by simp only [if_true, if_pos h2]; exact hT0⟩
    simp (disch := first | omega | assumption) only [tw_rcv, tw_r1, tw_r2, tw_r3, tw_r5, tw_r7, tw_r12, tw_r14, tw_r15, tw_r16, tw_r17, tw_r18, Option.bind_some, lit_I, I_add, I_mul, I_le, I_lt, I_eq, if_neg, if_pos, if_true, if_false, I_10, I_01, bit_T, bit_F, bit_F', bit_0, bit_1, gb_bit, tw_s, tw_rw, tw_cells, tw_blockOf, tw_numberOf, aset_eq, aset_ne, aset_aset, Bool.false_eq_true, not_true_eq_false, not_false_eq_true, f_X13_restore, tw_p0, inZ, h1, s1, h2]
  · obtain ⟨v1, A1, a1, a2, -, -⟩ := tw_actT (m := m) (h := h) hT0
    have s2 : A1 1 = g.1 := a2.2.1
    have hq := hI.2 q (by omega)
    have hPq := hq.2 (by omega)
    let st : Nat → (Nat → Nat) := fun i k => if k < i then g.1 (119 + 119 * q + k) else g.1 k
    have hPb : PG' (sBack g.1 q) := PG_of rfl rfl hPq.1.1
    have hnq := nc_le hPq.1.1
    have hng : ngiv (sBack g.1 q) = ngiv (slt g.1 q) := by
      have e : nc (sBack g.1 q) = nc (slt g.1 q) := rfl
      unfold ngiv; rw [e]; exact sumTo_congr (fun i hi => (sBack_Eq _ (by omega)).symm)
    have hPP := hPq.1.1
    obtain ⟨p1, p2, p3, p4⟩ := hPP
    have hns : nshw (sBack g.1 q) = nshw (slt g.1 q) := by
      unfold nshw
      exact sumTo_congr (fun i hi => (sBack_Eq _ (show 83 + i < 118 from by have hi' : i < slt g.1 q 0 + slt g.1 q 1 := hi; omega)).symm)
    have key := loop_FU (fun k (p : Nat × (Nat → Nat)) => f_X13_restore_L42 k (some m) (I (118 + 119 * q)) (I p.1) (TW m v1 (aset A1 1 p.2) h)) (fun i => (i, st i)) 118 (some (I (ngiv (slt g.1 q) + nshw (slt g.1 q)), TW m v1 (aset A1 1 (sBack g.1 q)) h)) (by omega) (fun k i hi => ?_) (fun k => ?_)
    · have hSB : SB (sBack g.1 q) := by intro k; unfold sBack; repeat' split
                                        all_goals exact hs _
      have e0 : st 0 = A1 1 := by rw [s2]; funext k; simp [st]
      simp only [e0, aset_self] at key
      refine ⟨v1, _, ?_, by simp only [if_true, if_neg h2]; exact TI_set (s := sBack g.1 q) a2 hSB⟩
      simp (disch := first | omega | assumption) only [tw_rcv, tw_r1, tw_r2, tw_r3, tw_r5, tw_r7, tw_r12, tw_r14, tw_r15, tw_r16, tw_r17, tw_r18, Option.bind_some, lit_I, I_add, I_mul, I_le, I_lt, I_eq, if_neg, if_pos, if_true, if_false, I_10, I_01, bit_T, bit_F, bit_F', bit_0, bit_1, gb_bit, tw_s, tw_rw, tw_cells, tw_blockOf, tw_numberOf, aset_eq, aset_ne, aset_aset, Bool.false_eq_true, not_true_eq_false, not_false_eq_true, f_X13_restore, tw_p0, inZ, h1, s1, a1, chg]
      exact key
    · have e1 : st i (118 + 119 * q + 1 + i) = g.1 (119 + 119 * q + i) := by
        simp only [st]; rw [if_neg (by omega)]; exact congrArg g.1 (by omega)
      have e2 : nup (st i) i (g.1 (119 + 119 * q + i)) = st (i + 1) := by
        funext k
        simp only [nup, st]
        by_cases e : k = i
        · subst e; rw [if_pos rfl, if_pos (by omega)]
        · rw [if_neg e]
          by_cases e4 : k < i
          · rw [if_pos e4, if_pos (by omega)]
          · rw [if_neg e4, if_neg (by omega)]
      simp (disch := first | omega | assumption) only [tw_rcv, tw_r1, tw_r2, tw_r3, tw_r5, tw_r7, tw_r12, tw_r14, tw_r15, tw_r16, tw_r17, tw_r18, Option.bind_some, lit_I, I_add, I_mul, I_le, I_lt, I_eq, if_neg, if_pos, if_true, if_false, I_10, I_01, bit_T, bit_F, bit_F', bit_0, bit_1, gb_bit, tw_s, tw_rw, tw_cells, tw_blockOf, tw_numberOf, aset_eq, aset_ne, aset_aset, Bool.false_eq_true, not_true_eq_false, not_false_eq_true, f_X13_restore_L42, e1, tw_ws, e2]
    · have e2 : st 118 = sBack g.1 q := rfl
      have hcl := tw_cluesT (m := m) (v := v1) (A := aset A1 1 (sBack g.1 q)) (h := h) (by rw [aset_eq]; exact hPb)
      rw [aset_eq, hng, hns] at hcl
      simp (disch := first | omega | assumption) only [tw_rcv, tw_r1, tw_r2, tw_r3, tw_r5, tw_r7, tw_r12, tw_r14, tw_r15, tw_r16, tw_r17, tw_r18, Option.bind_some, lit_I, I_add, I_mul, I_le, I_lt, I_eq, if_neg, if_pos, if_true, if_false, I_10, I_01, bit_T, bit_F, bit_F', bit_0, bit_1, gb_bit, tw_s, tw_rw, tw_cells, tw_blockOf, tw_numberOf, aset_eq, aset_ne, aset_aset, Bool.false_eq_true, not_true_eq_false, not_false_eq_true, f_X13_restore_L42, e2, hcl]
theorem tw_undo (hT : TI v A g) : ∃ v' A', f_X13_undo (some m) (TW m v A h) = some ((o_undo g).1, TW m v' A' h) ∧ TI v' A' (o_undo g).2 := by
  obtain ⟨i1, i2, i3, i4, i5, i6⟩ := TI_v0 (x := I 0) hT
  have hs := TI_SB hT
  have hle := i3.1
  unfold o_undo
  cases hl : g.2.1.getLast? with
  | none =>
    have hnil : g.2.1 = [] := List.getLast?_eq_none_iff.mp hl
    rw [hnil] at i4
    simp only [List.length_nil] at i4
    refine ⟨_, _, ?_, TI_v0 (x := I 0) hT⟩
    simp (disch := first | omega | assumption) only [tw_rcv, tw_r1, tw_r2, tw_r3, tw_r5, tw_r7, tw_r12, tw_r14, tw_r15, tw_r16, tw_r17, tw_r18, Option.bind_some, lit_I, I_add, I_mul, I_le, I_lt, I_eq, if_neg, if_pos, if_true, if_false, I_10, I_01, bit_T, bit_F, bit_F', bit_0, bit_1, gb_bit, tw_s, tw_rw, tw_cells, tw_blockOf, tw_numberOf, aset_eq, aset_ne, aset_aset, Bool.false_eq_true, not_true_eq_false, not_false_eq_true, f_X13_undo, tw_p0, tw_int (k := 4) rfl, i4]
  | some r =>
    have hne : g.2.1 ≠ [] := by intro q; rw [q] at hl; cases hl
    have hlen : 0 < g.2.1.length := Nat.pos_of_ne_zero (fun q => hne (List.length_eq_zero_iff.mp q))
    have hr : g.2.1[g.2.1.length - 1]? = some r := by rw [← hl, List.getLast?_eq_getElem?]
    have hrow := i3.2 _ _ hr
    let st : Nat → (Nat → Nat) := fun i k => if k < i then r k else g.1 k
    have key := loop_FU (fun k (p : Nat × (Nat → Nat)) => f_X13_undo_L27 k (some m) (I p.1) (TW m (vup (vup v 0 (I 0)) 4 (I (g.2.1.length - 1))) (aset A 1 p.2) h)) (fun i => (i, st i)) 356 (some (I (g.2.1.length - 1), TW m (vup (vup v 0 (I 0)) 4 (I (g.2.1.length - 1))) (aset A 1 (sUndo g.1 r)) h)) (by omega) (fun k i hi => ?_) (fun k => ?_)
    · have e0 : st 0 = A 1 := by rw [i2]; funext k; simp [st]
      simp only [e0, aset_self] at key
      have hSB : SB (sUndo g.1 r) := by
        intro k; unfold sUndo; split
        · rename_i hk; rw [← hrow k hk]; exact i1 3 _
        · exact hs _
      refine ⟨vup (vup v 0 (I 0)) 4 (I (g.2.1.length - 1)), aset A 1 (sUndo g.1 r), ?_, ?_⟩
      · simp (disch := first | omega | assumption) only [tw_rcv, tw_r1, tw_r2, tw_r3, tw_r5, tw_r7, tw_r12, tw_r14, tw_r15, tw_r16, tw_r17, tw_r18, Option.bind_some, lit_I, I_add, I_mul, I_le, I_lt, I_eq, if_neg, if_pos, if_true, if_false, I_10, I_01, bit_T, bit_F, bit_F', bit_0, bit_1, gb_bit, tw_s, tw_rw, tw_cells, tw_blockOf, tw_numberOf, aset_eq, aset_ne, aset_aset, Bool.false_eq_true, not_true_eq_false, not_false_eq_true, f_X13_undo, tw_p0, tw_int (k := 4) rfl, i4, I_sub, tw_pf (k := 4) rfl]
        exact key
      · refine ⟨AB_set i1 hSB, aset_eq, ⟨by simp; omega, fun i r' hr' k hk => ?_⟩, ?_, by rw [vup_ne _ (by decide)]; exact i5, by rw [aset_ne (by decide)]; exact i6⟩
        · rw [aset_ne (by decide)]
          refine i3.2 i r' ?_ k hk
          rw [List.getElem?_dropLast] at hr'
          split at hr'
          · exact hr'
          · cases hr'
        · rw [vup_eq]; simp
    · have e1 : A 3 (356 * (g.2.1.length - 1) + i) = r i := hrow i hi
      have e2 : nup (st i) i (r i) = st (i + 1) := by
        funext k
        simp only [nup, st]
        by_cases e : k = i
        · subst e; rw [if_pos rfl, if_pos (by omega)]
        · rw [if_neg e]
          by_cases e4 : k < i
          · rw [if_pos e4, if_pos (by omega)]
          · rw [if_neg e4, if_neg (by omega)]
      simp (disch := first | omega | assumption) only [tw_rcv, tw_r1, tw_r2, tw_r3, tw_r5, tw_r7, tw_r12, tw_r14, tw_r15, tw_r16, tw_r17, tw_r18, Option.bind_some, lit_I, I_add, I_mul, I_le, I_lt, I_eq, if_neg, if_pos, if_true, if_false, I_10, I_01, bit_T, bit_F, bit_F', bit_0, bit_1, gb_bit, tw_s, tw_rw, tw_cells, tw_blockOf, tw_numberOf, aset_eq, aset_ne, aset_aset, Bool.false_eq_true, not_true_eq_false, not_false_eq_true, f_X13_undo_L27, tw_int (k := 4) rfl, vup_eq, tw_r3', e1, tw_ws, e2]
    · have e2 : st 356 = sUndo g.1 r := rfl
      simp (disch := first | omega | assumption) only [tw_rcv, tw_r1, tw_r2, tw_r3, tw_r5, tw_r7, tw_r12, tw_r14, tw_r15, tw_r16, tw_r17, tw_r18, Option.bind_some, lit_I, I_add, I_mul, I_le, I_lt, I_eq, if_neg, if_pos, if_true, if_false, I_10, I_01, bit_T, bit_F, bit_F', bit_0, bit_1, gb_bit, tw_s, tw_rw, tw_cells, tw_blockOf, tw_numberOf, aset_eq, aset_ne, aset_aset, Bool.false_eq_true, not_true_eq_false, not_false_eq_true, f_X13_undo_L27, tw_int (k := 4) rfl, vup_eq, e2]
theorem tw_w4 {j x : Nat} (hj : j < 140) : asi 0 (some (m + 4)) (I j) (I x) (TW m v A h) = some (TW m v (aset A 4 (nup (A 4) j x)) h) := tw_w (o := 4) (by decide) hj
theorem tw_append {x : Int32} (hT : TI v A g) (hl : g.2.2.1 ≤ 140) : ∃ v' A', f_X13_append (some m) x (TW m v A h) = some ((o_append g x).1, TW m v' A' h) ∧ TI v' A' (o_append g x).2 := by
  have hT0 := TI_v0 (x := I 0) hT
  unfold o_append
  cases h1 : bt x 1 255 with
  | false =>
    refine ⟨_, _, ?_, hT0⟩
    simp (disch := first | omega | assumption) only [tw_rcv, tw_r1, tw_r2, tw_r3, tw_r5, tw_r7, tw_r12, tw_r14, tw_r15, tw_r16, tw_r17, tw_r18, Option.bind_some, lit_I, I_add, I_mul, I_le, I_lt, I_eq, if_neg, if_pos, if_true, if_false, I_10, I_01, bit_T, bit_F, bit_F', bit_0, bit_1, gb_bit, tw_s, tw_rw, tw_cells, tw_blockOf, tw_numberOf, aset_eq, aset_ne, aset_aset, Bool.false_eq_true, not_true_eq_false, not_false_eq_true, f_X13_append, tw_p0, inZ, h1]
  | true =>
  obtain ⟨c, rfl, hna, h0, hx⟩ := bt_ex (by decide) (by decide) h1
  simp only [hna]
  have hT1 := hT0
  obtain ⟨i1, i2, i3, i4, i5, i6⟩ := hT0
  by_cases h2 : g.2.2.1 = 140
  · refine ⟨_, _, ?_, by simp only [if_true, if_pos h2]; exact hT1⟩
    simp (disch := first | omega | assumption) only [tw_rcv, tw_r1, tw_r2, tw_r3, tw_r5, tw_r7, tw_r12, tw_r14, tw_r15, tw_r16, tw_r17, tw_r18, Option.bind_some, lit_I, I_add, I_mul, I_le, I_lt, I_eq, if_neg, if_pos, if_true, if_false, I_10, I_01, bit_T, bit_F, bit_F', bit_0, bit_1, gb_bit, tw_s, tw_rw, tw_cells, tw_blockOf, tw_numberOf, aset_eq, aset_ne, aset_aset, Bool.false_eq_true, not_true_eq_false, not_false_eq_true, f_X13_append, tw_p0, inZ, h1, tw_int (k := 6) rfl, i5, h2]
  · refine ⟨vup (vup v 0 (I 0)) 6 (I (g.2.2.1 + 1)), aset A 4 (nup (A 4) g.2.2.1 c), ?_, ?_⟩
    · simp (disch := first | omega | assumption) only [tw_rcv, tw_r1, tw_r2, tw_r3, tw_r5, tw_r7, tw_r12, tw_r14, tw_r15, tw_r16, tw_r17, tw_r18, Option.bind_some, lit_I, I_add, I_mul, I_le, I_lt, I_eq, if_neg, if_pos, if_true, if_false, I_10, I_01, bit_T, bit_F, bit_F', bit_0, bit_1, gb_bit, tw_s, tw_rw, tw_cells, tw_blockOf, tw_numberOf, aset_eq, aset_ne, aset_aset, Bool.false_eq_true, not_true_eq_false, not_false_eq_true, f_X13_append, tw_p0, inZ, h1, tw_int (k := 6) rfl, i5, tw_w4, tw_pf (k := 6) rfl, vup_eq]
    · simp only [if_true, if_neg h2]
      exact ⟨AB_set i1 (nup_SB (i1 4) (by omega)), by rw [aset_ne (by decide)]; exact i2, by rw [aset_ne (by decide)]; exact i3, by rw [vup_ne _ (by decide)]; exact i4, vup_eq _ _, by rw [aset_eq, i6]⟩
theorem tw_clearText (hT : TI v A g) : ∃ v' A', f_X13_clearText (some m) (TW m v A h) = some ((o_clearText g).1, TW m v' A' h) ∧ TI v' A' (o_clearText g).2 := by
  obtain ⟨i1, i2, i3, i4, i5, i6⟩ := TI_v0 (x := I 0) hT
  refine ⟨vup (vup v 0 (I 0)) 6 (I 0), A, ?_, ?_⟩
  · simp (disch := first | omega | assumption) only [tw_rcv, tw_r1, tw_r2, tw_r3, tw_r5, tw_r7, tw_r12, tw_r14, tw_r15, tw_r16, tw_r17, tw_r18, Option.bind_some, lit_I, I_add, I_mul, I_le, I_lt, I_eq, if_neg, if_pos, if_true, if_false, I_10, I_01, bit_T, bit_F, bit_F', bit_0, bit_1, gb_bit, tw_s, tw_rw, tw_cells, tw_blockOf, tw_numberOf, aset_eq, aset_ne, aset_aset, Bool.false_eq_true, not_true_eq_false, not_false_eq_true, f_X13_clearText, tw_p0, tw_int (k := 6) rfl, i5, tw_pf (k := 6) rfl]
    rfl
  · exact ⟨i1, i2, i3, by rw [vup_ne _ (by decide)]; exact i4, vup_eq _ _, i6⟩
end TW62
