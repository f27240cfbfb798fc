/-! PLAIN LAW: the reference's looks: what would be -/
set_option maxRecDepth 100000
noncomputable def r_suppose (g : GS) (x y z : Int32) : Int32 :=
  if (bt x 0 (nc g.1 - 1) && bt y 1 (bsz g.1 (g.1 (8 + na x))) && bt z 0 1) = true then
    (if (g.1 (93 + na x)).testBit (na y) = true then
      (if na z = 0 then I (outc g.1 (goE g.1 (g.1 2) (nup (bd g.1) (na x) (1 <<< na y))).2) else I (goE g.1 (g.1 2) (nup (bd g.1) (na x) (1 <<< na y))).1.length) else -2) else -1
def place (k i : Nat) : Nat := (if k = 0 then 58 else 83) + i
def r_needed (g : GS) (x y : Int32) : Int32 :=
  if (bt x 0 1 && bt y 0 (if na x = 0 then nc g.1 - 1 else g.1 0 + g.1 1 - 1)) = true then
    (if g.1 (place (na x) (na y)) = 0 ∨ solv g.1 (g.1 2) = false then -2 else I (bit (solv (nup g.1 (place (na x) (na y)) 0) (g.1 2) = false))) else -1
def costS (s : Nat → Nat) (rules : Nat) : Nat → Nat := sumTo (fun r => if rules.testBit r = true then s (3 + r) else 0)
def better (s : Nat → Nat) (a b : Nat) : Bool := decide (pc a < pc b) || (pc a == pc b && decide (costS s a 5 < costS s b 5))
/-- the best set of rules below n -/
def bestTo (s : Nat → Nat) : Nat → Option Nat
  | 0 => none
  | n + 1 => match bestTo s n with
    | none => if andn n (s 2) = 0 ∧ solv s n = true then some n else none
    | some b => if andn n (s 2) = 0 ∧ better s n b = true ∧ solv s n = true then some n else some b
def r_enough (g : GS) : Int32 := cz (bestTo g.1 32)
section TW66
variable {m : Nat} {v : Nat → Int32} {A : Nat → Nat → Nat} {h : PH} {g : GS}
theorem tw_suppose {x y z : Int32} (hT : TI v A g) (hI : RInv g.1) : ∃ v' A', f_X13_suppose (some m) x y z (TW m v A h) = some (r_suppose g x y z, TW m v' A' h) ∧ TI v' A' g := by
  have hP := hI.1.1.1
  have hn := nc_le hP
  have hT0 := TI_v0 (x := I 0) hT
  have s1 : A 1 = g.1 := hT.2.1
  have hA1 : SB (A 1) := hT.1 1
  have hs := TI_SB hT
  have hin := isNumberZ (m := m) (v := vup v 0 (I 0)) (h := h) (x := x) (y := y) hA1 (by rw [s1]; exact hP)
  rw [s1] at hin
  unfold r_suppose
  cases h1 : (bt x 0 (nc g.1 - 1) && bt y 1 (bsz g.1 (g.1 (8 + na x)))) with
  | false =>
    refine ⟨_, _, ?_, hT0⟩
    simp (disch := first | omega | assumption) only [f_X13_suppose, lit_I, tw_p0, tw_rcv, Option.bind_some, hin, h1, Bool.false_and, bit_0, Bool.false_eq_true, not_false_eq_true, if_true, if_false]
  | true =>
  cases h5 : bt z 0 1 with
  | false =>
    refine ⟨_, _, ?_, hT0⟩
    simp (disch := first | omega | assumption) only [f_X13_suppose, lit_I, tw_p0, tw_rcv, Option.bind_some, hin, h1, inZ, h5, Bool.true_and, bit_0, Bool.false_eq_true, not_false_eq_true, not_true_eq_false, if_true, if_false]
  | true =>
  obtain ⟨h2, h3⟩ := (Bool.and_eq_true _ _).mp h1
  obtain ⟨c, rfl, hna, -, hx⟩ := bt_ex (by decide) (by omega) h2
  have hc : c < nc g.1 := by omega
  rw [hna] at h3
  have hz6 := (hI.1.1.2.2.1 _ hc).1
  obtain ⟨k, rfl, hnk, hy0, hy⟩ := bt_ex (by decide) (by omega) h3
  obtain ⟨q, rfl, hnq, -, hq⟩ := bt_ex (by decide) (by decide) h5
  simp only [hna, hnk, hnq]
  have hb93 := (hI.1.2.2 c hc).1
  cases hb : (g.1 (93 + c)).testBit k with
  | false =>
    refine ⟨_, _, ?_, hT0⟩
    simp (disch := first | omega | assumption) only [tw_rcv, tw_r1, tw_r2, tw_r3, tw_r5, tw_r7, tw_r12, tw_r14, tw_r15, tw_r16, tw_r17, tw_r18, Option.bind_some, lit_I, I_add, I_mul, I_le, I_lt, I_eq, if_neg, if_pos, if_true, if_false, I_10, I_01, bit_T, bit_F, bit_F', bit_0, bit_1, gb_bit, tw_s, tw_rw, tw_cells, tw_blockOf, tw_numberOf, aset_eq, aset_ne, aset_aset, Bool.false_eq_true, not_true_eq_false, not_false_eq_true, f_X13_suppose, tw_p0, hin, h1, inZ, h5, Bool.true_and, s1, tw_has, hb]
  | true =>
    obtain ⟨A2, b1, b2, b3, b4, b5, b6⟩ := tw_layPT (m := m) (h := h) hT0 hI
    have s2 : A2 1 = g.1 := b2.2.1
    have h2k : 1 <<< k < 128 := by
      rw [Nat.one_shiftLeft]; exact Nat.lt_of_le_of_lt (Nat.pow_le_pow_right (show 0 < 2 by decide) (show k ≤ 6 by omega)) (by decide)
    have hw3 : W7 g.1 (nup (A2 5) c (1 <<< k)) := by
      intro d hd
      by_cases e : d = c
      · subst e; rw [nup_eq]; exact h2k
      · rw [nup_ne e]; exact b4 d hd
    have hE : EqN (nc g.1) (nup (A2 5) c (1 <<< k)) (nup (bd g.1) c (1 <<< k)) := by
      intro d hd
      by_cases e : d = c
      · subst e; rw [nup_eq, nup_eq]
      · rw [nup_ne e, nup_ne e]; exact b3 d hd
    have hT3 : TI (vup v 0 (I 0)) (aset A2 5 (nup (A2 5) c (1 <<< k))) g := TI_o b2 (nup_SB b5 (by omega)) (by decide) (by decide) (by decide)
    have s3 : (aset A2 5 (nup (A2 5) c (1 <<< k))) 1 = g.1 := hT3.2.1
    obtain ⟨v', g', c1, c2, c3, c4, c5⟩ := tw_goToEnd (m := m) (v := vup v 0 (I 0)) (h := h) (A := aset A2 5 (nup (A2 5) c (1 <<< k))) (rules := g.1 2) (hs 2) hT3.1 (by rw [s3]; exact hP) (by rw [s3]; exact hI.1.1.NB) (by rw [s3, aset_eq]; exact hw3)
    rw [s3, aset_eq] at c1 c3
    have hcg : (goE g.1 (g.1 2) (nup (A2 5) c (1 <<< k))).1 = (goE g.1 (g.1 2) (nup (bd g.1) c (1 <<< k))).1 ∧ EqN (nc g.1) (goE g.1 (g.1 2) (nup (A2 5) c (1 <<< k))).2 (goE g.1 (g.1 2) (nup (bd g.1) c (1 <<< k))).2 := goN_congr (rules := g.1 2) hP 151 _ _ hE
    have hlen : (goE g.1 (g.1 2) (nup (A2 5) c (1 <<< k))).1.length = (goE g.1 (g.1 2) (nup (bd g.1) c (1 <<< k))).1.length := by rw [hcg.1]
    rw [hlen] at c3
    have hSBw : SB (goE g.1 (g.1 2) (nup (A2 5) c (1 <<< k))).2 := goN_SB _ _ (nup_SB b5 (by omega))
    have hT5 : TI v' (aset (aset (aset A2 5 (nup (A2 5) c (1 <<< k))) 5 (goE g.1 (g.1 2) (nup (A2 5) c (1 <<< k))).2) 6 g') g := by
      exact TI_VK (TI_o (TI_o hT3 hSBw (by decide) (by decide) (by decide)) c5 (by decide) (by decide) (by decide)) (c2 4 (by omega) (by decide)) (c2 6 (by omega) (by decide))
    generalize hA5 : (aset (aset (aset A2 5 (nup (A2 5) c (1 <<< k))) 5 (goE g.1 (g.1 2) (nup (A2 5) c (1 <<< k))).2) 6 g') = A5 at c1 hT5
    have s5 : A5 1 = g.1 := hT5.2.1
    have e55 : A5 5 = (goE g.1 (g.1 2) (nup (A2 5) c (1 <<< k))).2 := by rw [← hA5, aset_ne (by decide), aset_eq]
    have hhow := tw_how (m := m) (v := v') (h := h) (A := A5) (hT5.1 5) (by rw [s5]; exact hP)
    rw [s5, e55, outc_congr hcg.2] at hhow
    refine ⟨v', A5, ?_, hT5⟩
    have hq' : q = 0 ∨ q = 1 := by omega
    have ew : asi 0 (some (m + 5)) (I c) (I (1 <<< k)) (TW m (vup v 0 (I 0)) A2 h) = some (TW m (vup v 0 (I 0)) (aset A2 5 (nup (A2 5) c (1 <<< k))) h) := tw_ww (by omega)
    have s3' : ald 0 (some (m + 1)) (I 2) (TW m (vup v 0 (I 0)) (aset A2 5 (nup (A2 5) c (1 <<< k))) h) = some (I (g.1 2)) := by rw [tw_s (by omega), s3]
    rcases hq' with rfl | rfl
    · simp (disch := first | omega | assumption) only [f_X13_suppose, lit_I, tw_p0, tw_rcv, tw_r1, tw_r7, Option.bind_some, hin, h1, inZ, h5, Bool.true_and, bit_0, not_true_eq_false, if_true, if_false, I_add, tw_s, s1, tw_has, hb, b1, I_and, I_shlM, ew, s3', c1, hhow]
    · simp (disch := first | omega | assumption) only [f_X13_suppose, lit_I, tw_p0, tw_rcv, tw_r1, tw_r7, Option.bind_some, hin, h1, inZ, h5, Bool.true_and, bit_0, not_true_eq_false, if_true, if_false, I_add, tw_s, s1, tw_has, hb, b1, I_and, I_shlM, ew, s3', c1, I_10, tw_int (k := 13) rfl, c3]
      rfl
theorem tw_solvT (hT : TI v A g) (hQ : QInv g.1) {rules : Nat} (hr : rules < 1000000) : ∃ v' A', f_X13_isSolvableBy (some m) (I rules) (TW m v A h) = some (I (bit (solv g.1 rules = true)), TW m v' A' h) ∧ TI v' A' g ∧ EqN (nc g.1) (A' 5) (endF g.1 rules).2 ∧ VK v v' := by
  have s1 : A 1 = g.1 := hT.2.1
  obtain ⟨v', A', e1, e2, -, -, e5⟩ := tw_isSolvableBy (m := m) (v := v) (h := h) hr hT.1 (by rw [s1]; exact hQ.1) (by rw [s1]; exact hQ.NB)
  rw [s1] at e1 e5
  exact ⟨v', A', e1, TI_LK hT e2, e5, e2.1⟩
theorem tw_solvaT (hT : TI v A g) (hQ : QInv g.1) : ∃ v' A', f_X13_isSolvable (some m) (TW m v A h) = some (I (bit (solv g.1 (g.1 2) = true)), TW m v' A' h) ∧ TI v' A' g ∧ EqN (nc g.1) (A' 5) (endF g.1 (g.1 2)).2 ∧ VK v v' := by
  have s1 : A 1 = g.1 := hT.2.1
  have hs := TI_SB hT
  have hA1 : SB (A 1) := hT.1 1
  obtain ⟨v', A', e1, e2⟩ := tw_solvT (m := m) (h := h) hT hQ (hs 2)
  refine ⟨v', A', ?_, e2⟩
  simp (disch := first | omega | assumption) only [tw_rcv, tw_r1, tw_r2, tw_r3, tw_r5, tw_r7, tw_r12, tw_r14, tw_r15, tw_r16, tw_r17, tw_r18, Option.bind_some, lit_I, I_add, I_mul, I_le, I_lt, I_eq, if_neg, if_pos, if_true, if_false, I_10, I_01, bit_T, bit_F, bit_F', bit_0, bit_1, gb_bit, tw_s, tw_rw, tw_cells, tw_blockOf, tw_numberOf, aset_eq, aset_ne, aset_aset, Bool.false_eq_true, not_true_eq_false, not_false_eq_true, f_X13_isSolvable, s1, e1]
theorem QInv_off {s : Nat → Nat} {k i : Nat} (h : QInv s) (hk : k ≤ 1) : QInv (nup s (place k i) 0) := by
  unfold place
  have hn := nc_le h.1
  split
  · refine QInv_clue h (fun j hj => nup_ne (by omega)) (fun d hd => ?_) (fun j hj => ?_)
    · by_cases e : d = i
      · subst e; rw [nup_eq]; exact ⟨by decide, fun q => by cases q⟩
      · rw [nup_ne (by omega)]; exact (h.2.2.1 d hd).2.2
    · have hx := h.2.2.2.2 j hj
      unfold nup; split
      · decide
      · exact hx
  · exact QInv_show h (by decide)
theorem tw_needed {x y : Int32} (hT : TI v A g) (hI : RInv g.1) : ∃ v' A', f_X13_needed (some m) x y (TW m v A h) = some (r_needed g x y, TW m v' A' h) ∧ TI v' A' g := by
  have hP := hI.1.1.1
  have hn := nc_le hP
  have hT0 := TI_v0 (x := I 0) hT
  have s1 : A 1 = g.1 := hT.2.1
  have hP1 : PG' (A 1) := by rw [s1]; exact hP
  have hs := TI_SB hT
  have hPP := hP
  obtain ⟨p1, p2, p3, p4⟩ := hPP
  unfold r_needed
  cases h1 : bt x 0 1 with
  | false =>
    refine ⟨_, _, ?_, hT0⟩
    simp (disch := first | omega | assumption) only [f_X13_needed, lit_I, tw_p0, Option.bind_some, inZ, h1, bit_0, Bool.false_and, Bool.false_eq_true, not_false_eq_true, if_true, if_false]
  | true =>
  obtain ⟨k, rfl, hnk, -, hk⟩ := bt_ex (by decide) (by decide) h1
  simp only [hnk]
  cases h2 : bt y 0 (if k = 0 then nc g.1 - 1 else g.1 0 + g.1 1 - 1) with
  | false =>
    refine ⟨_, _, ?_, hT0⟩
    have hk' : k = 0 ∨ k = 1 := by omega
    rcases hk' with rfl | rfl
    · rw [if_pos rfl] at h2
      simp (disch := first | omega | assumption) only [f_X13_needed, lit_I, tw_p0, tw_rcv, Option.bind_some, inZ, h1, bit_0, Bool.true_and, Bool.false_eq_true, not_false_eq_true, not_true_eq_false, if_true, if_false, isCellZ hP1, s1, h2]
    · rw [if_neg (by decide)] at h2
      simp (disch := first | omega | assumption) only [f_X13_needed, lit_I, tw_p0, tw_rcv, Option.bind_some, inZ, h1, bit_0, Bool.true_and, Bool.false_eq_true, not_false_eq_true, not_true_eq_false, if_true, if_false, isLineZ hP1, s1, h2, I_10]
  | true =>
  have hlim : (if k = 0 then nc g.1 - 1 else g.1 0 + g.1 1 - 1) < 25 := by split <;> omega
  obtain ⟨i, rfl, hni, -, hi'⟩ := bt_ex (by decide) (by omega) h2
  simp only [hni]
  have hpl : place k i < 93 := by unfold place; split <;> rename_i q <;> simp only [q, if_true, if_false] at hi' <;> omega
  have hb1 := hs (place k i)
  have hpe : (if k = 0 then 58 else 83) + i = place k i := rfl
  -- the walk into the common part
  have hin : ∀ z, f_X13_needed_B50 (some m) (I i) (I (if k = 0 then 58 else 83)) (TW m (vup v 0 (I 0)) A h) = z → f_X13_needed (some m) (I k) (I i) (TW m v A h) = z := fun z hz => by
    have hk' : k = 0 ∨ k = 1 := by omega
    rcases hk' with rfl | rfl
    · rw [if_pos rfl] at h2
      simp (disch := first | omega | assumption) only [f_X13_needed, f_X13_needed_B39, lit_I, tw_p0, tw_rcv, Option.bind_some, inZ, h1, bit_0, Bool.true_and, not_true_eq_false, if_true, if_false, isCellZ hP1, s1, h2]
      exact hz
    · rw [if_neg (by decide)] at h2
      simp (disch := first | omega | assumption) only [f_X13_needed, f_X13_needed_B39, lit_I, tw_p0, tw_rcv, Option.bind_some, inZ, h1, bit_0, Bool.true_and, not_true_eq_false, if_true, if_false, isLineZ hP1, s1, h2, I_10]
      exact hz
  by_cases h3 : g.1 (place k i) = 0
  · refine ⟨_, _, hin _ ?_, hT0⟩
    simp (disch := first | omega | assumption) only [f_X13_needed_B50, lit_I, tw_r1, Option.bind_some, I_add, hpe, tw_s, s1, h3, if_true, Bool.true_and, true_or]
  · have hbit : g.1 (place k i) = 1 := by
      have : g.1 (place k i) ≤ 1 := by
        unfold place
        by_cases q : k = 0
        · rw [if_pos q] at hi' ⊢; exact (hI.1.1.2.2.1 i (by omega)).2.2.1
        · rw [if_neg q] at hi' ⊢; exact hI.1.1.2.2.2.2 i (by omega)
      omega
    obtain ⟨v2, A2, a1, a2, -, -⟩ := tw_solvaT (m := m) (h := h) hT0 hI.1.1
    have s2 : A2 1 = g.1 := a2.2.1
    cases h4 : solv g.1 (g.1 2) with
    | false =>
      refine ⟨v2, A2, hin _ ?_, a2⟩
      simp (disch := first | omega | assumption) only [f_X13_needed_B50, lit_I, tw_r1, tw_rcv, Option.bind_some, I_add, hpe, tw_s, s1, hbit, I_10, if_true, if_false, Bool.true_and, a1, h4, bit_0, Bool.false_eq_true, not_false_eq_true, or_true]
    | true =>
      have hs0 : SB (nup g.1 (place k i) 0) := nup_SB hs (by decide)
      have t3 := TI_set (s := nup g.1 (place k i) 0) a2 hs0
      have hQ3 := QInv_off (i := i) hI.1.1 hk
      obtain ⟨v4, A4, b1, b2, -, -⟩ := tw_solvaT (m := m) (h := h) t3 hQ3
      have e22 : nup g.1 (place k i) 0 2 = g.1 2 := nup_ne (by unfold place; split <;> omega)
      simp only [e22] at b1
      have s4 : A4 1 = nup g.1 (place k i) 0 := b2.2.1
      have eback : nup (nup g.1 (place k i) 0) (place k i) 1 = g.1 := by
        funext j; unfold nup
        by_cases e : j = place k i
        · rw [if_pos e, e, hbit]
        · rw [if_neg e, if_neg e]
      have t5 := TI_set (s := g.1) b2 hs
      refine ⟨v4, aset A4 1 g.1, hin _ ?_, t5⟩
      have ew1 : asi 0 (some (m + 1)) (I (place k i)) (I 0) (TW m v2 A2 h) = some (TW m v2 (aset A2 1 (nup g.1 (place k i) 0)) h) := by rw [tw_ws (by omega), s2]
      have ew2 : asi 0 (some (m + 1)) (I (place k i)) (I 1) (TW m v4 A4 h) = some (TW m v4 (aset A4 1 g.1) h) := by rw [tw_ws (by omega), s4, eback]
      cases h5 : solv (nup g.1 (place k i) 0) (g.1 2) with
      | false =>
        simp (disch := first | omega | assumption) only [f_X13_needed_B50, f_X13_needed_B91, lit_I, tw_r1, tw_rcv, Option.bind_some, I_add, hpe, tw_s, s1, hbit, I_10, if_true, if_false, Bool.true_and, a1, h4, bit_0, not_true_eq_false, ew1, b1, h5, Bool.false_eq_true, not_false_eq_true, ew2]
        simp [h3, bit]
      | true =>
        simp (disch := first | omega | assumption) only [f_X13_needed_B50, f_X13_needed_B91, lit_I, tw_r1, tw_rcv, Option.bind_some, I_add, hpe, tw_s, s1, hbit, I_10, if_true, if_false, Bool.true_and, a1, h4, bit_0, not_true_eq_false, ew1, b1, h5, ew2]
        simp [h3, bit]
theorem costS_le {s : Nat → Nat} (h : QInv s) {rules n : Nat} (hn : n ≤ 5) : costS s rules n ≤ 45 := by
  have : costS s rules n ≤ n * 9 := by
    unfold costS
    revert hn
    induction n with
    | zero => intro _; simp [sumTo]
    | succ n ih =>
      intro hn
      have h1 := ih (by omega)
      have h2 := (h.2.1.2 n (by omega)).2
      simp only [sumTo, Nat.succ_mul]
      split <;> omega
  omega
theorem tw_costOf {rules : Nat} (hr : rules < 1000000) : f_X13_costOf (some m) (I rules) (TW m v A h) = some (I (costS (A 1) rules 5), TW m v A h) := by
  unfold f_X13_costOf
  refine loop_FU (fun k (p : Nat × Nat) => f_X13_costOf_L4 k (some m) (I rules) (I p.1) (I p.2) (TW m v A h)) (fun k => (costS (A 1) rules k, k)) 5 _ (by omega) (fun k j hj => ?_) (fun k => ?_)
  · cases h1 : rules.testBit j with
    | false => simp (disch := first | omega | assumption) only [tw_rcv, tw_r1, tw_r2, tw_r3, tw_r5, tw_r7, tw_r12, tw_r14, tw_r15, tw_r16, tw_r17, tw_r18, Option.bind_some, lit_I, I_add, I_mul, I_le, I_lt, I_eq, if_neg, if_pos, if_true, if_false, I_10, I_01, bit_T, bit_F, bit_F', bit_0, bit_1, gb_bit, tw_s, tw_rw, tw_cells, tw_blockOf, tw_numberOf, aset_eq, aset_ne, aset_aset, Bool.false_eq_true, not_true_eq_false, not_false_eq_true, f_X13_costOf_L4, tw_has, h1, costS, sumTo, Nat.add_zero]
    | true => simp (disch := first | omega | assumption) only [tw_rcv, tw_r1, tw_r2, tw_r3, tw_r5, tw_r7, tw_r12, tw_r14, tw_r15, tw_r16, tw_r17, tw_r18, Option.bind_some, lit_I, I_add, I_mul, I_le, I_lt, I_eq, if_neg, if_pos, if_true, if_false, I_10, I_01, bit_T, bit_F, bit_F', bit_0, bit_1, gb_bit, tw_s, tw_rw, tw_cells, tw_blockOf, tw_numberOf, aset_eq, aset_ne, aset_aset, Bool.false_eq_true, not_true_eq_false, not_false_eq_true, f_X13_costOf_L4, tw_has, h1, costS, sumTo]
  · simp (disch := first | omega | assumption) only [tw_rcv, tw_r1, tw_r2, tw_r3, tw_r5, tw_r7, tw_r12, tw_r14, tw_r15, tw_r16, tw_r17, tw_r18, Option.bind_some, lit_I, I_add, I_mul, I_le, I_lt, I_eq, if_neg, if_pos, if_true, if_false, I_10, I_01, bit_T, bit_F, bit_F', bit_0, bit_1, gb_bit, tw_s, tw_rw, tw_cells, tw_blockOf, tw_numberOf, aset_eq, aset_ne, aset_aset, Bool.false_eq_true, not_true_eq_false, not_false_eq_true, f_X13_costOf_L4]
theorem bestTo_lt {s : Nat → Nat} : ∀ {n b}, bestTo s n = some b → b < n := by
  intro n
  induction n with
  | zero => intro b h; cases h
  | succ n ih =>
    intro b h
    simp only [bestTo] at h
    cases hq : bestTo s n with
    | none =>
      rw [hq] at h
      simp only at h
      split at h
      · cases h; omega
      · cases h
    | some b' =>
      rw [hq] at h
      have := ih hq
      simp only at h
      split at h
      · cases h; omega
      · cases h; omega
theorem tw_en34 {r10 : Option Nat → Int32 → Int32 → PH → Option (Int32 × PH)} {n : Nat} {b : Option Nat} {may : Bool} (hT : TI v A g) (hI : RInv g.1) (hn : n < 32) (hb : ∀ j, b = some j → j < 32) :
    ∃ v' A', f_X13_enough_B34 r10 (some m) (cz b) (I n) (I (bit (may = true))) (TW m v A h) = r10 (some m) (cz (match b with | none => if may = true ∧ solv g.1 n = true then some n else none | some j => if may = true ∧ better g.1 n j = true ∧ solv g.1 n = true then some n else some j)) (I (n + 1)) (TW m v' A' h) ∧ TI v' A' g := by
  have s1 : A 1 = g.1 := hT.2.1
  have hs := TI_SB hT
  obtain ⟨v2, A2, a1, a2, -, -⟩ := tw_solvT (m := m) (h := h) (rules := n) hT hI.1.1 (by omega)
  have hco : ∀ j, j < 32 → f_X13_costOf (some m) (I j) (TW m v A h) = some (I (costS g.1 j 5), TW m v A h) := fun j hj => by
    have := tw_costOf (m := m) (v := v) (h := h) (A := A) (rules := j) (by omega); rw [s1] at this; exact this
  have hcn := hco n hn
  have hcl := costS_le hI.1.1 (rules := n) (Nat.le_refl 5)
  have hp1 := pc_le n
  cases b with
  | none =>
    cases may with
    | false =>
      refine ⟨v, A, ?_, hT⟩
      simp (disch := first | omega | assumption) only [tw_rcv, tw_r1, tw_r2, tw_r3, tw_r5, tw_r7, tw_r12, tw_r14, tw_r15, tw_r16, tw_r17, tw_r18, Option.bind_some, lit_I, I_add, I_mul, I_le, I_lt, I_eq, if_neg, if_pos, if_true, if_false, I_10, I_01, bit_T, bit_F, bit_F', bit_0, bit_1, gb_bit, tw_s, tw_rw, tw_cells, tw_blockOf, tw_numberOf, aset_eq, aset_ne, aset_aset, Bool.false_eq_true, not_true_eq_false, not_false_eq_true, f_X13_enough_B34, f_X13_enough_B81, cz, false_and]
    | true =>
      refine ⟨v2, A2, ?_, a2⟩
      cases h4 : solv g.1 n with
      | false => simp (disch := first | omega | assumption) only [tw_rcv, tw_r1, tw_r2, tw_r3, tw_r5, tw_r7, tw_r12, tw_r14, tw_r15, tw_r16, tw_r17, tw_r18, Option.bind_some, lit_I, I_add, I_mul, I_le, I_lt, I_eq, if_neg, if_pos, if_true, if_false, I_10, I_01, bit_T, bit_F, bit_F', bit_0, bit_1, gb_bit, tw_s, tw_rw, tw_cells, tw_blockOf, tw_numberOf, aset_eq, aset_ne, aset_aset, Bool.false_eq_true, not_true_eq_false, not_false_eq_true, f_X13_enough_B34, f_X13_enough_B81, cz, and_false, and_true, and_self, true_and, a1, h4]
      | true => simp (disch := first | omega | assumption) only [tw_rcv, tw_r1, tw_r2, tw_r3, tw_r5, tw_r7, tw_r12, tw_r14, tw_r15, tw_r16, tw_r17, tw_r18, Option.bind_some, lit_I, I_add, I_mul, I_le, I_lt, I_eq, if_neg, if_pos, if_true, if_false, I_10, I_01, bit_T, bit_F, bit_F', bit_0, bit_1, gb_bit, tw_s, tw_rw, tw_cells, tw_blockOf, tw_numberOf, aset_eq, aset_ne, aset_aset, Bool.false_eq_true, not_true_eq_false, not_false_eq_true, f_X13_enough_B34, f_X13_enough_B81, cz, and_false, and_true, and_self, true_and, a1, h4]
  | some j =>
    have hj := hb j rfl
    have hcj := hco j hj
    have hcl2 := costS_le hI.1.1 (rules := j) (Nat.le_refl 5)
    have hp2 := pc_le j
    -- what becomes of the comparison
    have hcmp : f_X13_enough_B34 r10 (some m) (I j) (I n) (I (bit (may = true))) (TW m v A h) = f_X13_enough_B81 r10 (some m) (I j) (I n) (I (bit (may = true))) (I (bit (better g.1 n j = true))) (TW m v A h) := by
      by_cases q1 : pc n < pc j
      · have hbt : better g.1 n j = true := by simp [better, q1]
        simp (disch := first | omega | assumption) only [f_X13_enough_B34, lit_I, cz_none_ne, if_true, if_false, tw_ones, Option.bind_some, I_lt, q1, hbt, bit_T]
      · by_cases q2 : pc n = pc j
        · by_cases q3 : costS g.1 j 5 ≤ costS g.1 n 5
          · have hbt : better g.1 n j = false := by simp [better, q2, q3]
            simp (disch := first | omega | assumption) only [f_X13_enough_B34, lit_I, cz_none_ne, if_true, if_false, tw_ones, Option.bind_some, I_lt, if_neg, q2, tw_rcv, hcn, hcj, I_le, q3, hbt, bit_F]
          · have hbt : better g.1 n j = true := by simp [better, q2]; omega
            simp (disch := first | omega | assumption) only [f_X13_enough_B34, lit_I, cz_none_ne, if_true, if_false, tw_ones, Option.bind_some, I_lt, if_neg, q2, tw_rcv, hcn, hcj, I_le, q3, hbt, bit_T]
        · have hbt : better g.1 n j = false := by simp [better, q1, q2]
          simp (disch := first | omega | assumption) only [f_X13_enough_B34, lit_I, cz_none_ne, if_true, if_false, tw_ones, Option.bind_some, I_lt, I_eq, if_neg, q2, hbt, bit_F]
    rw [show cz (some j) = I j from rfl, hcmp]
    cases may with
    | false =>
      refine ⟨v, A, ?_, hT⟩
      simp (disch := first | omega | assumption) only [tw_rcv, tw_r1, tw_r2, tw_r3, tw_r5, tw_r7, tw_r12, tw_r14, tw_r15, tw_r16, tw_r17, tw_r18, Option.bind_some, lit_I, I_add, I_mul, I_le, I_lt, I_eq, if_neg, if_pos, if_true, if_false, I_10, I_01, bit_T, bit_F, bit_F', bit_0, bit_1, gb_bit, tw_s, tw_rw, tw_cells, tw_blockOf, tw_numberOf, aset_eq, aset_ne, aset_aset, Bool.false_eq_true, not_true_eq_false, not_false_eq_true, f_X13_enough_B81, cz, false_and]
    | true =>
      cases hbt : better g.1 n j with
      | false =>
        refine ⟨v, A, ?_, hT⟩
        simp (disch := first | omega | assumption) only [tw_rcv, tw_r1, tw_r2, tw_r3, tw_r5, tw_r7, tw_r12, tw_r14, tw_r15, tw_r16, tw_r17, tw_r18, Option.bind_some, lit_I, I_add, I_mul, I_le, I_lt, I_eq, if_neg, if_pos, if_true, if_false, I_10, I_01, bit_T, bit_F, bit_F', bit_0, bit_1, gb_bit, tw_s, tw_rw, tw_cells, tw_blockOf, tw_numberOf, aset_eq, aset_ne, aset_aset, Bool.false_eq_true, not_true_eq_false, not_false_eq_true, f_X13_enough_B81, cz, false_and, and_false, true_and, hbt]
      | true =>
        refine ⟨v2, A2, ?_, a2⟩
        cases h4 : solv g.1 n with
        | false => simp (disch := first | omega | assumption) only [tw_rcv, tw_r1, tw_r2, tw_r3, tw_r5, tw_r7, tw_r12, tw_r14, tw_r15, tw_r16, tw_r17, tw_r18, Option.bind_some, lit_I, I_add, I_mul, I_le, I_lt, I_eq, if_neg, if_pos, if_true, if_false, I_10, I_01, bit_T, bit_F, bit_F', bit_0, bit_1, gb_bit, tw_s, tw_rw, tw_cells, tw_blockOf, tw_numberOf, aset_eq, aset_ne, aset_aset, Bool.false_eq_true, not_true_eq_false, not_false_eq_true, f_X13_enough_B81, cz, and_false, and_true, and_self, true_and, a1, h4, hbt]
        | true => simp (disch := first | omega | assumption) only [tw_rcv, tw_r1, tw_r2, tw_r3, tw_r5, tw_r7, tw_r12, tw_r14, tw_r15, tw_r16, tw_r17, tw_r18, Option.bind_some, lit_I, I_add, I_mul, I_le, I_lt, I_eq, if_neg, if_pos, if_true, if_false, I_10, I_01, bit_T, bit_F, bit_F', bit_0, bit_1, gb_bit, tw_s, tw_rw, tw_cells, tw_blockOf, tw_numberOf, aset_eq, aset_ne, aset_aset, Bool.false_eq_true, not_true_eq_false, not_false_eq_true, f_X13_enough_B81, cz, and_false, and_true, and_self, true_and, a1, h4, hbt]
theorem tw_en10 (hI : RInv g.1) : ∀ (k n : Nat) (f : Nat) (v : Nat → Int32) (A : Nat → Nat → Nat), n + k = 32 → k < f → TI v A g → ∃ v' A', f_X13_enough_L10 f (some m) (cz (bestTo g.1 n)) (I n) (TW m v A h) = some (cz (bestTo g.1 32), TW m v' A' h) ∧ TI v' A' g := by
  intro k
  induction k with
  | zero =>
    intro n f v A hn hf hT
    obtain ⟨f, rfl⟩ : ∃ f', f = f' + 1 := ⟨f - 1, by omega⟩
    have : n = 32 := by omega
    subst this
    exact ⟨v, A, by simp (disch := first | omega | assumption) only [f_X13_enough_L10, lit_I, I_le, if_pos], hT⟩
  | succ k ih =>
    intro n f v A hn hf hT
    obtain ⟨f, rfl⟩ : ∃ f', f = f' + 1 := ⟨f - 1, by omega⟩
    have s1 : A 1 = g.1 := hT.2.1
    have hs := TI_SB hT
    obtain ⟨v2, A2, a1, a2⟩ := tw_en34 (m := m) (h := h) (r10 := f_X13_enough_L10 f) (n := n) (b := bestTo g.1 n) (may := andn n (g.1 2) == 0) hT hI (by omega) (fun j hj => by have := bestTo_lt hj; omega)
    obtain ⟨v3, A3, b1, b2⟩ := ih (n + 1) f v2 A2 (by omega) (by omega) a2
    refine ⟨v3, A3, ?_, b2⟩
    have e1 : f_X13_enough_L10 (f + 1) (some m) (cz (bestTo g.1 n)) (I n) (TW m v A h) = f_X13_enough_B34 (f_X13_enough_L10 f) (some m) (cz (bestTo g.1 n)) (I n) (I (bit ((andn n (g.1 2) == 0) = true))) (TW m v A h) := by
      have han := andn_le n (g.1 2)
      rw [f_X13_enough_L10]
      simp (disch := first | omega | assumption) only [lit_I, I_le, if_neg, tw_r1, Option.bind_some, tw_s, s1, I_andnI, I_eq]
      by_cases q : andn n (g.1 2) = 0
      · simp [q, bit]
      · simp [q, bit]
    rw [e1, a1]
    have e2 : bestTo g.1 (n + 1) = (match bestTo g.1 n with | none => if (andn n (g.1 2) == 0) = true ∧ solv g.1 n = true then some n else none | some j => if (andn n (g.1 2) == 0) = true ∧ better g.1 n j = true ∧ solv g.1 n = true then some n else some j) := by
      simp only [bestTo, beq_iff_eq]
    rw [← e2]
    exact b1
theorem tw_enough (hT : TI v A g) (hI : RInv g.1) : ∃ v' A', f_X13_enough (some m) (TW m v A h) = some (r_enough g, TW m v' A' h) ∧ TI v' A' g := by
  obtain ⟨v', A', e1, e2⟩ := tw_en10 (m := m) (h := h) hI 32 0 FU (vup v 0 (I 0)) A (by omega) (by rw [FU_eq]; omega) (TI_v0 hT)
  refine ⟨v', A', ?_, e2⟩
  simp (disch := first | omega | assumption) only [f_X13_enough, lit_I, tw_p0, Option.bind_some]
  exact e1
end TW66
