/-! PLAIN LAW: boards that agree; the reference's ends -/
set_option maxRecDepth 100000
def EqN (n : Nat) (w w' : Nat → Nat) : Prop := ∀ c, c < n → w c = w' c
theorem orTo_congr {f g : Nat → Nat} : ∀ {n}, (∀ i, i < n → f i = g i) → orTo f n = orTo g n := by
  intro n
  induction n with
  | zero => intro _; rfl
  | succ n ih => intro hf; simp only [orTo]; rw [ih (fun i hi => hf i (by omega)), hf n (by omega)]
theorem anyB_congr {P Q : Nat → Bool} : ∀ {n}, (∀ i, i < n → P i = Q i) → anyB P n = anyB Q n := by
  intro n
  induction n with
  | zero => intro _; rfl
  | succ n ih => intro hf; simp only [anyB]; rw [ih (fun i hi => hf i (by omega)), hf n (by omega)]
theorem allB_congr {P Q : Nat → Bool} : ∀ {n}, (∀ i, i < n → P i = Q i) → allB P n = allB Q n := by
  intro n
  induction n with
  | zero => intro _; rfl
  | succ n ih => intro hf; simp only [allB]; rw [ih (fun i hi => hf i (by omega)), hf n (by omega)]
theorem firstFrom_congr {P Q : Nat → Bool} : ∀ n i, (∀ k, i ≤ k → k < i + n → P k = Q k) → firstFrom P n i = firstFrom Q n i := by
  intro n
  induction n with
  | zero => intro i _; rfl
  | succ n ih => intro i hf; simp only [firstFrom]; rw [ih (i + 1) (fun k h1 h2 => hf k (by omega) (by omega)), hf i (by omega) (by omega)]
section CG
variable {s w w' : Nat → Nat}
theorem sole_congr {c n : Nat} (hE : EqN (nc s) w w') : sole s w c n = sole s w' c n := by
  unfold sole
  exact firstI_congr (fun k hk => by unfold soleP; rw [hE k hk])
theorem only_congr {c n : Nat} (hc : c < nc s) (hE : EqN (nc s) w w') : only s w c n = only s w' c n := by
  have e : onlyN s w c n = onlyN s w' c n := by
    unfold onlyN els
    rw [hE c hc, orTo_congr (fun i hi => by rw [hE i hi])]
  unfold only; rw [e]
theorem lsums_congr {i : Nat} {b : Option Nat} (hP : PG' s) (hi' : i < s 0 + s 1) (hE : EqN (nc s) w w') : ∀ k, k ≤ ln s i → lsums s w i b k = lsums s w' i b k := by
  intro k
  induction k with
  | zero => intro _; rfl
  | succ k ih => intro hk; simp only [lsums]; rw [ih (by omega), hE _ (lc_lt hP hi' (show k < ln s i by omega))]
theorem lineP_congr {r c n i : Nat} (hP : PG' s) (hi' : i < s 0 + s 1) (hE : EqN (nc s) w w') : lineP s w r c n i = lineP s w' r c n i := by
  have e1 : beyond s w i c n = beyond s w' i c n := by
    unfold beyond lows highs
    rw [sumTo_congr (fun k hk => by rw [hE _ (lc_lt hP hi' hk)]), sumTo_congr (n := ln s i) (f := fun k => if lc s i k = c then 0 else hi (w (lc s i k))) (fun k hk => by rw [hE _ (lc_lt hP hi' hk)])]
  have e2 : missed s w i c n = missed s w' i c n := by
    unfold missed
    rw [lsums_congr hP hi' hE _ (Nat.le_refl _)]
  unfold lineP; rw [e1, e2]
theorem lineC_congr {r c n : Nat} (hP : PG' s) (hc : c < nc s) (hE : EqN (nc s) w w') : lineC s w r c n = lineC s w' r c n := by
  have hd := dv_lt hP hc
  unfold lineC
  rw [lineP_congr hP (by omega) hE, lineP_congr (i := s 0 + md c (s 1)) hP (by omega) hE]
theorem pairC_congr {c n : Nat} (hE : EqN (nc s) w w') : pairC s w c n = pairC s w' c n := by
  unfold pairC
  refine firstI_congr (fun d hd => ?_)
  unfold pairQ mayP
  rw [hE d hd]
  congr 2
  refine firstFrom_congr _ _ (fun k h1 h2 => ?_)
  unfold pairE
  rw [hE d hd, hE k (by omega)]
theorem causeC_congr {r c n : Nat} (hP : PG' s) (hc : c < nc s) (hE : EqN (nc s) w w') : causeC s w r c n = causeC s w' r c n := by
  unfold causeC
  rw [sole_congr hE, only_congr hc hE, lineC_congr hP hc hE, lineC_congr (r := 3) hP hc hE, pairC_congr hE]
theorem brk_congr (hE : EqN (nc s) w w') : brk s w = brk s w' := by
  unfold brk; exact anyB_congr (fun i hi => by rw [hE i hi])
theorem sgl_congr (hE : EqN (nc s) w w') : sgl s w = sgl s w' := by
  unfold sgl; exact sumTo_congr (fun i hi => by rw [hE i hi])
theorem pcs_congr (hE : EqN (nc s) w w') : pcs s w = pcs s w' := by
  unfold pcs; exact sumTo_congr (fun i hi => by rw [hE i hi])
theorem outc_congr (hE : EqN (nc s) w w') : outc s w = outc s w' := by
  unfold outc; rw [brk_congr hE, sgl_congr hE]
theorem numC_congr {r c : Nat} (hP : PG' s) (hc : c < nc s) (hE : EqN (nc s) w w') : numC s w r c = numC s w' r c := by
  unfold numC; exact firstI_congr (fun i hi => by unfold numP; rw [hE c hc, causeC_congr hP hc hE])
theorem cellC_congr {r : Nat} (hP : PG' s) (hE : EqN (nc s) w w') : cellC s w r = cellC s w' r := by
  unfold cellC; exact firstI_congr (fun i hi => by rw [numC_congr hP hi hE])
theorem stepR_congr {r : Nat} (hP : PG' s) (hE : EqN (nc s) w w') : stepR s w r = stepR s w' r := by
  unfold stepR
  rw [cellC_congr hP hE]
  cases h : cellC s w' r with
  | none => rfl
  | some c =>
    have hc : c < nc s := by unfold cellC at h; rw [firstI_some] at h; exact h.1
    show stepRC s w r c = stepRC s w' r c
    unfold stepRC
    rw [numC_congr hP hc hE]
    congr 1
    funext k
    rw [causeC_congr hP hc hE]
theorem findS_congr {rules : Nat} (hP : PG' s) (hE : EqN (nc s) w w') : findS s w rules = findS s w' rules := by
  unfold findS ruleC
  rw [brk_congr hE, firstI_congr (fun i hi => by rw [cellC_congr hP hE])]
  congr 2
  funext r
  rw [stepR_congr hP hE]
theorem strW_congr {c n : Nat} (hc : c < nc s) (hE : EqN (nc s) w w') : EqN (nc s) (strW w c n) (strW w' c n) := by
  intro d hd
  by_cases e : d = c
  · subst e; simp only [strW, nup_eq, hE d hd]
  · simp only [strW, nup_ne e]; exact hE d hd
end CG
theorem goN_congr {s : Nat → Nat} {rules : Nat} (hP : PG' s) : ∀ k w w', EqN (nc s) w w' → (goN s rules k w).1 = (goN s rules k w').1 ∧ EqN (nc s) (goN s rules k w).2 (goN s rules k w').2 := by
  intro k
  induction k with
  | zero => intro w w' hE; exact ⟨rfl, hE⟩
  | succ k ih =>
    intro w w' hE
    simp only [goN]
    rw [findS_congr hP hE]
    cases hf : findS s w' rules with
    | none => exact ⟨rfl, hE⟩
    | some t =>
      obtain ⟨-, h1, h2, h3, h4, h5, h6, h7⟩ := findS_some hf
      have h8 := ih _ _ (strW_congr (n := t.2.2.1) h3 hE)
      exact ⟨by simp only [h8.1], h8.2⟩
/-- the first board's end -/
def endF (s : Nat → Nat) (rules : Nat) : List SP4 × (Nat → Nat) := goE s rules (fb s)
def solv (s : Nat → Nat) (rules : Nat) : Bool := outc s (endF s rules).2 == 1
theorem fb_W7 {s : Nat → Nat} (hN : NB s) : W7 s (fb s) := by
  intro c hc
  obtain ⟨h1, h2, h3⟩ := hN c hc
  unfold fb
  split
  · rw [Nat.one_shiftLeft]
    exact Nat.lt_of_le_of_lt (Nat.pow_le_pow_right (show 0 < 2 by decide) h1) (by decide)
  · have : 1 <<< (bsz s (s (8 + c)) + 1) ≤ 128 := by
      rw [Nat.one_shiftLeft]
      exact show 2 ^ (bsz s (s (8 + c)) + 1) ≤ 2 ^ 7 from Nat.pow_le_pow_right (show 0 < 2 by decide) (by omega)
    omega
theorem wTo_Eq {f g : Nat → Nat} {n : Nat} : EqN n (wTo f g n) f := fun c hc => by simp only [wTo, if_pos hc]
theorem W7_Eq {s w w' : Nat → Nat} (h : W7 s w') (hE : EqN (nc s) w w') : W7 s w := fun c hc => by rw [hE c hc]; exact h c hc
theorem wTo_SB {s f g : Nat → Nat} (hf : W7 s f) (hg : SB g) : SB (wTo f g (nc s)) := by
  intro c
  unfold wTo
  split
  · rename_i hc; have := hf c hc; omega
  · exact hg c
theorem fb_of {s t : Nat → Nat} (h0 : t 0 = s 0) (h1 : t 1 = s 1) (hb : ∀ c, c < nc s → t (8 + c) = s (8 + c)) (hN : ∀ c, c < nc s → t (33 + c) = s (33 + c)) (hG : ∀ c, c < nc s → t (58 + c) = s (58 + c)) : EqN (nc s) (fb t) (fb s) := by
  intro c hc
  have e : ∀ b, bsz t b = bsz s b := fun b => by
    unfold bsz; rw [nc_of h0 h1]; exact sumTo_congr (fun i hi => by rw [hb i hi])
  unfold fb
  rw [hG c hc, hN c hc, hb c hc, e]
/-- what a look at boards leaves: the state's rows, most numbers -/
def LK (v : Nat → Int32) (A : Nat → Nat → Nat) (v' : Nat → Int32) (A' : Nat → Nat → Nat) : Prop := VK v v' ∧ (∀ o, o ≠ 5 → o ≠ 6 → A' o = A o) ∧ AB A'
section TWs
variable {m : Nat} {v : Nat → Int32} {A : Nat → Nat → Nat} {h : PH}
theorem AB_56 (hA : AB A) {w g : Nat → Nat} (hw : SB w) (hg : SB g) : AB (aset (aset A 5 w) 6 g) := AB_set (AB_set hA hw) hg
theorem tw_endF {rules : Nat} (hru : rules < 1000000) (hA : AB A) (hP : PG' (A 1)) (hN : NB (A 1)) :
    ∃ v' A', f_X13_layFirst (some m) (TW m v A h) = some (TW m v (aset A 5 (wTo (fb (A 1)) (A 5) (nc (A 1)))) h) ∧ f_X13_goToEnd (some m) (I rules) (TW m v (aset A 5 (wTo (fb (A 1)) (A 5) (nc (A 1)))) h) = some (TW m v' A' h) ∧ LK v A v' A' ∧ v' 13 = I (endF (A 1) rules).1.length ∧ HS (A' 6) 0 (endF (A 1) rules).1 ∧ EqN (nc (A 1)) (A' 5) (endF (A 1) rules).2 := by
  have hW := fb_W7 hN
  have a1 : ∀ w, (aset A 5 w) 1 = A 1 := fun w => aset_ne (by decide)
  have e1 := tw_layFirst (m := m) (v := v) (h := h) (hA 1) hP hN
  have hSB := wTo_SB hW (hA 5)
  have hAB : AB (aset A 5 (wTo (fb (A 1)) (A 5) (nc (A 1)))) := AB_set hA hSB
  obtain ⟨v', g', b1, b2, b3, b4, b5⟩ := tw_goToEnd (m := m) (v := v) (h := h) (A := aset A 5 (wTo (fb (A 1)) (A 5) (nc (A 1)))) hru hAB (by rw [a1]; exact hP) (by rw [a1]; exact hN) (by rw [a1, aset_eq]; exact W7_Eq hW wTo_Eq)
  simp only [a1, aset_eq] at b1 b3 b4
  have hc := goN_congr (rules := rules) hP 151 _ _ (wTo_Eq (f := fb (A 1)) (g := A 5) (n := nc (A 1)))
  refine ⟨v', _, e1, b1, ⟨b2, fun o h5 h6 => ?_, ?_⟩, ?_, ?_, ?_⟩
  · rw [aset_ne h6, aset_ne h5, aset_ne h5]
  · exact AB_set (AB_set hAB (goN_SB _ _ hSB)) b5
  · rw [b3]; unfold endF goE; rw [hc.1]
  · rw [aset_eq]; unfold endF goE; rw [← hc.1]; exact b4
  · rw [aset_ne (by decide), aset_eq]; exact hc.2
theorem LK.one {v v' : Nat → Int32} {A A' : Nat → Nat → Nat} (h : LK v A v' A') : A' 1 = A 1 := h.2.1 1 (by decide) (by decide)
theorem tw_goThrough (hA : AB A) (hP : PG' (A 1)) (hN : NB (A 1)) :
    ∃ v' A', f_X13_goThrough (some m) (TW m v A h) = some (TW m v' A' h) ∧ LK v A v' A' ∧ v' 13 = I (endF (A 1) (A 1 2)).1.length ∧ HS (A' 6) 0 (endF (A 1) (A 1 2)).1 ∧ EqN (nc (A 1)) (A' 5) (endF (A 1) (A 1 2)).2 := by
  have a1 : ∀ w, (aset A 5 w) 1 = A 1 := fun w => aset_ne (by decide)
  obtain ⟨v', A', e1, e2, e3, e4, e5, e6⟩ := tw_endF (m := m) (v := v) (h := h) (hA 1 2) hA hP hN
  refine ⟨v', A', ?_, e3, e4, e5, e6⟩
  simp (disch := first | omega | assumption) only [tw_rcv, tw_r1, tw_r2, tw_r3, tw_r5, tw_r7, tw_r12, tw_r14, tw_r15, tw_r16, tw_r17, tw_r18, Option.bind_some, lit_I, I_add, I_mul, I_le, I_lt, I_eq, if_neg, if_pos, if_true, if_false, I_10, I_01, bit_T, bit_F, bit_F', bit_0, bit_1, gb_bit, tw_s, tw_rw, tw_cells, tw_blockOf, tw_numberOf, aset_eq, aset_ne, aset_aset, Bool.false_eq_true, not_true_eq_false, not_false_eq_true, f_X13_goThrough, e1, e2]
theorem outc_le (s w : Nat → Nat) : outc s w ≤ 2 := by unfold outc; (split <;> try split) <;> decide
theorem tw_isSolvableBy {rules : Nat} (hru : rules < 1000000) (hA : AB A) (hP : PG' (A 1)) (hN : NB (A 1)) :
    ∃ v' A', f_X13_isSolvableBy (some m) (I rules) (TW m v A h) = some (I (bit (solv (A 1) rules = true)), TW m v' A' h) ∧ LK v A v' A' ∧ v' 13 = I (endF (A 1) rules).1.length ∧ HS (A' 6) 0 (endF (A 1) rules).1 ∧ EqN (nc (A 1)) (A' 5) (endF (A 1) rules).2 := by
  obtain ⟨v', A', e1, e2, e3, e4, e5, e6⟩ := tw_endF (m := m) (v := v) (h := h) hru hA hP hN
  refine ⟨v', A', ?_, e3, e4, e5, e6⟩
  have hh := tw_how (m := m) (v := v') (h := h) (A := A') (e3.2.2 5) (by rw [e3.one]; exact hP)
  rw [e3.one, outc_congr e6] at hh
  have ho := outc_le (A 1) (endF (A 1) rules).2
  simp (disch := first | omega | assumption) only [tw_rcv, tw_r1, tw_r2, tw_r3, tw_r5, tw_r7, tw_r12, tw_r14, tw_r15, tw_r16, tw_r17, tw_r18, Option.bind_some, lit_I, I_add, I_mul, I_le, I_lt, I_eq, if_neg, if_pos, if_true, if_false, I_10, I_01, bit_T, bit_F, bit_F', bit_0, bit_1, gb_bit, tw_s, tw_rw, tw_cells, tw_blockOf, tw_numberOf, aset_eq, aset_ne, aset_aset, Bool.false_eq_true, not_true_eq_false, not_false_eq_true, f_X13_isSolvableBy, e1, e2, hh]
  by_cases h1 : outc (A 1) (endF (A 1) rules).2 = 1
  · simp [solv, h1, bit]
  · simp [solv, h1, bit]
theorem tw_isSolvable (hA : AB A) (hP : PG' (A 1)) (hN : NB (A 1)) :
    ∃ v' A', f_X13_isSolvable (some m) (TW m v A h) = some (I (bit (solv (A 1) (A 1 2) = true)), TW m v' A' h) ∧ LK v A v' A' ∧ v' 13 = I (endF (A 1) (A 1 2)).1.length ∧ HS (A' 6) 0 (endF (A 1) (A 1 2)).1 ∧ EqN (nc (A 1)) (A' 5) (endF (A 1) (A 1 2)).2 := by
  obtain ⟨v', A', e1, e3⟩ := tw_isSolvableBy (m := m) (v := v) (h := h) (hA 1 2) hA hP hN
  refine ⟨v', A', ?_, e3⟩
  simp (disch := first | omega | assumption) only [tw_rcv, tw_r1, tw_r2, tw_r3, tw_r5, tw_r7, tw_r12, tw_r14, tw_r15, tw_r16, tw_r17, tw_r18, Option.bind_some, lit_I, I_add, I_mul, I_le, I_lt, I_eq, if_neg, if_pos, if_true, if_false, I_10, I_01, bit_T, bit_F, bit_F', bit_0, bit_1, gb_bit, tw_s, tw_rw, tw_cells, tw_blockOf, tw_numberOf, aset_eq, aset_ne, aset_aset, Bool.false_eq_true, not_true_eq_false, not_false_eq_true, f_X13_isSolvable, e1]
/-- the rule that strikes a number, and why -/
def strk (s w : Nat → Nat) (c n : Nat) : Option (Nat × Nat) := if (w c).testBit n = true ∧ brk s w = false then (firstI (fun r => (s 2).testBit r && (causeC s w r c n).isSome) 5).bind fun r => (causeC s w r c n).map fun z => (r, z) else none
def strV (v : Nat → Int32) (x : Option (Nat × Nat)) : Nat → Int32 := match x with | some t => vup v 11 (I t.2) | none => v
theorem strk_lt {s w : Nat → Nat} {c n : Nat} {t : Nat × Nat} (h : strk s w c n = some t) : t.1 < 5 ∧ (s 2).testBit t.1 = true ∧ causeC s w t.1 c n = some t.2 ∧ brk s w = false := by
  unfold strk at h
  split at h
  · rename_i hb
    simp only [Option.bind_eq_some_iff, Option.map_eq_some_iff, firstI_some, Bool.and_eq_true] at h
    obtain ⟨r, ⟨h1, ⟨h2, -⟩, -⟩, z, h3, rfl⟩ := h
    exact ⟨h1, h2, h3, hb.2⟩
  · cases h
theorem tw_strikerOf {c n : Nat} (hc : c < nc (A 1)) (hn' : n ≤ 6) (hA : AB A) (hP : PG' (A 1)) (hN : NB (A 1)) (hW : W7 (A 1) (A 5)) : f_X13_strikerOf (some m) (I c) (I n) (TW m v A h) = some (cz ((strk (A 1) (A 5) c n).map Prod.fst), TW m (strV v (strk (A 1) (A 5) c n)) A h) := by
  have hn := nc_le hP
  have h2 := hA 1 2
  have h3 := hW c hc
  have hA1 : SB (A 1) := hA 1
  have hA5 : SB (A 5) := hA 5
  unfold f_X13_strikerOf
  by_cases hb : (A 5 c).testBit n = true ∧ brk (A 1) (A 5) = false
  · obtain ⟨hb1, hb2⟩ := hb
    have hWB := WB_of hW hb2
    refine (loop_first (fun k (p : Nat) => f_X13_strikerOf_L2 k (some m) (I c) (I n) (I p) (TW m v A h)) (fun i => i) 5 (fun r => (A 1 2).testBit r && (causeC (A 1) (A 5) r c n).isSome) (fun r => match causeC (A 1) (A 5) r c n with | some z => some (I r, TW m (vup v 11 (I z)) A h) | none => none) (some (-99, TW m v A h)) (by omega) (fun k j hj hp => ?_) (fun k j hj hp => ?_) (fun k => ?_)).trans ?_
    · cases h4 : (A 1 2).testBit j with
      | false => simp (disch := first | omega | assumption) only [tw_rcv, tw_r1, tw_r2, tw_r3, tw_r5, tw_r7, tw_r12, tw_r14, tw_r15, tw_r16, tw_r17, tw_r18, Option.bind_some, lit_I, I_add, I_mul, I_le, I_lt, I_eq, if_neg, if_pos, if_true, if_false, I_10, I_01, bit_T, bit_F, bit_F', bit_0, bit_1, gb_bit, tw_s, tw_rw, tw_cells, tw_blockOf, tw_numberOf, aset_eq, aset_ne, aset_aset, Bool.false_eq_true, not_true_eq_false, not_false_eq_true, f_X13_strikerOf_L2, f_X13_strikerOf_B52, tw_has, tw_isBroken, hb1, hb2, h4, not_true_eq_false, not_false_eq_true]
      | true =>
        have h5 : causeC (A 1) (A 5) j c n = none := isSome_no (by simpa [h4] using hp)
        simp (disch := first | omega | assumption) only [tw_rcv, tw_r1, tw_r2, tw_r3, tw_r5, tw_r7, tw_r12, tw_r14, tw_r15, tw_r16, tw_r17, tw_r18, Option.bind_some, lit_I, I_add, I_mul, I_le, I_lt, I_eq, if_neg, if_pos, if_true, if_false, I_10, I_01, bit_T, bit_F, bit_F', bit_0, bit_1, gb_bit, tw_s, tw_rw, tw_cells, tw_blockOf, tw_numberOf, aset_eq, aset_ne, aset_aset, Bool.false_eq_true, not_true_eq_false, not_false_eq_true, f_X13_strikerOf_L2, f_X13_strikerOf_B52, tw_has, tw_isBroken, hb1, hb2, h4, not_true_eq_false, not_false_eq_true, tw_causeOf, h5, cz]
    · obtain ⟨h4, h5⟩ : (A 1 2).testBit j = true ∧ (causeC (A 1) (A 5) j c n).isSome = true := by simpa using hp
      obtain ⟨z, h6⟩ := isSome_ex h5
      have h7 := cause_lt hP hc h3 h6
      simp (disch := first | omega | assumption) only [tw_rcv, tw_r1, tw_r2, tw_r3, tw_r5, tw_r7, tw_r12, tw_r14, tw_r15, tw_r16, tw_r17, tw_r18, Option.bind_some, lit_I, I_add, I_mul, I_le, I_lt, I_eq, if_neg, if_pos, if_true, if_false, I_10, I_01, bit_T, bit_F, bit_F', bit_0, bit_1, gb_bit, tw_s, tw_rw, tw_cells, tw_blockOf, tw_numberOf, aset_eq, aset_ne, aset_aset, Bool.false_eq_true, not_true_eq_false, not_false_eq_true, f_X13_strikerOf_L2, f_X13_strikerOf_B52, tw_has, tw_isBroken, hb1, hb2, h4, not_true_eq_false, not_false_eq_true, tw_causeOf, h6, cz, cz_none_ne, tw_pf (k := 11) rfl]
    · simp (disch := first | omega | assumption) only [tw_rcv, tw_r1, tw_r2, tw_r3, tw_r5, tw_r7, tw_r12, tw_r14, tw_r15, tw_r16, tw_r17, tw_r18, Option.bind_some, lit_I, I_add, I_mul, I_le, I_lt, I_eq, if_neg, if_pos, if_true, if_false, I_10, I_01, bit_T, bit_F, bit_F', bit_0, bit_1, gb_bit, tw_s, tw_rw, tw_cells, tw_blockOf, tw_numberOf, aset_eq, aset_ne, aset_aset, Bool.false_eq_true, not_true_eq_false, not_false_eq_true, f_X13_strikerOf_L2]
    · unfold strk
      rw [if_pos ⟨hb1, hb2⟩]
      cases h1 : firstI (fun r => (A 1 2).testBit r && (causeC (A 1) (A 5) r c n).isSome) 5 with
      | none => rfl
      | some r =>
        rw [firstI_some] at h1
        obtain ⟨z, h4⟩ := isSome_ex ((Bool.and_eq_true _ _ ▸ h1.2.1).2)
        simp [h4, cz, strV]
  · have e : strk (A 1) (A 5) c n = none := by unfold strk; rw [if_neg hb]
    obtain ⟨f0, hF⟩ : ∃ f, FU = f + 1 := ⟨999999, FU_eq⟩
    rw [hF, e]
    cases hb1 : (A 5 c).testBit n with
    | false => simp (disch := first | omega | assumption) only [tw_rcv, tw_r1, tw_r2, tw_r3, tw_r5, tw_r7, tw_r12, tw_r14, tw_r15, tw_r16, tw_r17, tw_r18, Option.bind_some, lit_I, I_add, I_mul, I_le, I_lt, I_eq, if_neg, if_pos, if_true, if_false, I_10, I_01, bit_T, bit_F, bit_F', bit_0, bit_1, gb_bit, tw_s, tw_rw, tw_cells, tw_blockOf, tw_numberOf, aset_eq, aset_ne, aset_aset, Bool.false_eq_true, not_true_eq_false, not_false_eq_true, f_X13_strikerOf_L2, tw_has, hb1, not_false_eq_true]; rfl
    | true =>
      have hb2 : brk (A 1) (A 5) = true := by
        cases hq : brk (A 1) (A 5) with
        | true => rfl
        | false => exact absurd ⟨hb1, hq⟩ hb
      simp (disch := first | omega | assumption) only [tw_rcv, tw_r1, tw_r2, tw_r3, tw_r5, tw_r7, tw_r12, tw_r14, tw_r15, tw_r16, tw_r17, tw_r18, Option.bind_some, lit_I, I_add, I_mul, I_le, I_lt, I_eq, if_neg, if_pos, if_true, if_false, I_10, I_01, bit_T, bit_F, bit_F', bit_0, bit_1, gb_bit, tw_s, tw_rw, tw_cells, tw_blockOf, tw_numberOf, aset_eq, aset_ne, aset_aset, Bool.false_eq_true, not_true_eq_false, not_false_eq_true, f_X13_strikerOf_L2, tw_has, tw_isBroken, hb1, hb2, not_true_eq_false, not_false_eq_true]; rfl
end TWs
