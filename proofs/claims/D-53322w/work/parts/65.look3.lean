/-! PLAIN LAW: the reference's looks: the run, a step, the order -/
set_option maxRecDepth 100000
/-- one more than the greatest rule of the first steps -/
def gmx (l : List SP4) : Nat → Nat := maxTo (fun k => match l[k]? with | some t => t.1 + 1 | none => 0)
def wrk (s : Nat → Nat) (l : List SP4) (n : Nat) : Nat := sumTo (fun k => match l[l.length - 1 - k]? with | some t => s (3 + t.1) | none => 0) n
def fstG (l : List SP4) (k : Nat) : Bool := match l[k]? with | some t => t.1 + 1 == gmx l l.length | none => false
def r_run (g : GS) (x : Int32) : Int32 :=
  if bt x 0 5 = true then
    (if na x = 0 then I (outc g.1 (endF g.1 (g.1 2)).2) else if na x = 1 then I (endF g.1 (g.1 2)).1.length else if na x = 2 then I (gmx (endF g.1 (g.1 2)).1 (endF g.1 (g.1 2)).1.length) else if na x = 3 then I (wrk g.1 (endF g.1 (g.1 2)).1 (endF g.1 (g.1 2)).1.length) else if na x = 4 then I (pcs g.1 (endF g.1 (g.1 2)).2) else cz (firstI (fstG (endF g.1 (g.1 2)).1) (endF g.1 (g.1 2)).1.length)) else -1
def r_step (g : GS) (x y : Int32) : Int32 :=
  if x < I 0 then -1 else if bt y 0 3 = true then (match (endF g.1 (g.1 2)).1[na x]? with | some t => I (prt t (na y)) | none => -99) else -1
/-- the cells that become known, by the steps -/
def rnk (w : Nat → Nat) : List SP4 → List Nat
  | [] => []
  | t :: l => (if pc (strW w t.2.1 t.2.2.1 t.2.1) = 1 then [t.2.1] else []) ++ rnk (strW w t.2.1 t.2.2.1) l
def sgL (w : Nat → Nat) : Nat → List Nat
  | 0 => []
  | n + 1 => sgL w n ++ (if pc (w n) = 1 then [n] else [])
def rnkL (s : Nat → Nat) : List Nat := sgL (fb s) (nc s) ++ rnk (fb s) (endF s (s 2)).1
def r_rank (g : GS) (x : Int32) : Int32 :=
  if 0 ≤ x then (match (rnkL g.1)[na x]? with | some c => I c | none => -99) else -1
theorem na_pos {x : Int32} (h : 0 ≤ x) : x = I (na x) ∧ na x < 2147483648 := by
  rw [Int32.le_iff_toInt_le] at h
  have h0 : (0 : Int32).toInt = 0 := rfl
  rw [h0] at h
  have h2 := Int32.toInt_lt x
  have e : (na x : Int) = x.toInt := by show (x.toInt.toNat : Int) = x.toInt; omega
  refine ⟨Int32.toInt_inj.mp ?_, by omega⟩
  rw [I_toInt (by omega), e]
theorem moreM {a b : Nat} {g : PH} (ha : a < 1000000) (hb : b < 1000000) : f_X13_more (I a - I 1) (I b) g = some (I (max a (b + 1)) - I 1, g) := by
  have e : (I a - I 1).toInt = a - 1 := by
    rw [Int32.toInt_sub, I_toInt (show a < 2147483648 by omega), I_toInt (show 1 < 2147483648 by omega), Int.bmod_eq_of_le (by omega) (by omega)]; rfl
  have hle : (I a - I 1 ≤ I b) ↔ a ≤ b + 1 := by
    rw [Int32.le_iff_toInt_le, e, I_toInt (show b < 2147483648 by omega)]; omega
  unfold f_X13_more
  by_cases h : a ≤ b + 1
  · rw [if_pos (hle.mpr h), Nat.max_eq_right h]
    have : I (b + 1) - I 1 = I b := by rw [I_sub (by omega)]; rfl
    rw [this]
  · rw [if_neg (fun q => h (hle.mp q)), Nat.max_eq_left (by omega)]
theorem sub1_eq {a b : Nat} (ha : a < 1000000) (hb : b < 1000000) : (I b = I a - I 1) ↔ b + 1 = a := by
  have e : (I a - I 1).toInt = a - 1 := by
    rw [Int32.toInt_sub, I_toInt (show a < 2147483648 by omega), I_toInt (show 1 < 2147483648 by omega), Int.bmod_eq_of_le (by omega) (by omega)]; rfl
  rw [← Int32.toInt_inj, e, I_toInt (show b < 2147483648 by omega)]; omega
section TW65
variable {m : Nat} {v : Nat → Int32} {A : Nat → Nat → Nat} {h : PH} {g : GS}
theorem tw_gmax {l : List SP4} (hl : l.length ≤ 150) (hr : ∀ t, t ∈ l → t.1 < 5) (h13 : v 13 = I l.length) (hH : HS (A 6) 0 l) : f_X13_greatestRule (some m) (TW m v A h) = some (I (gmx l l.length) - I 1, TW m v A h) := by
  unfold f_X13_greatestRule
  have hg : ∀ n, gmx l n < 1000 := fun n => maxTo_lt (by decide) (fun i => by
    cases hq : l[i]? with
    | none => decide
    | some t => have := hr t (List.mem_of_getElem? hq); simp only; omega) n
  have key := loop_FU (fun n (p : Nat × Nat) => f_X13_greatestRule_L4 n (some m) (I p.1 - I 1) (I p.2) (TW m v A h)) (fun n => (gmx l n, n)) l.length (some (I (gmx l l.length) - I 1, TW m v A h)) (by omega) (fun n j hj => ?_) (fun n => ?_)
  · have e0 : I 0 - I 1 = -1 := by decide
    simp only [gmx, maxTo] at key
    rw [e0] at key
    exact key
  · have hj' : l[j]? = some l[j] := List.getElem?_eq_getElem hj
    have h6 := hH j _ hj' 0 (by decide)
    simp only [Nat.zero_add, Nat.add_zero, prt] at h6
    have h7 := hr l[j] (List.getElem_mem hj)
    have h8 := hg j
    have h9 := moreM (a := gmx l j) (b := l[j].1) (g := TW m v A h) (by omega) (by omega)
    have e9 : gmx l (j + 1) = max (gmx l j) (l[j].1 + 1) := by unfold gmx; simp only [maxTo, hj']
    simp (disch := first | omega | assumption) only [tw_rcv, tw_r1, tw_r2, tw_r3, tw_r5, tw_r7, tw_r12, tw_r14, tw_r15, tw_r16, tw_r17, tw_r18, Option.bind_some, lit_I, I_add, I_mul, I_le, I_lt, I_eq, if_neg, if_pos, if_true, if_false, I_10, I_01, bit_T, bit_F, bit_F', bit_0, bit_1, gb_bit, tw_s, tw_rw, tw_cells, tw_blockOf, tw_numberOf, aset_eq, aset_ne, aset_aset, Bool.false_eq_true, not_true_eq_false, not_false_eq_true, f_X13_greatestRule_L4, tw_int (k := 13) rfl, h13, tw_r6', h6, h9, e9]
  · simp (disch := first | omega | assumption) only [tw_rcv, tw_r1, tw_r2, tw_r3, tw_r5, tw_r7, tw_r12, tw_r14, tw_r15, tw_r16, tw_r17, tw_r18, Option.bind_some, lit_I, I_add, I_mul, I_le, I_lt, I_eq, if_neg, if_pos, if_true, if_false, I_10, I_01, bit_T, bit_F, bit_F', bit_0, bit_1, gb_bit, tw_s, tw_rw, tw_cells, tw_blockOf, tw_numberOf, aset_eq, aset_ne, aset_aset, Bool.false_eq_true, not_true_eq_false, not_false_eq_true, f_X13_greatestRule_L4, tw_int (k := 13) rfl, h13]
theorem tw_run {x : Int32} (hT : TI v A g) (hI : RInv g.1) : ∃ v' A', f_X13_run (some m) x (TW m v A h) = some (r_run g x, TW m v' A' h) ∧ TI v' A' g := by
  have hP := hI.1.1.1
  have hn := nc_le hP
  have hT0 := TI_v0 (x := I 0) hT
  have hs := TI_SB hT
  unfold r_run
  cases h1 : bt x 0 5 with
  | false =>
    refine ⟨_, _, ?_, hT0⟩
    simp (disch := first | omega | assumption) only [tw_rcv, tw_r1, tw_r2, tw_r3, tw_r5, tw_r7, tw_r12, tw_r14, tw_r15, tw_r16, tw_r17, tw_r18, Option.bind_some, lit_I, I_add, I_mul, I_le, I_lt, I_eq, if_neg, if_pos, if_true, if_false, I_10, I_01, bit_T, bit_F, bit_F', bit_0, bit_1, gb_bit, tw_s, tw_rw, tw_cells, tw_blockOf, tw_numberOf, aset_eq, aset_ne, aset_aset, Bool.false_eq_true, not_true_eq_false, not_false_eq_true, f_X13_run, tw_p0, inZ, h1]
  | true =>
  obtain ⟨k, rfl, hna, -, hx⟩ := bt_ex (by decide) (by decide) h1
  simp only [hna]
  obtain ⟨v', A', e1, e2, -, e3, e4, e5⟩ := tw_endT (m := m) (h := h) hT0 hI
  have s2 : A' 1 = g.1 := e2.2.1
  have hP2 : PG' (A' 1) := by rw [s2]; exact hP
  have hA2 : SB (A' 1) := e2.1 1
  have hS2 : SB (A' 5) := e2.1 5
  refine ⟨v', A', ?_, e2⟩
  have hlen := goE_len (s := g.1) (w := fb g.1) (rules := g.1 2) hP
  have hmem := fun t => goN_mem (s := g.1) (rules := g.1 2) 151 (fb g.1) t
  have hhow := tw_how (m := m) (v := v') (h := h) (A := A') hS2 hP2
  have hpm := tw_possibleMany (m := m) (v := v') (h := h) (A := A') hS2 hP2
  rw [s2, outc_congr e5] at hhow
  rw [s2, pcs_congr e5] at hpm
  generalize hl : (endF g.1 (g.1 2)).1 = l at e3 e4 ⊢
  generalize (endF g.1 (g.1 2)).2 = wE at hhow hpm ⊢
  have hl' : (goE g.1 (g.1 2) (fb g.1)).1 = l := hl
  rw [hl'] at hlen
  have hl'' : (goN g.1 (g.1 2) 151 (fb g.1)).1 = l := hl
  rw [hl''] at hmem
  have hr : ∀ t, t ∈ l → t.1 < 5 := fun t ht => (hmem t ht (fb_W7 hI.1.1.NB) hP).1
  have hgm := tw_gmax (m := m) (v := v') (h := h) (A := A') hlen hr e3 e4
  have hgl : gmx l l.length < 1000 := maxTo_lt (by decide) (fun i => by
    cases hq : l[i]? with
    | none => decide
    | some t => have := hr t (List.mem_of_getElem? hq); simp only; omega) _
  simp (disch := first | omega | assumption) only [tw_rcv, tw_r1, tw_r2, tw_r3, tw_r5, tw_r7, tw_r12, tw_r14, tw_r15, tw_r16, tw_r17, tw_r18, Option.bind_some, lit_I, I_add, I_mul, I_le, I_lt, I_eq, if_neg, if_pos, if_true, if_false, I_10, I_01, bit_T, bit_F, bit_F', bit_0, bit_1, gb_bit, tw_s, tw_rw, tw_cells, tw_blockOf, tw_numberOf, aset_eq, aset_ne, aset_aset, Bool.false_eq_true, not_true_eq_false, not_false_eq_true, f_X13_run, tw_p0, inZ, h1, e1, tw_int (k := 13) rfl, e3]
  have key := loop_FU (fun n (p : Nat × Int32 × Int32) => f_X13_run_L33 n (some m) (I k) (I p.1) p.2.1 p.2.2 (TW m v' A' h)) (fun j => (wrk g.1 l j, cz (firstFrom (fstG l) j (l.length - j)), I (l.length - j) - I 1)) l.length (some ((if k = 0 then I (outc g.1 wE) else if k = 1 then I l.length else if k = 2 then I (gmx l l.length) else if k = 3 then I (wrk g.1 l l.length) else if k = 4 then I (pcs g.1 wE) else cz (firstI (fstG l) l.length)), TW m v' A' h)) (by omega) (fun n j hj => ?_) (fun n => ?_)
  · simp only [wrk, sumTo, firstFrom, cz, Nat.sub_zero] at key
    exact key
  · -- the place j from the end
    have hi : l.length - 1 - j < l.length := by omega
    have hi' : l[l.length - 1 - j]? = some l[l.length - 1 - j] := List.getElem?_eq_getElem hi
    have h6 := e4 _ _ hi' 0 (by decide)
    simp only [Nat.zero_add, Nat.add_zero, prt] at h6
    have h7 := hr l[l.length - 1 - j] (List.getElem_mem hi)
    have ej : I (l.length - j) - I 1 = I (l.length - 1 - j) := by rw [I_sub (by omega)]; congr 1; omega
    have ej2 : I (l.length - 1 - j) + (- I 1) = I (l.length - (j + 1)) - I 1 := by
      rw [Int32.sub_eq_add_neg]; congr 2; omega
    have eP : firstFrom (fstG l) (j + 1) (l.length - (j + 1)) = if l[l.length - 1 - j].1 + 1 = gmx l l.length then some (l.length - 1 - j) else firstFrom (fstG l) j (l.length - j) := by
      have e7 : l.length - (j + 1) = l.length - 1 - j := by omega
      have e8 : l.length - 1 - j + 1 = l.length - j := by omega
      rw [e7, firstFrom, e8]
      simp only [fstG, hi', beq_iff_eq]
    have hw : wrk g.1 l (j + 1) = wrk g.1 l j + g.1 (3 + l[l.length - 1 - j].1) := by unfold wrk; simp only [sumTo, hi']
    have hs1 := sub1_eq (a := gmx l l.length) (b := l[l.length - 1 - j].1) (by omega) (by omega)
    simp only [ej]
    by_cases h8 : l[l.length - 1 - j].1 + 1 = gmx l l.length
    · have h9 := hs1.mpr h8
      rw [if_pos h8] at eP
      simp (disch := first | omega | assumption) only [tw_rcv, tw_r1, tw_r2, tw_r3, tw_r5, tw_r7, tw_r12, tw_r14, tw_r15, tw_r16, tw_r17, tw_r18, Option.bind_some, lit_I, I_add, I_mul, I_le, I_lt, I_eq, if_neg, if_pos, if_true, if_false, I_10, I_01, bit_T, bit_F, bit_F', bit_0, bit_1, gb_bit, tw_s, tw_rw, tw_cells, tw_blockOf, tw_numberOf, aset_eq, aset_ne, aset_aset, Bool.false_eq_true, not_true_eq_false, not_false_eq_true, f_X13_run_L33, s2, tw_r6', h6, hgm, hw, eP, cz]
      rw [ej2]
    · have h9 : ¬ I l[l.length - 1 - j].1 = I (gmx l l.length) - I 1 := fun q => h8 (hs1.mp q)
      rw [if_neg h8] at eP
      simp (disch := first | omega | assumption) only [tw_rcv, tw_r1, tw_r2, tw_r3, tw_r5, tw_r7, tw_r12, tw_r14, tw_r15, tw_r16, tw_r17, tw_r18, Option.bind_some, lit_I, I_add, I_mul, I_le, I_lt, I_eq, if_neg, if_pos, if_true, if_false, I_10, I_01, bit_T, bit_F, bit_F', bit_0, bit_1, gb_bit, tw_s, tw_rw, tw_cells, tw_blockOf, tw_numberOf, aset_eq, aset_ne, aset_aset, Bool.false_eq_true, not_true_eq_false, not_false_eq_true, f_X13_run_L33, s2, tw_r6', h6, hgm, h9, hw, eP]
      rw [ej2]
  · have hneg : I (l.length - l.length) - I 1 < I 0 := by rw [Nat.sub_self]; decide
    have e0 : I (gmx l l.length) - I 1 + I 1 = I (gmx l l.length) := Int32.sub_add_cancel _ _
    have hff : firstFrom (fstG l) l.length (l.length - l.length) = firstI (fstG l) l.length := by rw [Nat.sub_self]; rfl
    rw [hff]
    have hk : k = 0 ∨ k = 1 ∨ k = 2 ∨ k = 3 ∨ k = 4 ∨ k = 5 := by omega
    rcases hk with rfl | rfl | rfl | rfl | rfl | rfl
    · simp (disch := first | omega | assumption) only [tw_rcv, tw_r1, tw_r2, tw_r3, tw_r5, tw_r7, tw_r12, tw_r14, tw_r15, tw_r16, tw_r17, tw_r18, Option.bind_some, lit_I, I_add, I_mul, I_le, I_lt, I_eq, if_neg, if_pos, if_true, if_false, I_10, I_01, bit_T, bit_F, bit_F', bit_0, bit_1, gb_bit, tw_s, tw_rw, tw_cells, tw_blockOf, tw_numberOf, aset_eq, aset_ne, aset_aset, Bool.false_eq_true, not_true_eq_false, not_false_eq_true, f_X13_run_L33, hneg, hhow]
    · simp (disch := first | omega | assumption) only [tw_rcv, tw_r1, tw_r2, tw_r3, tw_r5, tw_r7, tw_r12, tw_r14, tw_r15, tw_r16, tw_r17, tw_r18, Option.bind_some, lit_I, I_add, I_mul, I_le, I_lt, I_eq, if_neg, if_pos, if_true, if_false, I_10, I_01, bit_T, bit_F, bit_F', bit_0, bit_1, gb_bit, tw_s, tw_rw, tw_cells, tw_blockOf, tw_numberOf, aset_eq, aset_ne, aset_aset, Bool.false_eq_true, not_true_eq_false, not_false_eq_true, f_X13_run_L33, hneg, tw_int (k := 13) rfl, e3]
    · simp (disch := first | omega | assumption) only [f_X13_run_L33, hneg, lit_I, if_true, if_pos, if_neg, I_eq, tw_rcv, Option.bind_some, hgm, e0]
    · simp (disch := first | omega | assumption) only [tw_rcv, tw_r1, tw_r2, tw_r3, tw_r5, tw_r7, tw_r12, tw_r14, tw_r15, tw_r16, tw_r17, tw_r18, Option.bind_some, lit_I, I_add, I_mul, I_le, I_lt, I_eq, if_neg, if_pos, if_true, if_false, I_10, I_01, bit_T, bit_F, bit_F', bit_0, bit_1, gb_bit, tw_s, tw_rw, tw_cells, tw_blockOf, tw_numberOf, aset_eq, aset_ne, aset_aset, Bool.false_eq_true, not_true_eq_false, not_false_eq_true, f_X13_run_L33, hneg]
    · simp (disch := first | omega | assumption) only [tw_rcv, tw_r1, tw_r2, tw_r3, tw_r5, tw_r7, tw_r12, tw_r14, tw_r15, tw_r16, tw_r17, tw_r18, Option.bind_some, lit_I, I_add, I_mul, I_le, I_lt, I_eq, if_neg, if_pos, if_true, if_false, I_10, I_01, bit_T, bit_F, bit_F', bit_0, bit_1, gb_bit, tw_s, tw_rw, tw_cells, tw_blockOf, tw_numberOf, aset_eq, aset_ne, aset_aset, Bool.false_eq_true, not_true_eq_false, not_false_eq_true, f_X13_run_L33, hneg, hpm]
    · simp (disch := first | omega | assumption) only [tw_rcv, tw_r1, tw_r2, tw_r3, tw_r5, tw_r7, tw_r12, tw_r14, tw_r15, tw_r16, tw_r17, tw_r18, Option.bind_some, lit_I, I_add, I_mul, I_le, I_lt, I_eq, if_neg, if_pos, if_true, if_false, I_10, I_01, bit_T, bit_F, bit_F', bit_0, bit_1, gb_bit, tw_s, tw_rw, tw_cells, tw_blockOf, tw_numberOf, aset_eq, aset_ne, aset_aset, Bool.false_eq_true, not_true_eq_false, not_false_eq_true, f_X13_run_L33, hneg]
theorem tw_step {x y : Int32} (hT : TI v A g) (hI : RInv g.1) : ∃ v' A', f_X13_step (some m) x y (TW m v A h) = some (r_step g x y, TW m v' A' h) ∧ TI v' A' g := by
  have hP := hI.1.1.1
  have hT0 := TI_v0 (x := I 0) hT
  unfold r_step
  by_cases h0 : x < I 0
  · refine ⟨_, _, ?_, hT0⟩
    simp (disch := first | omega | assumption) only [f_X13_step, lit_I, tw_p0, Option.bind_some, if_pos, h0, if_true]
  · have hle : (0 : Int32) ≤ x := by
      by_cases q : (0 : Int32) ≤ x
      · exact q
      · exact absurd (show x < I 0 from lt_nle.mpr q) h0
    obtain ⟨ex, hx⟩ := na_pos hle
    generalize hc : na x = c at ex hx
    subst ex
    cases h1 : bt y 0 3 with
    | false =>
      refine ⟨_, _, ?_, hT0⟩
      simp (disch := first | omega | assumption) only [f_X13_step, lit_I, tw_p0, Option.bind_some, if_neg, h0, if_false, inZ, h1, bit_0, Bool.false_eq_true, not_false_eq_true, if_true]
    | true =>
    obtain ⟨k, rfl, hnk, -, hy⟩ := bt_ex (by decide) (by decide) h1
    simp only [hnk]
    obtain ⟨v', A', e1, e2, -, e3, e4, e5⟩ := tw_endT (m := m) (h := h) hT0 hI
    refine ⟨v', A', ?_, e2⟩
    have hlen : (endF g.1 (g.1 2)).1.length ≤ 150 := goE_len (s := g.1) (w := fb g.1) (rules := g.1 2) hP
    generalize hl : (endF g.1 (g.1 2)).1 = l at e3 e4 hlen ⊢
    by_cases h2 : l.length ≤ c
    · have h3 : l[c]? = none := List.getElem?_eq_none_iff.mpr h2
      simp (disch := first | omega | assumption) only [f_X13_step, lit_I, tw_p0, Option.bind_some, if_neg, h0, if_false, inZ, h1, bit_0, not_true_eq_false, e1, tw_rcv, tw_int (k := 13) rfl, e3, I_le, if_pos, h3, if_true]
    · have h3 : l[c]? = some l[c] := List.getElem?_eq_getElem (by omega)
      have h6 := e4 _ _ h3 k (by omega)
      simp only [Nat.zero_add] at h6
      simp (disch := first | omega | assumption) only [f_X13_step, lit_I, tw_p0, Option.bind_some, if_neg, h0, if_false, inZ, h1, bit_0, not_true_eq_false, e1, tw_rcv, tw_int (k := 13) rfl, e3, I_le, h3, tw_r12, I_mul, I_add, tw_r6', h6, if_true]
end TW65
