/-! PLAIN LAW: the class: the rules' causes -/
set_option maxRecDepth 100000
theorem find_up {α β : Type} (L : Nat → α → Option β) (st : Nat → α) (l : List Nat) (P : Nat → Bool) (hit : Nat → Option β) (miss : Option β) (hs : ∀ k i x, l[i]? = some x → P x = false → L (k + 1) (st i) = L k (st (i + 1))) (hh : ∀ k i x, l[i]? = some x → P x = true → L (k + 1) (st i) = hit x) (he : ∀ k, L (k + 1) (st l.length) = miss) :
    ∀ (l2 l1 : List Nat) (k : Nat), l = l1 ++ l2 → l2.length < k → L k (st l1.length) = (match l2.find? P with | some x => hit x | none => miss) := by
  intro l2
  induction l2 with
  | nil =>
    intro l1 k hl hk
    obtain ⟨k, rfl⟩ : ∃ k', k = k' + 1 := ⟨k - 1, by omega⟩
    rw [List.append_nil] at hl
    subst hl
    exact he k
  | cons x l2 ih =>
    intro l1 k hl hk
    obtain ⟨k, rfl⟩ : ∃ k', k = k' + 1 := ⟨k - 1, by omega⟩
    have hx : l[l1.length]? = some x := by rw [hl]; simp
    cases hp : P x with
    | true => rw [hh k _ x hx hp]; simp [List.find?_cons, hp]
    | false =>
      rw [hs k _ x hx hp]
      have := ih (l1 ++ [x]) k (by rw [hl]; simp) (by simp at hk; omega)
      rw [List.length_append] at this
      rw [show l1.length + 1 = l1.length + [x].length from rfl, this]
      simp [List.find?_cons, hp]
theorem loop_find {α β : Type} (L : Nat → α → Option β) (st : Nat → α) (l : List Nat) (P : Nat → Bool) (hit : Nat → Option β) (miss : Option β) (hl : l.length < 1000000) (hs : ∀ k i x, l[i]? = some x → P x = false → L (k + 1) (st i) = L k (st (i + 1))) (hh : ∀ k i x, l[i]? = some x → P x = true → L (k + 1) (st i) = hit x) (he : ∀ k, L (k + 1) (st l.length) = miss) :
    L FU (st 0) = (match l.find? P with | some x => hit x | none => miss) := find_up L st l P hit miss hs hh he l [] FU rfl (by rw [FU_eq]; exact hl)
theorem find_bl {s : Nat → Nat} {b : Nat} {P : Nat → Bool} : (bl s b).find? P = firstI (fun c => s (8 + c) == b && P c) (nc s) := by
  have key : ∀ n, (blTo s b n).find? P = firstI (fun c => s (8 + c) == b && P c) n := by
    intro n
    induction n with
    | zero => rfl
    | succ n ih =>
      rw [firstI_snoc, ← ih]
      simp only [blTo]
      by_cases h : s (8 + n) = b
      · rw [if_pos h, List.find?_append]
        cases hq : (blTo s b n).find? P with
        | some j => rfl
        | none => cases hp : P n <;> simp [h, hp]
      · rw [if_neg h]
        cases hq : (blTo s b n).find? P with
        | some j => rfl
        | none => simp [h]
  exact key _
theorem fold_bl {α : Type} {s : Nat → Nat} {b : Nat} {F : α → Nat → α} {a : α} : (bl s b).foldl F a = foldC (fun c => s (8 + c) == b) F a (nc s) := by
  have key : ∀ n, (blTo s b n).foldl F a = foldC (fun c => s (8 + c) == b) F a n := by
    intro n
    induction n with
    | zero => rfl
    | succ n ih =>
      simp only [blTo, foldC]
      by_cases h : s (8 + n) = b
      · rw [if_pos h, List.foldl_append, ih]; simp [h]
      · rw [if_neg h, ih]; simp [h]
  exact key _
theorem bsz_le25 {s : Nat → Nat} (hP : PG' s) (b : Nat) : bsz s b ≤ 25 := by
  have hn := nc_le hP
  have hone : ∀ n, sumTo (fun _ => 1) n = n := fun n => by induction n with | zero => rfl | succ n ih => simp [sumTo, ih]
  have : bsz s b ≤ sumTo (fun _ => 1) (nc s) := sumTo_le (fun c hc => by split <;> omega)
  rw [hone] at this; omega
theorem andn_or (a b c : Nat) : andn a (b ||| c) = andn (andn a c) b := by
  apply Nat.eq_of_testBit_eq
  intro k
  simp only [andn_tb, Nat.testBit_or]
  cases a.testBit k <;> cases b.testBit k <;> cases c.testBit k <;> rfl
/-- numbers from 1 -/
def B0 (s w : Nat → Nat) : Prop := ∀ c, c < nc s → (w c).testBit 0 = false
/-! the bounds of the sums are the sums of the bounds -/
theorem lo_uniq {a l : Nat} (h0 : a ≠ 0) (h : a < 2147483648) (h1 : a.testBit l = true) (h2 : ∀ j, j < l → a.testBit j = false) : lo a = l := by
  obtain ⟨g1, g2, g3⟩ := lo_spec h0 h
  rcases Nat.lt_trichotomy (lo a) l with q | q | q
  · rw [h2 _ q] at g2; cases g2
  · exact q
  · rw [g3 _ q] at h1; cases h1
theorem hi_uniq {a l : Nat} (h0 : a ≠ 0) (h : a < 2147483648) (h1 : a.testBit l = true) (h2 : ∀ j, l < j → a.testBit j = false) : hi a = l := by
  obtain ⟨g1, g2, g3⟩ := hi_spec h0 h
  rcases Nat.lt_trichotomy (hi a) l with q | q | q
  · rw [g3 _ q] at h1; cases h1
  · exact q
  · rw [h2 _ q] at g2; cases g2
theorem addS_ex {w sums j : Nat} (h : (addS w sums).testBit j = true) : ∃ n, 1 ≤ n ∧ n ≤ 6 ∧ w.testBit n = true ∧ n ≤ j ∧ sums.testBit (j - n) = true := by
  have key : ∀ m, m ≤ 6 → (orTo (fun n => if w.testBit (n + 1) = true then sums <<< (n + 1) else 0) m).testBit j = true → ∃ n, 1 ≤ n ∧ n ≤ 6 ∧ w.testBit n = true ∧ n ≤ j ∧ sums.testBit (j - n) = true := by
    intro m
    induction m with
    | zero => intro _ h; simp [orTo] at h
    | succ m ih =>
      intro hm h
      simp only [orTo, Nat.testBit_or, Bool.or_eq_true] at h
      rcases h with h | h
      · exact ih (by omega) h
      · split at h
        · rename_i hw
          rw [Nat.testBit_shiftLeft] at h
          simp at h
          exact ⟨m + 1, by omega, by omega, hw, h.1, h.2⟩
        · simp at h
  exact key 6 (Nat.le_refl _) h
theorem lsums_bounds {s w : Nat → Nat} (hP : PG' s) (hW : WB s w) (hB : B0 s w) {c i : Nat} (hi' : i < s 0 + s 1) : ∀ k, k ≤ ln s i → lsums s w i (some c) k ≠ 0 ∧ lo (lsums s w i (some c) k) = lows s w i c k ∧ hi (lsums s w i (some c) k) = highs s w i c k := by
  intro k
  induction k with
  | zero => intro _; exact ⟨by show 1 ≠ 0; decide, by show lo 1 = 0; decide, by show hi 1 = 0; decide⟩
  | succ k ih =>
    intro hk
    obtain ⟨i1, i2, i3⟩ := ih (by omega)
    have hlc := lc_lt hP hi' (show k < ln s i by omega)
    have hl5 := ln_le hP i
    have el : lows s w i c (k + 1) = lows s w i c k + (if lc s i k = c then 0 else lo (w (lc s i k))) := rfl
    have eh : highs s w i c (k + 1) = highs s w i c k + (if lc s i k = c then 0 else hi (w (lc s i k))) := rfl
    rw [el, eh]
    simp only [lsums]
    by_cases q : lc s i k = c
    · rw [if_pos (by rw [q]), if_pos q, if_pos q]; exact ⟨i1, i2, i3⟩
    · rw [if_neg (fun z => q (Option.some.inj z).symm), if_neg q, if_neg q]
      obtain ⟨w1, w2⟩ := hW _ hlc
      have w3 := hB _ hlc
      generalize w (lc s i k) = a at w1 w2 w3 ⊢
      have hlt : lsums s w i (some c) k < 2147483648 := by
        have := lsums_lt (s := s) (w := w) (i := i) (b := some c) k
        exact Nat.lt_of_lt_of_le this (show 2 ^ (6 * k + 1) ≤ 2 ^ 31 from Nat.pow_le_pow_right (show 0 < 2 by decide) (by omega))
      have hlt2 : addS a (lsums s w i (some c) k) < 2147483648 := by
        have h1 := addS_lt (w := a) (lsums_lt (s := s) (w := w) (i := i) (b := some c) k)
        exact Nat.lt_of_lt_of_le h1 (show 2 ^ (6 * k + 1 + 6) ≤ 2 ^ 31 from Nat.pow_le_pow_right (show 0 < 2 by decide) (by omega))
      generalize lsums s w i (some c) k = S at i1 i2 i3 hlt hlt2 ⊢
      obtain ⟨a1, a2, a3⟩ := lo_spec w1 (by omega)
      obtain ⟨b1, b2, b3⟩ := hi_spec w1 (show a < 2147483648 by omega)
      obtain ⟨c1, c2, c3⟩ := lo_spec i1 hlt
      obtain ⟨d1, d2, d3⟩ := hi_spec i1 hlt
      have alo : 1 ≤ lo a := by
        rcases Nat.eq_zero_or_pos (lo a) with z | z
        · rw [z, w3] at a2; cases a2
        · exact z
      have ahi : hi a ≤ 6 := by have := hi_lt7 w1 w2; omega
      have alh : lo a ≤ hi a := hi_ge (by omega) a2
      have t1 := addS_tb (w := a) (n := lo a) c2 alo (by omega) a2
      have t2 := addS_tb (w := a) (n := hi a) d2 (by omega) ahi b2
      have hne : addS a S ≠ 0 := fun z => by rw [z] at t1; simp at t1
      refine ⟨hne, ?_, ?_⟩
      · rw [← i2]
        refine lo_uniq hne hlt2 t1 (fun j hj => ?_)
        refine Bool.eq_false_iff.mpr (fun z => ?_)
        obtain ⟨n, n1, n2, n3, n4, n5⟩ := addS_ex z
        have := lo_le (by omega) n3
        have := lo_le hlt n5
        omega
      · rw [← i3]
        refine hi_uniq hne hlt2 t2 (fun j hj => ?_)
        refine Bool.eq_false_iff.mpr (fun z => ?_)
        obtain ⟨n, n1, n2, n3, n4, n5⟩ := addS_ex z
        have := hi_ge (by omega) n3
        have := hi_ge hlt n5
        omega
section CC83
variable {h : PH} {p mm b : Nat} {ms : Nat → Nat} {s w : Nat → Nat} {x0 : Option Nat}
theorem cr_used {c n : Nat} (H : PgR h p mm ms s) (B : BdR h b p s w) (hP : PG' s) (hN : Nrm s) (hW : W7 s w) (hc : c < nc s) (hn' : n ≤ 6) : f_X7_cause x0 (some b) (I c) (I n) h = some (cz (sole s w c n), h) := by
  have hn := nc_le hP
  obtain ⟨m1, m2⟩ := cp_members H hN hc
  have hl := bl_len s (s (8 + c))
  have hbz := bsz_le25 hP (s (8 + c))
  have h1n : 1 <<< n < 128 := by rw [Nat.one_shiftLeft]; exact Nat.lt_of_le_of_lt (Nat.pow_le_pow_right (show 0 < 2 by decide) hn') (by decide)
  simp (disch := first | omega | assumption) only [f_X7_cause, B.r0, H.rc, m1, H.bl m2, Option.bind_some, lit_I]
  have key := loop_find (fun k (q : Nat) => f_X7_cause_L18 k (some b) (I c) (I n) (some (ms (s (8 + c)))) (I (bsz s (s (8 + c)))) (I q) h) (fun k => k) (bl s (s (8 + c))) (fun d => !(d == c) && w d == 1 <<< n) (fun d => some (I d, h)) (some (-99, h)) (by omega) (fun k j d hd hp => ?_) (fun k j d hd hp => ?_) (fun k => ?_)
  · rw [key]
    have e : sole s w c n = (bl s (s (8 + c))).find? (fun d => !(d == c) && w d == 1 <<< n) := by
      rw [find_bl]
      unfold sole
      refine firstI_congr (fun d hd => ?_)
      unfold soleP
      cases (d == c) <;> cases (s (8 + d) == s (8 + c)) <;> rfl
    rw [← e]
    cases sole s w c n <;> rfl
  · have hj : j < bsz s (s (8 + c)) := by rw [← hl]; exact (List.getElem?_eq_some_iff.mp hd).1
    have hdm := bl_mem.mp (List.mem_of_getElem? hd)
    have hbe := H.be m2 hd
    have hwd := hW d hdm.1
    by_cases q : d = c
    · subst q
      simp (disch := first | omega | assumption) only [f_X7_cause_L18, I_le, if_neg, hbe, Option.bind_some, if_true, lit_I, I_add]
    · have q2 : ¬ w d = 1 <<< n := by simpa [q] using hp
      simp (disch := first | omega | assumption) only [f_X7_cause_L18, I_le, I_eq, if_neg, hbe, Option.bind_some, B.r1, B.c hdm.1, lit_I, I_and, I_shlM, I_add]
  · have hj : j < bsz s (s (8 + c)) := by rw [← hl]; exact (List.getElem?_eq_some_iff.mp hd).1
    have hdm := bl_mem.mp (List.mem_of_getElem? hd)
    have hbe := H.be m2 hd
    have hwd := hW d hdm.1
    obtain ⟨q, q2⟩ : ¬ d = c ∧ w d = 1 <<< n := by simpa using hp
    simp (disch := first | omega | assumption) only [f_X7_cause_L18, I_le, I_eq, if_neg, hbe, Option.bind_some, B.r1, B.c hdm.1, lit_I, I_and, I_shlM, q2, if_true]
  · rw [hl]
    simp (disch := first | omega | assumption) only [f_X7_cause_L18, I_le, if_pos]
theorem cr_place {c n : Nat} (H : PgR h p mm ms s) (B : BdR h b p s w) (hP : PG' s) (hN : Nrm s) (hW : W7 s w) (hc : c < nc s) (hn' : n ≤ 6) : f_X8_cause x0 (some b) (I c) (I n) h = some (cz (only s w c n), h) := by
  have hn := nc_le hP
  obtain ⟨m1, m2⟩ := cp_members H hN hc
  have hl := bl_len s (s (8 + c))
  have hbz := bsz_le25 hP (s (8 + c))
  simp (disch := first | omega | assumption) only [f_X8_cause, B.r0, H.rc, m1, H.bl m2, Option.bind_some, lit_I, I_and, I_shlM]
  have eEl : (bl s (s (8 + c))).foldl (fun x d => x ||| (if d = c then 0 else w d)) (1 <<< n) = 1 <<< n ||| els s w c (nc s) := by
    rw [fold_bl]
    unfold els
    have key : ∀ m, foldC (fun d => s (8 + d) == s (8 + c)) (fun x d => x ||| (if d = c then 0 else w d)) (1 <<< n) m = 1 <<< n ||| orTo (fun d => if d ≠ c ∧ s (8 + d) = s (8 + c) then w d else 0) m := by
      intro m
      induction m with
      | zero => simp [foldC, orTo]
      | succ m ih =>
        simp only [foldC, orTo, ih]
        by_cases q : s (8 + m) = s (8 + c)
        · by_cases q2 : m = c
          · simp [q2]
          · simp [q, q2, Nat.or_assoc]
        · simp [q]
    exact key _
  have hfin : ∀ k, f_X8_cause_L23 (k + 1) (some b) (I c) (I (1 <<< n ||| els s w c (nc s))) (some (ms (s (8 + c)))) (I (bsz s (s (8 + c)))) (I (bsz s (s (8 + c)))) h = some (cz (only s w c n), h) := fun k => by
    have h5 : onlyN s w c n < 2147483648 := by
      have h6 := andn_le (andn (w c) (els s w c (nc s))) (1 <<< n)
      have h7 := andn_le (w c) (els s w c (nc s))
      have := hW c hc
      unfold onlyN; omega
    have e : andn (w c) (1 <<< n ||| els s w c (nc s)) = onlyN s w c n := andn_or _ _ _
    simp (disch := first | omega | assumption) only [f_X8_cause_L23, I_le, if_pos, B.r1, B.c hc, Option.bind_some, lit_I, I_andnI, e, I_eq]
    by_cases h6 : onlyN s w c n = 0
    · simp only [only, h6, if_true]; rfl
    · simp only [only, h6, if_false, cl_least h6 h5, Option.bind_some]; rfl
  rw [← eEl] at hfin
  have key := loop_FU (fun k (q : Nat × Nat) => f_X8_cause_L23 k (some b) (I c) (I q.1) (some (ms (s (8 + c)))) (I (bsz s (s (8 + c)))) (I q.2) h) (fun k => (((bl s (s (8 + c))).take k).foldl (fun x d => x ||| (if d = c then 0 else w d)) (1 <<< n), k)) (bsz s (s (8 + c))) (some (cz (only s w c n), h)) (by omega) (fun k j hj => ?_) (fun k => ?_)
  · simpa using key
  · obtain ⟨d, hd⟩ : ∃ d, (bl s (s (8 + c)))[j]? = some d := ⟨_, List.getElem?_eq_getElem (by omega)⟩
    have hdm := bl_mem.mp (List.mem_of_getElem? hd)
    have hbe := H.be m2 hd
    have et : ((bl s (s (8 + c))).take (j + 1)).foldl (fun x d => x ||| (if d = c then 0 else w d)) (1 <<< n) = ((bl s (s (8 + c))).take j).foldl (fun x d => x ||| (if d = c then 0 else w d)) (1 <<< n) ||| (if d = c then 0 else w d) := by
      rw [List.take_add_one, hd]; simp
    rw [et]
    by_cases q : d = c
    · subst q
      simp (disch := first | omega | assumption) only [f_X8_cause_L23, I_le, if_neg, hbe, Option.bind_some, if_true, lit_I, I_or, I_add]
    · simp (disch := first | omega | assumption) only [f_X8_cause_L23, I_le, I_eq, if_neg, hbe, Option.bind_some, B.r1, B.c hdm.1, lit_I, I_or, I_add, q, if_false]
  · have et : (bl s (s (8 + c))).take (bsz s (s (8 + c))) = bl s (s (8 + c)) := by rw [← hl]; exact List.take_length
    rw [et]
    exact hfin k
/-- a line's rule, of the two kinds -/
theorem cr_against {c n i r : Nat} (hr : r = 2 ∨ r = 3) (hx : clo x0 h = some (r + 6)) (H : PgR h p mm ms s) (B : BdR h b p s w) (hP : PG' s) (hNB : NB s) (hs : SB s) (hsh : s (83 + i) ≤ 1) (hW : WB s w) (hB : B0 s w) (hc : c < nc s) (hi' : i < s 0 + s 1) (hn' : n ≤ 6) : f_X9_isAgainstLine x0 (some b) (I i) (I c) (I n) h = some (I (bit (lineP s w r c n i = true)), h) := by
  have hn := nc_le hP
  have hil := hi'
  have hW7 : W7 s w := fun c hc => (hW c hc).2
  have hsum := cp_sum H hP hil
  have hls := cb_sums (o := some c) H B hP hW7 hil (fun j hj => by cases hj; omega)
  have hnz : nz' (some c) = I c := rfl
  rw [hnz] at hls
  have h30 := lsum_30 hil hP hNB
  have h31 := lsums_31 (w := w) (i := i) (b := some c) hP
  obtain ⟨q1, q2, q3⟩ := lsums_bounds (c := c) hP hW hB hil (ln s i) (Nat.le_refl _)
  have hlo := cl_least (h := h) q1 h31
  have hhi := cl_greatest (h := h) q1 h31
  have hh31 := (hi_spec q1 h31).1
  have hl31 := (lo_spec q1 h31).1
  by_cases z : s (83 + i) = 0
  · have e : lineP s w r c n i = false := by simp [lineP, z]
    simp (disch := first | omega | assumption) only [f_X9_isAgainstLine, B.r0, H.r5, H.sh hil, Option.bind_some, lit_I, z, if_true, e, Bool.false_eq_true, bit_F']
  · have z1 : s (83 + i) = 1 := by omega
    rcases hr with rfl | rfl
    · have hag : f_X10_isAgainst x0 (I (lsum s i)) (I n) (I (lsums s w i (some c) (ln s i))) h = some (I (bit (beyond s w i c n = true)), h) := by
        have hbt : f_X0_isBetween (I (lsum s i) - I n) (I (lo (lsums s w i (some c) (ln s i)))) (I (hi (lsums s w i (some c) (ln s i)))) h = some (I (bit ((!(beyond s w i c n)) = true)), h) := by
          rw [betZ]
          refine congrArg (fun z => some (I z, h)) (bit_congr ?_)
          have e : (I (lsum s i) - I n).toInt = lsum s i - n := by
            rw [Int32.toInt_sub, I_toInt (show lsum s i < 2147483648 by omega), I_toInt (show n < 2147483648 by omega), Int.bmod_eq_of_le (by omega) (by omega)]
          rw [bt_iff, Int32.le_iff_toInt_le, Int32.le_iff_toInt_le, e, I_toInt (by omega), I_toInt (by omega), q2, q3]
          rw [q2] at hl31
          rw [q3] at hh31
          unfold beyond
          simp only [Bool.not_eq_true', Bool.or_eq_false_iff, decide_eq_false_iff_not]
          omega
        cases hb : beyond s w i c n with
        | true => rw [hb] at hbt; simp (disch := first | omega | assumption) only [f_X10_isAgainst, hlo, hhi, hbt, Option.bind_some, lit_I, Bool.not_true, bit_0, Bool.false_eq_true, not_false_eq_true, if_true, bit_T]
        | false => rw [hb] at hbt; simp (disch := first | omega | assumption) only [f_X10_isAgainst, hlo, hhi, hbt, Option.bind_some, lit_I, Bool.not_false, bit_0, not_true_eq_false, if_false, Bool.false_eq_true, bit_F']
      have e : lineP s w 2 c n i = beyond s w i c n := by simp [lineP, z1]
      rw [e]
      cases hb : beyond s w i c n with
      | true =>
        rw [hb] at hag
        simp (disch := first | omega | assumption) only [f_X9_isAgainstLine, B.r0, B.rc, H.rc, H.r5, H.sh hil, Option.bind_some, lit_I, z1, I_10, if_false, hsum, hls, hx, Nat.reduceAdd, if_true, hag, bit_0, not_true_eq_false, bit_T]
      | false =>
        rw [hb] at hag
        simp (disch := first | omega | assumption) only [f_X9_isAgainstLine, B.r0, B.rc, H.rc, H.r5, H.sh hil, Option.bind_some, lit_I, z1, I_10, if_false, hsum, hls, hx, Nat.reduceAdd, if_true, hag, bit_0, Bool.false_eq_true, not_false_eq_true, bit_F']
    · have hag : f_X11_isAgainst x0 (I (lsum s i)) (I n) (I (lsums s w i (some c) (ln s i))) h = some (I (bit (missed s w i c n = true)), h) := by
        unfold missed
        by_cases hlt : lsum s i < n
        · have e : (decide (lsum s i < n) || !(lsums s w i (some c) (ln s i)).testBit (lsum s i - n)) = true := by simp [hlt]
          rw [e]
          simp (disch := first | omega | assumption) only [f_X11_isAgainst, I_lt, if_pos, lit_I, bit_T]
        · have e : (decide (lsum s i < n) || !(lsums s w i (some c) (ln s i)).testBit (lsum s i - n)) = !(lsums s w i (some c) (ln s i)).testBit (lsum s i - n) := by simp [hlt]
          rw [e]
          have hh := cl_has (g := h) h31 (show lsum s i - n < 32 by omega)
          cases hb : (lsums s w i (some c) (ln s i)).testBit (lsum s i - n) with
          | true => rw [hb] at hh; simp (disch := first | omega | assumption) only [f_X11_isAgainst, I_lt, if_neg, I_sub, hh, Option.bind_some, lit_I, bit_0, not_true_eq_false, if_false, Bool.not_true, Bool.false_eq_true, bit_F']
          | false => rw [hb] at hh; simp (disch := first | omega | assumption) only [f_X11_isAgainst, I_lt, if_neg, I_sub, hh, Option.bind_some, lit_I, bit_0, Bool.false_eq_true, not_false_eq_true, if_true, Bool.not_false, bit_T]
      have e : lineP s w 3 c n i = missed s w i c n := by simp [lineP, z1]
      rw [e]
      cases hb : missed s w i c n with
      | true =>
        rw [hb] at hag
        simp (disch := first | omega | assumption) only [f_X9_isAgainstLine, B.r0, B.rc, H.rc, H.r5, H.sh hil, Option.bind_some, lit_I, z1, I_10, if_false, hsum, hls, hx, Nat.reduceAdd, Option.some.injEq, Nat.reduceEqDiff, if_true, hag, bit_0, not_true_eq_false, bit_T]
      | false =>
        rw [hb] at hag
        simp (disch := first | omega | assumption) only [f_X9_isAgainstLine, B.r0, B.rc, H.rc, H.r5, H.sh hil, Option.bind_some, lit_I, z1, I_10, if_false, hsum, hls, hx, Nat.reduceAdd, Option.some.injEq, Nat.reduceEqDiff, if_true, hag, bit_0, Bool.false_eq_true, not_false_eq_true, bit_F']
theorem cr_line {c n r : Nat} (hr : r = 2 ∨ r = 3) (hx : clo x0 h = some (r + 6)) (H : PgR h p mm ms s) (B : BdR h b p s w) (hP : PG' s) (hNB : NB s) (hs : SB s) (hsh : ∀ i, i < s 0 + s 1 → s (83 + i) ≤ 1) (hW : WB s w) (hB : B0 s w) (hc : c < nc s) (hn' : n ≤ 6) : f_X9_cause x0 (some b) (I c) (I n) h = some (cz (lineC s w r c n), h) := by
  have hd := dv_lt hP hc
  have h1 : dv c (s 1) < s 0 + s 1 := by omega
  have h2 : s 0 + md c (s 1) < s 0 + s 1 := by omega
  have a1 := cr_against hr hx H B hP hNB hs (hsh _ h1) hW hB hc h1 hn'
  have a2 := cr_against hr hx H B hP hNB hs (hsh _ h2) hW hB hc h2 hn'
  obtain ⟨l1, l2⟩ := cp_lineOf H hP hc
  unfold lineC
  rcases hr with rfl | rfl
  · cases e1 : lineP s w 2 c n (dv c (s 1)) with
    | true =>
      rw [e1] at a1
      simp (disch := first | omega | assumption) only [f_X9_cause, B.r0, H.rc, lit_I, l1, l2, Option.bind_some, hx, Nat.reduceAdd, if_true, a1, bit_0, not_true_eq_false, if_false]
      rfl
    | false =>
      rw [e1] at a1
      cases e2 : lineP s w 2 c n (s 0 + md c (s 1)) with
      | true =>
        rw [e2] at a2
        simp (disch := first | omega | assumption) only [f_X9_cause, B.r0, H.rc, lit_I, l1, l2, Option.bind_some, hx, Nat.reduceAdd, if_true, a1, a2, bit_0, Bool.false_eq_true, not_false_eq_true, not_true_eq_false, if_false]
        rfl
      | false =>
        rw [e2] at a2
        simp (disch := first | omega | assumption) only [f_X9_cause, B.r0, H.rc, lit_I, l1, l2, Option.bind_some, hx, Nat.reduceAdd, if_true, a1, a2, bit_0, Bool.false_eq_true, not_false_eq_true, if_false]
        rfl
  · cases e1 : lineP s w 3 c n (dv c (s 1)) with
    | true =>
      rw [e1] at a1
      simp (disch := first | omega | assumption) only [f_X9_cause, B.r0, H.rc, lit_I, l1, l2, Option.bind_some, hx, Nat.reduceAdd, Option.some.injEq, Nat.reduceEqDiff, if_true, a1, bit_0, not_true_eq_false, if_false]
      rfl
    | false =>
      rw [e1] at a1
      cases e2 : lineP s w 3 c n (s 0 + md c (s 1)) with
      | true =>
        rw [e2] at a2
        simp (disch := first | omega | assumption) only [f_X9_cause, B.r0, H.rc, lit_I, l1, l2, Option.bind_some, hx, Nat.reduceAdd, Option.some.injEq, Nat.reduceEqDiff, if_true, a1, a2, bit_0, Bool.false_eq_true, not_false_eq_true, not_true_eq_false, if_false]
        rfl
      | false =>
        rw [e2] at a2
        simp (disch := first | omega | assumption) only [f_X9_cause, B.r0, H.rc, lit_I, l1, l2, Option.bind_some, hx, Nat.reduceAdd, Option.some.injEq, Nat.reduceEqDiff, if_true, a1, a2, bit_0, Bool.false_eq_true, not_false_eq_true, if_false]
        rfl
end CC83
