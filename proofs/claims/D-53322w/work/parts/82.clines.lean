/-! PLAIN LAW: the class: lines, boards, causes -/
set_option maxRecDepth 100000
/-- a fold over the numbers below n with P -/
def foldC {α : Type} (P : Nat → Bool) (F : α → Nat → α) (a : α) : Nat → α
  | 0 => a
  | n + 1 => if P n = true then F (foldC P F a n) n else foldC P F a n
theorem foldC_list {α : Type} {P : Nat → Bool} {F : α → Nat → α} {a : α} : ∀ n, foldC P F a n = ((List.range n).filter P).foldl F a := by
  intro n
  induction n with
  | zero => rfl
  | succ n ih =>
    simp only [foldC, List.range_succ, List.filter_append, List.foldl_append, ih]
    by_cases h : P n = true
    · simp [h, List.filter_cons]
    · simp [h, List.filter_cons]
theorem foldC_congr {α : Type} {P : Nat → Bool} {F G : α → Nat → α} {a : α} : ∀ n, (∀ x c, c < n → F x c = G x c) → foldC P F a n = foldC P G a n := by
  intro n
  induction n with
  | zero => intro _; rfl
  | succ n ih => intro h; simp only [foldC]; rw [ih (fun x c hc => h x c (by omega)), h _ n (by omega)]
/-- a fold over the places of a line -/
def foldL {α : Type} (F : α → Nat → α) (a : α) (f : Nat → Nat) : Nat → α
  | 0 => a
  | n + 1 => F (foldL F a f n) (f n)
theorem foldL_list {α : Type} {F : α → Nat → α} {a : α} {f : Nat → Nat} : ∀ n, foldL F a f n = ((List.range n).map f).foldl F a := by
  intro n
  induction n with
  | zero => rfl
  | succ n ih => simp [foldL, List.range_succ, ih]
/-- the cells of a line, by its places and by the page -/
def lnR (R C i : Nat) : Nat := if i < R then C else R
def lcR (R C i k : Nat) : Nat := if i < R then C * i + k else C * k + (i - R)
def inR (R C c i : Nat) : Bool := if i < R then c / C == i else c % C == i - R
def lnOK (R C i : Nat) : Bool := (List.range (R * C)).filter (fun c => inR R C c i) == (List.range (lnR R C i)).map (lcR R C i)
theorem lnOK_dec : ∀ R, R < 6 → 2 ≤ R → ∀ C, C < 6 → 2 ≤ C → ∀ i, i < R + C → lnOK R C i = true := by decide +kernel
theorem fold_line {α : Type} {s : Nat → Nat} {i : Nat} (hP : PG' s) (hi : i < s 0 + s 1) (F : α → Nat → α) (a : α) : foldC (fun c => inL s c i) F a (nc s) = foldL F a (lc s i) (ln s i) := by
  obtain ⟨a1, a2, a3, a4⟩ := hP
  have h := lnOK_dec (s 0) (by omega) a1 (s 1) (by omega) a3 i hi
  unfold lnOK at h
  rw [foldC_list, foldL_list]
  have e1 : (List.range (nc s)).filter (fun c => inL s c i) = (List.range (s 0 * s 1)).filter (fun c => inR (s 0) (s 1) c i) := rfl
  have e2 : (List.range (ln s i)).map (lc s i) = (List.range (lnR (s 0) (s 1) i)).map (lcR (s 0) (s 1) i) := rfl
  rw [e1, e2, beq_iff_eq.mp h]
theorem lsum_fold {s : Nat → Nat} {i : Nat} : ∀ k, sumTo (fun k => s (33 + lc s i k)) k = foldL (fun x c => x + s (33 + c)) 0 (lc s i) k := by
  intro k
  induction k with
  | zero => rfl
  | succ k ih => simp only [sumTo, foldL, ih]
theorem lsums_fold {s w : Nat → Nat} {i : Nat} {b : Option Nat} : ∀ k, lsums s w i b k = foldL (fun x c => if b = some c then x else addS (w c) x) 1 (lc s i) k := by
  intro k
  induction k with
  | zero => rfl
  | succ k ih => simp only [lsums, foldL, ih]
theorem canS_fold {s : Nat → Nat} {i : Nat} : ∀ k, allB (fun k => !(s (33 + lc s i k) == 0)) k = foldL (fun x c => x && !(s (33 + c) == 0)) true (lc s i) k := by
  intro k
  induction k with
  | zero => rfl
  | succ k ih => simp only [allB, foldL, ih]
section CL82
variable {h : PH} {p mm : Nat} {ms : Nat → Nat} {s : Nat → Nat}
theorem cp_sum {i : Nat} (H : PgR h p mm ms s) (hP : PG' s) (hi : i < s 0 + s 1) : f_X3_sum (some p) (I i) h = some (I (lsum s i), h) := by
  have hn := nc_le hP
  have e : lsum s i = foldC (fun c => inL s c i) (fun x c => x + s (33 + c)) 0 (nc s) := by
    rw [fold_line hP hi]; exact lsum_fold _
  rw [e]
  unfold f_X3_sum
  refine loop_FU (fun k (q : Nat × Nat) => f_X3_sum_L4 k (some p) (I i) (I q.1) (I q.2) h) (fun k => (foldC (fun c => inL s c i) (fun x c => x + s (33 + c)) 0 k, k)) (nc s) _ (by omega) (fun k j hj => ?_) (fun k => ?_)
  · have hin := cp_isIn H hP hj hi
    cases hb : inL s j i with
    | true => simp (disch := first | omega | assumption) only [f_X3_sum_L4, H.rc, cp_cells H, H.r3, H.n hj, Option.bind_some, I_le, if_neg, hin, hb, lit_I, bit_0, not_true_eq_false, if_false, I_add, foldC, if_true]
    | false => simp (disch := first | omega | assumption) only [f_X3_sum_L4, H.rc, cp_cells H, H.r3, H.n hj, Option.bind_some, I_le, if_neg, hin, hb, lit_I, bit_0, Bool.false_eq_true, not_false_eq_true, if_true, if_false, I_add, foldC, Nat.add_zero]
  · simp (disch := first | omega | assumption) only [f_X3_sum_L4, H.rc, cp_cells H, Option.bind_some, I_le, if_pos]
theorem cp_isTold {i : Nat} (H : PgR h p mm ms s) (hP : PG' s) (hs : SB s) (hi : i < s 0 + s 1) : f_X3_isTold (some p) (I i) h = some (I (bit (canS s i = true)), h) := by
  have hn := nc_le hP
  have e : canS s i = foldC (fun c => inL s c i) (fun x c => x && !(s (33 + c) == 0)) true (nc s) := by
    rw [fold_line hP hi]; exact canS_fold _
  rw [e]
  unfold f_X3_isTold
  refine loop_FU (fun k (q : Nat × Nat) => f_X3_isTold_L4 k (some p) (I i) (I q.1) (I q.2) h) (fun k => (bit (foldC (fun c => inL s c i) (fun x c => x && !(s (33 + c) == 0)) true k = true), k)) (nc s) _ (by omega) (fun k j hj => ?_) (fun k => ?_)
  · have hin := cp_isIn H hP hj hi
    have hb2 := hs (33 + j)
    have a1 : ∀ b : Bool, I (bit (b = true)) &&& I 1 = I (bit (b = true)) := fun b => by cases b <;> decide
    have a0 : ∀ b : Bool, I (bit (b = true)) &&& I 0 = I 0 := fun b => by cases b <;> decide
    cases hb : inL s j i with
    | true =>
      by_cases q : s (33 + j) = 0
      · have q2 : (!(s (33 + j) == 0)) = false := by simp [q]
        have ef : foldC (fun c => inL s c i) (fun x c => x && !(s (33 + c) == 0)) true (j + 1) = false := by simp only [foldC, hb, if_true, q2, Bool.and_false]
        simp (disch := first | omega | assumption) only [f_X3_isTold_L4, H.rc, cp_cells H, H.r3, H.n hj, Option.bind_some, I_le, if_neg, if_pos, hin, hb, lit_I, bit_0, not_true_eq_false, if_false, q, a0, I_add, ef, Bool.false_eq_true, bit_F']
      · have q2 : (!(s (33 + j) == 0)) = true := by simp [q]
        simp (disch := first | omega | assumption) only [f_X3_isTold_L4, H.rc, cp_cells H, H.r3, H.n hj, Option.bind_some, I_le, if_neg, hin, hb, lit_I, bit_0, not_true_eq_false, if_false, a1, I_add, foldC, if_true, q2, Bool.and_true]
    | false => simp (disch := first | omega | assumption) only [f_X3_isTold_L4, H.rc, cp_cells H, Option.bind_some, I_le, if_neg, hin, hb, lit_I, bit_0, Bool.false_eq_true, not_false_eq_true, if_true, if_false, a1, I_add, foldC]
  · simp (disch := first | omega | assumption) only [f_X3_isTold_L4, H.rc, cp_cells H, Option.bind_some, I_le, if_pos, gb_bit]
theorem cp_hasElse {c n : Nat} (H : PgR h p mm ms s) (hP : PG' s) (hN : Nrm s) (hs : SB s) (hc : c < nc s) (hn' : n < 1000000) : f_X3_hasElsewhere (some p) (I c) (I n) h = some (I (bit (taken s c n = true)), h) := by
  have hn := nc_le hP
  obtain ⟨m1, m2⟩ := cp_members H hN hc
  have e : taken s c n = (bl s (s (8 + c))).any (fun d => !(d == c) && (s (33 + d) == n)) := by
    rw [any_bl]
    unfold taken
    exact anyB_congr (fun d hd => by cases (d == c) <;> cases (s (8 + d) == s (8 + c)) <;> rfl)
  rw [e]
  have hl := bl_len s (s (8 + c))
  have hbz : bsz s (s (8 + c)) ≤ 25 := by
    have hone : ∀ n, sumTo (fun _ => 1) n = n := fun n => by induction n with | zero => rfl | succ n ih => simp [sumTo, ih]
    have : bsz s (s (8 + c)) ≤ sumTo (fun _ => 1) (nc s) := sumTo_le (fun c hc => by split <;> omega)
    rw [hone] at this; omega
  simp (disch := first | omega | assumption) only [f_X3_hasElsewhere, H.rc, m1, H.bl m2, Option.bind_some, lit_I]
  have o1 : ∀ b : Bool, I (bit (b = true)) ||| I 0 = I (bit (b = true)) := fun b => by cases b <;> decide
  have o2 : ∀ b : Bool, I (bit (b = true)) ||| I 1 = I 1 := fun b => by cases b <;> decide
  have key := loop_FU (fun k (q : Nat × Nat) => f_X3_hasElsewhere_L17 k (some p) (I c) (I n) (I q.1) (some (ms (s (8 + c)))) (I (bsz s (s (8 + c)))) (I q.2) h) (fun k => (bit (((bl s (s (8 + c))).take k).any (fun d => !(d == c) && (s (33 + d) == n)) = true), k)) (bsz s (s (8 + c))) (some (I (bit ((bl s (s (8 + c))).any (fun d => !(d == c) && (s (33 + d) == n)) = true)), h)) (by omega) (fun k j hj => ?_) (fun k => ?_)
  · simpa [bit] using key
  · obtain ⟨d, hd⟩ : ∃ d, (bl s (s (8 + c)))[j]? = some d := ⟨_, List.getElem?_eq_getElem (by omega)⟩
    have hdm := bl_mem.mp (List.mem_of_getElem? hd)
    have hbe := H.be m2 hd
    have hs2 := hs (33 + d)
    have et : ((bl s (s (8 + c))).take (j + 1)).any (fun d => !(d == c) && (s (33 + d) == n)) = (((bl s (s (8 + c))).take j).any (fun d => !(d == c) && (s (33 + d) == n)) || (!(d == c) && (s (33 + d) == n))) := by
      rw [List.take_add_one, hd]; simp
    rw [et]
    by_cases q : d = c
    · have q1 : (!(d == c) && (s (33 + d) == n)) = false := by simp [q]
      subst q
      simp (disch := first | omega | assumption) only [f_X3_hasElsewhere_L17, I_le, if_neg, hbe, Option.bind_some, if_true, lit_I, o1, I_add, q1, Bool.or_false]
    · by_cases q2 : s (33 + d) = n
      · have q1 : (!(d == c) && (s (33 + d) == n)) = true := by simp [q, q2]
        rw [q1, Bool.or_true]
        simp (disch := first | omega | assumption) only [f_X3_hasElsewhere_L17, I_le, I_eq, if_neg, hbe, Option.bind_some, H.r3, H.n hdm.1, q2, if_true, lit_I, o2, I_add, bit_T]
      · have q1 : (!(d == c) && (s (33 + d) == n)) = false := by simp [q, q2]
        simp (disch := first | omega | assumption) only [f_X3_hasElsewhere_L17, I_le, I_eq, if_neg, hbe, Option.bind_some, H.r3, H.n hdm.1, lit_I, o1, I_add, q1, Bool.or_false]
  · have et : (bl s (s (8 + c))).take (bsz s (s (8 + c))) = bl s (s (8 + c)) := by rw [← hl]; exact List.take_length
    simp (disch := first | omega | assumption) only [f_X3_hasElsewhere_L17, I_le, if_pos, gb_bit, Option.bind_some, et]
/-! boards -/
def BdR (h : PH) (b p : Nat) (s w : Nat → Nat) : Prop := rcv 4 (some b) h = some () ∧ gfr 4 0 (some b) h = some (some p) ∧ gfr 4 1 (some b) h = some (some (b + 1)) ∧ ∀ c, c < nc s → ald 0 (some (b + 1)) (I c) h = some (I (w c))
section BDR
variable {b : Nat} {w : Nat → Nat}
theorem BdR.rc (B : BdR h b p s w) : rcv 4 (some b) h = some () := B.1
theorem BdR.r0 (B : BdR h b p s w) : gfr 4 0 (some b) h = some (some p) := B.2.1
theorem BdR.r1 (B : BdR h b p s w) : gfr 4 1 (some b) h = some (some (b + 1)) := B.2.2.1
theorem BdR.c (B : BdR h b p s w) {c : Nat} (hc : c < nc s) : ald 0 (some (b + 1)) (I c) h = some (I (w c)) := B.2.2.2 c hc
theorem cb_possible {c : Nat} (B : BdR h b p s w) (hW : W7 s w) (hc : c < nc s) : f_X4_possible (some b) (I c) h = some (I (pc (w c)), h) := by
  simp only [f_X4_possible, B.r1, B.c hc, Option.bind_some, cl_bitCount (hW c hc)]
theorem cb_isPossible {c n : Nat} (B : BdR h b p s w) (hW : W7 s w) (hc : c < nc s) (hn : n < 32) : f_X4_isPossible (some b) (I c) (I n) h = some (I (bit ((w c).testBit n = true)), h) := by
  have := hW c hc
  simp only [f_X4_isPossible, B.r1, B.c hc, Option.bind_some, cl_has (show w c < 2147483648 by omega) hn, gb_bit]
theorem cb_cellsWith {n : Nat} (H : PgR h p mm ms s) (B : BdR h b p s w) (hP : PG' s) (hW : W7 s w) (hn' : n < 1000) : f_X4_cellsWith (some b) (I n) h = some (I (sumTo (fun c => if pc (w c) = n then 1 else 0) (nc s)), h) := by
  have hn := nc_le hP
  unfold f_X4_cellsWith
  refine loop_FU (fun k (q : Nat × Nat) => f_X4_cellsWith_L4 k (some b) (I n) (I q.1) (I q.2) h) (fun k => (sumTo (fun c => if pc (w c) = n then 1 else 0) k, k)) (nc s) _ (by omega) (fun k j hj => ?_) (fun k => ?_)
  · have hpl := pc_le (w j)
    by_cases q : pc (w j) = n
    · simp (disch := first | omega | assumption) only [f_X4_cellsWith_L4, B.r0, B.rc, H.rc, cp_cells H, Option.bind_some, I_le, if_neg, cb_possible B hW hj, q, if_true, lit_I, I_add, sumTo]
    · simp (disch := first | omega | assumption) only [f_X4_cellsWith_L4, B.r0, B.rc, H.rc, cp_cells H, Option.bind_some, I_le, I_eq, if_neg, cb_possible B hW hj, lit_I, I_add, sumTo]
  · simp (disch := first | omega | assumption) only [f_X4_cellsWith_L4, B.r0, H.rc, cp_cells H, Option.bind_some, I_le, if_pos]
theorem brk_cnt {s w : Nat → Nat} (hW : W7 s w) : brk s w = decide (0 < sumTo (fun c => if pc (w c) = 0 then 1 else 0) (nc s)) := by
  refine Bool.eq_iff_iff.mpr ?_
  rw [decide_eq_true_eq]
  constructor
  · intro h
    unfold brk at h
    rw [anyB_iff] at h
    obtain ⟨c, hc, h0⟩ := h
    have h0' : w c = 0 := by simpa using h0
    have : sumTo (fun _ => 0) (nc s) < sumTo (fun c => if pc (w c) = 0 then 1 else 0) (nc s) := sumTo_slt (j := c) (fun _ _ => Nat.zero_le _) hc (by rw [h0']; decide)
    omega
  · intro h
    refine Classical.byContradiction (fun hb => ?_)
    have : sumTo (fun c => if pc (w c) = 0 then 1 else 0) (nc s) ≤ sumTo (fun _ => 0) (nc s) := sumTo_le (fun c hc => by
      rw [if_neg]
      · exact Nat.le_refl _
      · intro h0
        exact hb (brk_of hc (pc_zero (hW c hc) h0)))
    have hz : ∀ n, sumTo (fun _ => 0) n = 0 := fun n => by induction n with | zero => rfl | succ n ih => simp [sumTo, ih]
    rw [hz] at this; omega
theorem cb_isBroken (H : PgR h p mm ms s) (B : BdR h b p s w) (hP : PG' s) (hW : W7 s w) : f_X4_isBroken (some b) h = some (I (bit (brk s w = true)), h) := by
  have hn := nc_le hP
  have hcw := cb_cellsWith (n := 0) H B hP hW (by decide)
  have hle : sumTo (fun c => if pc (w c) = 0 then 1 else 0) (nc s) ≤ 25 := by
    have hone : ∀ n, sumTo (fun _ => 1) n = n := fun n => by induction n with | zero => rfl | succ n ih => simp [sumTo, ih]
    have : sumTo (fun c => if pc (w c) = 0 then 1 else 0) (nc s) ≤ sumTo (fun _ => 1) (nc s) := sumTo_le (fun c hc => by split <;> omega)
    rw [hone] at this; omega
  rw [brk_cnt hW]
  generalize sumTo (fun c => if pc (w c) = 0 then 1 else 0) (nc s) = z at hcw hle ⊢
  by_cases q : z ≤ 0
  · have q1 : ¬ 0 < z := by omega
    simp (disch := omega) only [f_X4_isBroken, B.rc, lit_I, hcw, Option.bind_some, I_le, if_pos]
    simp [q1, bit]
  · have q1 : 0 < z := by omega
    simp (disch := omega) only [f_X4_isBroken, B.rc, lit_I, hcw, Option.bind_some, I_le, if_neg]
    simp [q1, bit]
theorem cb_outcome (H : PgR h p mm ms s) (B : BdR h b p s w) (hP : PG' s) (hW : W7 s w) : f_X4_outcome (some b) h = some (I (outc s w), h) := by
  have hn := nc_le hP
  have hcw := cb_cellsWith (n := 1) H B hP hW (by decide)
  have hle := sgl_le (s := s) (w := w)
  have e : sumTo (fun c => if pc (w c) = 1 then 1 else 0) (nc s) = sgl s w := rfl
  rw [e] at hcw
  have hbr := cb_isBroken H B hP hW
  unfold outc
  cases hb : brk s w with
  | true =>
    rw [hb] at hbr
    simp (disch := first | omega | assumption) only [f_X4_outcome, B.rc, hbr, Option.bind_some, lit_I, bit_0, not_true_eq_false, if_false, if_true]
  | false =>
    rw [hb] at hbr
    by_cases q : sgl s w = nc s
    · simp (disch := first | omega | assumption) only [f_X4_outcome, B.rc, B.r0, H.rc, hbr, cp_cells H, hcw, Option.bind_some, lit_I, bit_0, Bool.false_eq_true, not_false_eq_true, if_true, if_false, q]
    · simp (disch := first | omega | assumption) only [f_X4_outcome, B.rc, B.r0, H.rc, hbr, cp_cells H, hcw, Option.bind_some, lit_I, bit_0, Bool.false_eq_true, not_false_eq_true, if_true, if_false, I_eq, if_neg, q]
theorem cb_sums42 {r5 : Option Nat → Int32 → Int32 → Int32 → Int32 → PH → Option (Int32 × PH)} {x1 x2 : Int32} {c sums : Nat} (B : BdR h b p s w) (hW : W7 s w) (hc : c < nc s) : f_X4_sums_L42 r5 FU (some b) x1 x2 (I sums) (I c) (I 0) (I 1) h = r5 (some b) x1 x2 (I (addS (w c) sums)) (I c + I 1) h := by
  refine loop_FU (fun k (q : Nat × Nat) => f_X4_sums_L42 r5 k (some b) x1 x2 (I sums) (I c) (I q.1) (I (q.2 + 1)) h) (fun k => (orTo (fun n => if (w c).testBit (n + 1) = true then sums <<< (n + 1) else 0) k, k)) 6 _ (by omega) (fun k j hj => ?_) (fun k => ?_)
  · have hip := cb_isPossible (n := j + 1) B hW hc (by omega)
    cases hb2 : (w c).testBit (j + 1) with
    | true => simp (disch := first | omega | assumption) only [f_X4_sums_L42, lit_I, I_lt, if_neg, B.rc, hip, hb2, bit_0, not_true_eq_false, if_false, Option.bind_some, I_shlI, I_or, I_add, orTo, if_true]
    | false => simp (disch := first | omega | assumption) only [f_X4_sums_L42, lit_I, I_lt, if_neg, B.rc, hip, hb2, bit_0, Bool.false_eq_true, not_false_eq_true, if_true, if_false, Option.bind_some, I_or, I_add, orTo]
  · simp (disch := first | omega | assumption) only [f_X4_sums_L42, lit_I, I_lt, if_pos]
    rfl
/-- a cell that is left out, as the class gives it -/
def nz' : Option Nat → Int32
  | some j => I j
  | none => -99
theorem nz'_eq {c : Nat} (hc : c < 1000000) {o : Option Nat} (ho : ∀ j, o = some j → j < 1000000) : (I c = nz' o) ↔ o = some c := by
  cases o with
  | none => simp only [nz', reduceCtorEq, iff_false]; exact I_neg_ne (b := 99) (by omega) (by decide) (by decide)
  | some j =>
    have := ho j rfl
    simp only [nz', I_eq (show c < 2147483648 by omega) (show j < 2147483648 by omega), Option.some.injEq]
    exact eq_comm
theorem cb_sums {i : Nat} {o : Option Nat} (H : PgR h p mm ms s) (B : BdR h b p s w) (hP : PG' s) (hW : W7 s w) (hi : i < s 0 + s 1) (ho : ∀ j, o = some j → j < 1000000) : f_X4_sums (some b) (I i) (nz' o) h = some (I (lsums s w i o (ln s i)), h) := by
  have hn := nc_le hP
  rw [lsums_fold, ← fold_line hP hi]
  unfold f_X4_sums
  refine loop_FU (fun k (q : Nat × Nat) => f_X4_sums_L5 k (some b) (I i) (nz' o) (I q.1) (I q.2) h) (fun k => (foldC (fun c => inL s c i) (fun x c => if o = some c then x else addS (w c) x) 1 k, k)) (nc s) _ (by omega) (fun k j hj => ?_) (fun k => ?_)
  · have hin := cp_isIn H hP hj hi
    have heq := nz'_eq (c := j) (o := o) (by omega) ho
    by_cases q : o = some j
    · have q1 : I j = nz' o := heq.mpr q
      cases hb : inL s j i with
      | true => simp (disch := first | omega | assumption) only [f_X4_sums_L5, B.r0, H.rc, cp_cells H, Option.bind_some, I_le, if_neg, if_pos, lit_I, I_add, foldC, hb, if_true]
      | false => simp (disch := first | omega | assumption) only [f_X4_sums_L5, B.r0, H.rc, cp_cells H, Option.bind_some, I_le, if_neg, if_pos, lit_I, I_add, foldC, hb, Bool.false_eq_true, if_false]
    · have q1 : ¬ I j = nz' o := fun z => q (heq.mp z)
      cases hb : inL s j i with
      | true => simp (disch := first | omega | assumption) only [f_X4_sums_L5, B.r0, H.rc, cp_cells H, Option.bind_some, I_le, if_neg, hin, hb, bit_0, not_true_eq_false, if_false, cb_sums42 B hW hj, lit_I, I_add, foldC, if_true]
      | false => simp (disch := first | omega | assumption) only [f_X4_sums_L5, B.r0, H.rc, cp_cells H, Option.bind_some, I_le, if_neg, hin, hb, bit_0, Bool.false_eq_true, not_false_eq_true, if_true, if_false, lit_I, I_add, foldC]
  · simp (disch := first | omega | assumption) only [f_X4_sums_L5, B.r0, H.rc, cp_cells H, Option.bind_some, I_le, if_pos]
end BDR
end CL82
