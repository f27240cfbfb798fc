/-! PLAIN LAW: the class: strikes of a rule -/
set_option maxRecDepth 100000
/-- a board's numbers fit the blocks -/
def BZ (s w : Nat → Nat) : Prop := ∀ c, c < nc s → ∀ k, (w c).testBit k = true → k ≤ bsz s (s (8 + c))
section OP9t
variable {h : PH} {p mm b v ra : Nat} {ms ru : Nat → Nat} {s w : Nat → Nat}
theorem cs_strikes2 {c n r : Nat} (C : CU h p mm ms s w b v ra ru) (hb : WB s w) (hr : r < 5) (hc : c < nc s) (hn' : n ≤ 6) : f_X6_strikes_2 (some (ru r)) (some b) (I c) (I n) h = some (I (bit ((causeC s w r c n).isSome = true)), h) := by
  obtain ⟨g0, g1, g2, g4⟩ := cs_rule C hb hr hc hn'
  have hz := cz_99 (o := causeC s w r c n) (fun z hz => by have := cause_lt C.2.2.2.1 hc (hb c hc).2 hz; omega)
  have hcl := (C.2.2.1.2 r hr).2
  have hrr : r = 0 ∨ r = 1 ∨ r = 2 ∨ r = 3 ∨ r = 4 := by omega
  cases ho : (causeC s w r c n).isSome with
  | false =>
    have hz1 : cz (causeC s w r c n) = -99 := by rw [hz]; exact ho
    rw [hz1] at g0 g1 g2 g4
    rcases hrr with rfl | rfl | rfl | rfl | rfl
    · simp (disch := first | omega | assumption) only [f_X6_strikes_2, hcl, Option.bind_some, g0 rfl, Nat.reduceAdd, if_true, lit_I, Bool.false_eq_true, bit_F']
    · simp (disch := first | omega | assumption) only [f_X6_strikes_2, hcl, Option.bind_some, g1 rfl, Nat.reduceAdd, Option.some.injEq, Nat.reduceEqDiff, if_true, if_false, lit_I, Bool.false_eq_true, bit_F']
    · simp (disch := first | omega | assumption) only [f_X6_strikes_2, hcl, Option.bind_some, g2 (Or.inl rfl), Nat.reduceAdd, Option.some.injEq, Nat.reduceEqDiff, if_true, if_false, lit_I, Bool.false_eq_true, bit_F']
    · simp (disch := first | omega | assumption) only [f_X6_strikes_2, hcl, Option.bind_some, g2 (Or.inr rfl), Nat.reduceAdd, Option.some.injEq, Nat.reduceEqDiff, if_true, if_false, lit_I, Bool.false_eq_true, bit_F']
    · simp (disch := first | omega | assumption) only [f_X6_strikes_2, hcl, Option.bind_some, g4 rfl, Nat.reduceAdd, Option.some.injEq, Nat.reduceEqDiff, if_true, if_false, lit_I, Bool.false_eq_true, bit_F']
  | true =>
    have hz1 : ¬ cz (causeC s w r c n) = - I 99 := by show ¬ cz (causeC s w r c n) = -99; rw [hz, ho]; simp
    rcases hrr with rfl | rfl | rfl | rfl | rfl
    · simp (disch := first | omega | assumption) only [f_X6_strikes_2, hcl, Option.bind_some, g0 rfl, Nat.reduceAdd, if_true, hz1, if_false, lit_I, bit_T]
    · simp (disch := first | omega | assumption) only [f_X6_strikes_2, hcl, Option.bind_some, g1 rfl, Nat.reduceAdd, Option.some.injEq, Nat.reduceEqDiff, if_true, if_false, hz1, lit_I, bit_T]
    · simp (disch := first | omega | assumption) only [f_X6_strikes_2, hcl, Option.bind_some, g2 (Or.inl rfl), Nat.reduceAdd, Option.some.injEq, Nat.reduceEqDiff, if_true, if_false, hz1, lit_I, bit_T]
    · simp (disch := first | omega | assumption) only [f_X6_strikes_2, hcl, Option.bind_some, g2 (Or.inr rfl), Nat.reduceAdd, Option.some.injEq, Nat.reduceEqDiff, if_true, if_false, hz1, lit_I, bit_T]
    · simp (disch := first | omega | assumption) only [f_X6_strikes_2, hcl, Option.bind_some, g4 rfl, Nat.reduceAdd, Option.some.injEq, Nat.reduceEqDiff, if_true, if_false, hz1, lit_I, bit_T]
theorem stbC_sz {r c : Nat} (hZ : BZ s w) (hc : c < nc s) (h6 : bsz s (s (8 + c)) ≤ 6) : stbC s w r c 6 = stbC s w r c (bsz s (s (8 + c))) := by
  have key : ∀ d, stbC s w r c (bsz s (s (8 + c)) + d) = stbC s w r c (bsz s (s (8 + c))) := by
    intro d
    induction d with
    | zero => rfl
    | succ d ih =>
      show stbC s w r c (bsz s (s (8 + c)) + d) + (if numP s w r c (bsz s (s (8 + c)) + d + 1) = true then 1 else 0) = _
      rw [ih, if_neg]
      · rfl
      · intro q
        simp only [numP, Bool.and_eq_true] at q
        have := hZ c hc _ q.1
        omega
  have e : 6 = bsz s (s (8 + c)) + (6 - bsz s (s (8 + c))) := by omega
  have := key (6 - bsz s (s (8 + c)))
  rw [← e] at this
  exact this
theorem cs_st25 {r4 : Option Nat → Option Nat → Int32 → Int32 → PH → Option (Int32 × PH)} {r c n0 : Nat} (C : CU h p mm ms s w b v ra ru) (hb : WB s w) (hZ : BZ s w) (hr : r < 5) (hc : c < nc s) : f_X6_strikes_L25 r4 FU (some (ru r)) (some b) (I n0) (I c) (I 1) h = r4 (some (ru r)) (some b) (I (n0 + stbC s w r c 6)) (I c + I 1) h := by
  obtain ⟨H, B, V, hP, hNB, hs, hN, hsh, hW, hB⟩ := id C
  have hnc := nc_le hP
  have h6 := (hNB c hc).2.2
  have hcl := (V.2 r hr).2
  rw [stbC_sz hZ hc h6]
  have hsz := cp_size H hN hc
  refine loop_FU (fun k (q : Nat × Nat) => f_X6_strikes_L25 r4 k (some (ru r)) (some b) (I q.1) (I c) (I (q.2 + 1)) h) (fun k => (n0 + stbC s w r c k, k)) (bsz s (s (8 + c))) _ (by omega) (fun k j hj => ?_) (fun k => ?_)
  · have hip := cb_isPossible (n := j + 1) B hW hc (by omega)
    have hst := cs_strikes2 (n := j + 1) C hb hr hc (by omega)
    have hrr : r = 0 ∨ r = 1 ∨ r = 2 ∨ r = 3 ∨ r = 4 := by omega
    show f_X6_strikes_L25 r4 (k + 1) _ _ (I _) _ (I _) h = f_X6_strikes_L25 r4 k _ _ (I (n0 + (stbC s w r c j + (if numP s w r c (j + 1) = true then 1 else 0)))) _ (I (j + 1 + 1)) h
    unfold numP
    have hlt : ¬ I (bsz s (s (8 + c))) < I (j + 1) := by rw [I_lt (by omega) (by omega)]; omega
    rw [f_X6_strikes_L25, B.r0, Option.bind_some, H.rc, Option.bind_some, hsz, Option.bind_some, if_neg hlt, B.rc, Option.bind_some, hip, Option.bind_some]
    cases h1 : (w c).testBit (j + 1) with
    | false =>
      rw [if_pos (show I (bit (false = true)) = 0 from bitZF)]
      simp only [Bool.false_and, Bool.false_eq_true, if_false, Nat.add_zero, lit_I, I_add]
    | true =>
      rw [if_neg (show ¬ I (bit (true = true)) = 0 by rw [bitZT]; decide)]
      have fin : (f_X6_strikes_2 (some (ru r)) (some b) (I c) (I (j + 1)) h).bind (fun q6 => if q6.1 = 0 then f_X6_strikes_L25 r4 k (some (ru r)) (some b) (I (n0 + stbC s w r c j) + 0) (I c) (I (j + 1) + 1) q6.2 else f_X6_strikes_L25 r4 k (some (ru r)) (some b) (I (n0 + stbC s w r c j) + 1) (I c) (I (j + 1) + 1) q6.2) = f_X6_strikes_L25 r4 k (some (ru r)) (some b) (I (n0 + (stbC s w r c j + (if (true && (causeC s w r c (j + 1)).isSome) = true then 1 else 0)))) (I c) (I (j + 1 + 1)) h := by
        rw [hst, Option.bind_some]
        cases h2 : (causeC s w r c (j + 1)).isSome with
        | false =>
          rw [if_pos (show I (bit (false = true)) = 0 from bitZF)]
          simp only [Bool.true_and, Bool.false_eq_true, if_false, Nat.add_zero, lit_I, I_add]
        | true =>
          rw [if_neg (show ¬ I (bit (true = true)) = 0 by rw [bitZT]; decide)]
          simp only [Bool.true_and, if_true, lit_I, I_add, Nat.add_assoc]
      rw [← fin]
      have nx : ∀ t, ¬ t = 6 + r → ¬ clo (some (ru r)) h = some t := fun t ht e => by rw [hcl] at e; cases e; exact ht rfl
      rcases hrr with rfl | rfl | rfl | rfl | rfl
      · rw [if_pos (show clo (some (ru 0)) h = some 6 from hcl)]
      · rw [if_neg (nx 6 (by decide)), if_pos (show clo (some (ru 1)) h = some 7 from hcl)]
      · rw [if_neg (nx 6 (by decide)), if_neg (nx 7 (by decide)), if_pos (show clo (some (ru 2)) h = some 8 from hcl)]
      · rw [if_neg (nx 6 (by decide)), if_neg (nx 7 (by decide)), if_neg (nx 8 (by decide)), if_pos (show clo (some (ru 3)) h = some 9 from hcl)]
      · rw [if_neg (nx 6 (by decide)), if_neg (nx 7 (by decide)), if_neg (nx 8 (by decide)), if_neg (nx 9 (by decide)), if_pos (show clo (some (ru 4)) h = some 10 from hcl)]
  · show f_X6_strikes_L25 r4 (k + 1) _ _ (I _) _ (I _) h = _
    rw [f_X6_strikes_L25, B.r0, Option.bind_some, H.rc, Option.bind_some, hsz, Option.bind_some, if_pos (show I (bsz s (s (8 + c))) < I (bsz s (s (8 + c)) + 1) by rw [I_lt (by omega) (by omega)]; omega)]
    rfl
theorem cs_strikes {r : Nat} (C : CU h p mm ms s w b v ra ru) (hZ : BZ s w) (hr : r < 5) : f_X6_strikes (some (ru r)) (some b) h = some (I (stb s w r), h) := by
  obtain ⟨H, B, V, hP, hNB, hs, hN, hsh, hW, hB⟩ := id C
  have hnc := nc_le hP
  have hbr := cb_isBroken H B hP hW
  unfold f_X6_strikes stb
  cases hb : brk s w with
  | true =>
    rw [hb] at hbr
    obtain ⟨f0, hF⟩ : ∃ f, FU = f + 1 := ⟨999999, FU_eq⟩
    rw [hF]
    simp (disch := first | omega | assumption) only [f_X6_strikes_L4, B.r0, H.rc, cp_cells H, B.rc, hbr, Option.bind_some, lit_I, I_le, if_neg, bit_T, I_10, if_true, if_false]
  | false =>
    rw [hb] at hbr
    have hWB := WB_of hW hb
    simp only [Bool.false_eq_true, if_false]
    refine loop_FU (fun k (q : Nat × Nat) => f_X6_strikes_L4 k (some (ru r)) (some b) (I q.1) (I q.2) h) (fun k => (sumTo (fun c => stbC s w r c 6) k, k)) (nc s) _ (by omega) (fun k j hj => ?_) (fun k => ?_)
    · have h25 := cs_st25 (r4 := f_X6_strikes_L4 k) (n0 := sumTo (fun c => stbC s w r c 6) j) C hWB hZ hr hj
      show f_X6_strikes_L4 (k + 1) _ _ (I _) (I _) h = f_X6_strikes_L4 k _ _ (I (_ + _)) (I (j + 1)) h
      simp (disch := first | omega | assumption) only [f_X6_strikes_L4, B.r0, H.rc, cp_cells H, B.rc, hbr, Option.bind_some, lit_I, I_le, if_neg, Bool.false_eq_true, bit_F', if_true, h25, I_add]
    · show f_X6_strikes_L4 (k + 1) _ _ (I _) (I _) h = _
      simp (disch := first | omega | assumption) only [f_X6_strikes_L4, B.r0, H.rc, cp_cells H, Option.bind_some, lit_I, I_le, if_pos]
end OP9t
