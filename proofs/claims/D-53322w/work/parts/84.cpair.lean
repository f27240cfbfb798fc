/-! PLAIN LAW: the class: the rule of a pair -/
set_option maxRecDepth 100000
/-- a fellow with the same two numbers, further on -/
def hitE (w : Nat → Nat) (c n d e : Nat) : Bool := decide (d < e) && (!(d == c) && (!(e == c) && (w d == w e && (pc (w d) == 2 && (w d).testBit n))))
theorem hitE_pair {s w : Nat → Nat} {c n d : Nat} (hd : d < nc s) (hb : s (8 + d) = s (8 + c)) : ((bl s (s (8 + c))).find? (hitE w c n d)).isSome = pairQ s w c n d := by
  refine Bool.eq_iff_iff.mpr ?_
  rw [List.find?_isSome]
  unfold pairQ
  rw [Bool.and_eq_true]
  constructor
  · rintro ⟨e, he, hp⟩
    obtain ⟨h1, h2⟩ := bl_mem.mp he
    simp only [hitE, Bool.and_eq_true, decide_eq_true_eq, beq_iff_eq, Bool.not_eq_true', beq_eq_false_iff_ne] at hp
    obtain ⟨p1, p2, p3, p4, p5, p6⟩ := hp
    refine ⟨by simp [mayP, p2, hb, p5, p6], ?_⟩
    cases hq : firstFrom (pairE s w c d) (nc s - (d + 1)) (d + 1) with
    | some z => rfl
    | none =>
      have := (firstFrom_none _ _).mp hq e (by omega) (by omega)
      simp [pairE, p3, h2, p4] at this
  · rintro ⟨h1, h2⟩
    obtain ⟨e, he⟩ := Option.isSome_iff_exists.mp h2
    obtain ⟨g1, g2, g3, g4⟩ := (firstFrom_some _ _ _).mp he
    simp only [mayP, pairE, Bool.and_eq_true, beq_iff_eq, Bool.not_eq_true', beq_eq_false_iff_ne] at h1 g3
    refine ⟨e, bl_mem.mpr ⟨by omega, g3.2.1⟩, ?_⟩
    simp only [hitE, Bool.and_eq_true, decide_eq_true_eq, beq_iff_eq, Bool.not_eq_true', beq_eq_false_iff_ne]
    exact ⟨by omega, h1.1, g3.1, g3.2.2.symm, h1.2.2.1, h1.2.2.2⟩
section CP84
variable {h : PH} {p mm b : Nat} {ms : Nat → Nat} {s w : Nat → Nat} {x0 : Option Nat}
theorem cr_pair {c n : Nat} (H : PgR h p mm ms s) (B : BdR h b p s w) (hP : PG' s) (hN : Nrm s) (hW : W7 s w) (hc : c < nc s) (hn' : n ≤ 6) : f_X12_cause x0 (some b) (I c) (I n) h = some (cz (pairC s w c n), h) := by
  have hn := nc_le hP
  obtain ⟨m1, m2⟩ := cp_members H hN hc
  have hl := bl_len s (s (8 + c))
  have hbz := bsz_le25 hP (s (8 + c))
  simp (disch := first | omega | assumption) only [f_X12_cause, B.r0, H.rc, m1, H.bl m2, Option.bind_some, lit_I]
  have inner : ∀ (r22 : Option Nat → Int32 → Int32 → Option Nat → Option Nat → Int32 → Int32 → PH → Option (Int32 × PH)) (j d : Nat), d < nc s → s (8 + d) = s (8 + c) → f_X12_cause_L48 r22 FU (some b) (I c) (I n) (some (ms (s (8 + c)))) (some (ms (s (8 + c)))) (I (bsz s (s (8 + c)))) (I j) (I d) (some (ms (s (8 + c)))) (I (bsz s (s (8 + c)))) (I 0) h = if pairQ s w c n d = true then some (I d, h) else r22 (some b) (I c) (I n) (some (ms (s (8 + c)))) (some (ms (s (8 + c)))) (I (bsz s (s (8 + c)))) (I (j + 1)) h := by
    intro r22 j d hd hbd
    have hwd := hW d hd
    have key := loop_find (fun k (q : Nat) => f_X12_cause_L48 r22 k (some b) (I c) (I n) (some (ms (s (8 + c)))) (some (ms (s (8 + c)))) (I (bsz s (s (8 + c)))) (I j) (I d) (some (ms (s (8 + c)))) (I (bsz s (s (8 + c)))) (I q) h) (fun k => k) (bl s (s (8 + c))) (hitE w c n d) (fun _ => some (I d, h)) (r22 (some b) (I c) (I n) (some (ms (s (8 + c)))) (some (ms (s (8 + c)))) (I (bsz s (s (8 + c)))) (I (j + 1)) h) (by omega) (fun k i e he hp => ?_) (fun k i e he hp => ?_) (fun k => ?_)
    · refine key.trans ?_
      rw [← hitE_pair hd hbd]
      cases (bl s (s (8 + c))).find? (hitE w c n d) <;> rfl
    · have hi : i < bsz s (s (8 + c)) := by rw [← hl]; exact (List.getElem?_eq_some_iff.mp he).1
      have hem := bl_mem.mp (List.mem_of_getElem? he)
      have hbe := H.be m2 he
      have hwe := hW e hem.1
      by_cases q1 : d < e
      · by_cases q2 : d = c
        · subst q2
          simp (disch := first | omega | assumption) only [f_X12_cause_L48, f_X12_cause_B103, lit_I, I_le, if_neg, hbe, Option.bind_some, if_true, I_add]
        · by_cases q3 : e = c
          · subst q3
            simp (disch := first | omega | assumption) only [f_X12_cause_L48, f_X12_cause_B103, lit_I, I_le, I_eq, if_neg, hbe, Option.bind_some, if_true, I_add]
          · by_cases q4 : w d = w e
            · by_cases q5 : pc (w d) = 2
              · have q6 : (w d).testBit n = false := by
                  cases hb : (w d).testBit n with
                  | false => rfl
                  | true =>
                    unfold hitE at hp
                    simp [q1, q2, q3, q5, hb] at hp
                    exact absurd q4 hp
                have hpo := cb_possible B hW hd
                have hip := cb_isPossible B hW hd (show n < 32 by omega)
                rw [q6] at hip
                rw [q5] at hpo
                simp (disch := first | omega | assumption) only [f_X12_cause_L48, f_X12_cause_B103, lit_I, I_le, I_eq, if_neg, hbe, B.r1, B.c hd, B.c hem.1, B.rc, hpo, hip, Option.bind_some, q4, if_true, I_10, if_false, Bool.false_eq_true, bit_F', I_add]
              · have hpo := cb_possible B hW hd
                have hpl := pc_le (w d)
                simp (disch := first | omega | assumption) only [f_X12_cause_L48, f_X12_cause_B103, lit_I, I_le, I_eq, if_neg, hbe, B.r1, B.c hd, B.c hem.1, B.rc, hpo, Option.bind_some, q4, if_true, I_10, if_false, I_add]
                rw [← q4]
                simp (disch := first | omega | assumption) only [I_eq, if_neg]
            · simp (disch := first | omega | assumption) only [f_X12_cause_L48, f_X12_cause_B103, lit_I, I_le, I_eq, if_neg, hbe, B.r1, B.c hd, B.c hem.1, Option.bind_some, if_true, I_add]
      · simp (disch := first | omega | assumption) only [f_X12_cause_L48, f_X12_cause_B103, lit_I, I_le, if_neg, if_pos, hbe, Option.bind_some, if_true, I_add]
    · have hi : i < bsz s (s (8 + c)) := by rw [← hl]; exact (List.getElem?_eq_some_iff.mp he).1
      have hem := bl_mem.mp (List.mem_of_getElem? he)
      have hbe := H.be m2 he
      have hwe := hW e hem.1
      simp only [hitE, Bool.and_eq_true, decide_eq_true_eq, beq_iff_eq, Bool.not_eq_true', beq_eq_false_iff_ne] at hp
      obtain ⟨p1, p2, p3, p4, p5, p6⟩ := hp
      have hpo := cb_possible B hW hd
      have hip := cb_isPossible B hW hd (show n < 32 by omega)
      rw [p6] at hip
      rw [p5] at hpo
      simp (disch := first | omega | assumption) only [f_X12_cause_L48, f_X12_cause_B103, lit_I, I_le, I_eq, if_neg, hbe, B.r1, B.c hd, B.c hem.1, B.rc, hpo, hip, Option.bind_some, p4, if_true, I_10, if_false, bit_0, not_true_eq_false]
    · rw [hl]
      simp (disch := first | omega | assumption) only [f_X12_cause_L48, I_le, if_pos, lit_I, I_add]
  have key := loop_find (fun k (q : Nat) => f_X12_cause_L22 k (some b) (I c) (I n) (some (ms (s (8 + c)))) (some (ms (s (8 + c)))) (I (bsz s (s (8 + c)))) (I q) h) (fun k => k) (bl s (s (8 + c))) (pairQ s w c n) (fun d => some (I d, h)) (some (-99, h)) (by omega) (fun k j d hd hp => ?_) (fun k j d hd hp => ?_) (fun k => ?_)
  · rw [key]
    have e : pairC s w c n = (bl s (s (8 + c))).find? (pairQ s w c n) := by
      rw [find_bl]
      unfold pairC
      refine firstI_congr (fun d hd => ?_)
      unfold pairQ mayP
      cases (d == c) <;> cases (s (8 + d) == s (8 + c)) <;> rfl
    rw [← e]
    cases pairC s w c n <;> rfl
  · have hj : j < bsz s (s (8 + c)) := by rw [← hl]; exact (List.getElem?_eq_some_iff.mp hd).1
    have hdm := bl_mem.mp (List.mem_of_getElem? hd)
    simp (disch := first | omega | assumption) only [f_X12_cause_L22, I_le, if_neg, H.be m2 hd, H.bl m2, Option.bind_some, lit_I]
    rw [inner _ _ _ hdm.1 hdm.2, hp]
    simp
  · have hj : j < bsz s (s (8 + c)) := by rw [← hl]; exact (List.getElem?_eq_some_iff.mp hd).1
    have hdm := bl_mem.mp (List.mem_of_getElem? hd)
    simp (disch := first | omega | assumption) only [f_X12_cause_L22, I_le, if_neg, H.be m2 hd, H.bl m2, Option.bind_some, lit_I]
    rw [inner _ _ _ hdm.1 hdm.2, hp]
    simp
  · rw [hl]
    simp (disch := first | omega | assumption) only [f_X12_cause_L22, I_le, if_pos, lit_I]
end CP84
