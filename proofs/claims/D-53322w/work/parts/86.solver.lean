/-! PLAIN LAW: the class: the solver -/
set_option maxRecDepth 100000
/-- the solver's cell -/
def svo (ra : Nat) (q : Int32 × Int32 × Int32 × Int32) : PC := .inr (5, [.ref ra, .int q.1, .int q.2.1, .int q.2.2.1, .int q.2.2.2])
def sol (h : PH) (v ra : Nat) (q : Int32 × Int32 × Int32 × Int32) : PH := hset h v (svo ra q)
/-- a solver at v, its rules at ra -/
def VR (h : PH) (v ra : Nat) (ru : Nat → Nat) : Prop := (∃ q, h.1 v = some (svo ra q)) ∧ (∀ k, k < 5 → alr 5 (some ra) (I k) h = some (some (ru k)) ∧ clo (some (ru k)) h = some (6 + k))
theorem sol_sol {h : PH} {v ra : Nat} {q q' : Int32 × Int32 × Int32 × Int32} : sol (sol h v ra q) v ra q' = sol h v ra q' := hset_hset
theorem VR.self {h : PH} {v ra : Nat} {ru : Nat → Nat} (V : VR h v ra ru) : ∃ q, h = sol h v ra q := by
  obtain ⟨q, hq⟩ := V.1
  exact ⟨q, (hset_self hq).symm⟩
section SV86
variable {h : PH} {v ra : Nat} {ru : Nat → Nat} {q : Int32 × Int32 × Int32 × Int32}
theorem sv_ob : ob 5 (some v) (sol h v ra q) = some [.ref ra, .int q.1, .int q.2.1, .int q.2.2.1, .int q.2.2.2] := by simp [ob, sol, lk_at, svo]
theorem sv_rc : rcv 5 (some v) (sol h v ra q) = some () := by simp [rcv, clo, sol, lk_at, svo]
theorem sv_0 : gfr 5 0 (some v) (sol h v ra q) = some (some ra) := by simp [gfr, sv_ob, vR]
theorem sv_1 : gfi 5 1 (some v) (sol h v ra q) = some q.1 := by simp [gfi, sv_ob, vI]
theorem sv_2 : gfi 5 2 (some v) (sol h v ra q) = some q.2.1 := by simp [gfi, sv_ob, vI]
theorem sv_3 : gfi 5 3 (some v) (sol h v ra q) = some q.2.2.1 := by simp [gfi, sv_ob, vI]
theorem sv_4 : gfi 5 4 (some v) (sol h v ra q) = some q.2.2.2 := by simp [gfi, sv_ob, vI]
theorem sv_p1 {x : Int32} : pf 5 1 (some v) (.int x) (sol h v ra q) = some (sol h v ra (x, q.2)) := by
  have e : (sol h v ra q).1 v = some (svo ra q) := hset_at
  simp [pf, e, svo]
  exact hset_hset
theorem sv_p2 {x : Int32} : pf 5 2 (some v) (.int x) (sol h v ra q) = some (sol h v ra (q.1, x, q.2.2)) := by
  have e : (sol h v ra q).1 v = some (svo ra q) := hset_at
  simp [pf, e, svo]
  exact hset_hset
theorem sv_p3 {x : Int32} : pf 5 3 (some v) (.int x) (sol h v ra q) = some (sol h v ra (q.1, q.2.1, x, q.2.2.2)) := by
  have e : (sol h v ra q).1 v = some (svo ra q) := hset_at
  simp [pf, e, svo]
  exact hset_hset
theorem sv_p4 {x : Int32} : pf 5 4 (some v) (.int x) (sol h v ra q) = some (sol h v ra (q.1, q.2.1, q.2.2.1, x)) := by
  have e : (sol h v ra q).1 v = some (svo ra q) := hset_at
  simp [pf, e, svo]
  exact hset_hset
theorem PgR_sol {p mm : Nat} {ms : Nat → Nat} {s : Nat → Nat} (V : VR h v ra ru) (H : PgR h p mm ms s) : PgR (sol h v ra q) p mm ms s := by
  obtain ⟨q0, h0⟩ := V.1
  exact PgR_ki h0 (by simp [ki, svo]) (by simp [ki, svo]) H
theorem BdR_sol {p b : Nat} {s w : Nat → Nat} (V : VR h v ra ru) (H : BdR h b p s w) : BdR (sol h v ra q) b p s w := by
  obtain ⟨q0, h0⟩ := V.1
  exact BdR_ki h0 (by simp [ki, svo]) (by simp [ki, svo]) H
theorem VR_sol (V : VR h v ra ru) : VR (sol h v ra q) v ra ru := by
  obtain ⟨q0, h0⟩ := V.1
  refine ⟨⟨q, hset_at⟩, fun k hk => ?_⟩
  obtain ⟨g1, g2⟩ := V.2 k hk
  refine ⟨?_, ?_⟩
  · exact (alr_ki (t := 5) h0 (by simp [ki, svo]) (by simp [ki, svo])).trans g1
  · exact (clo_same (c := svo ra q) h0 rfl ⟨⟨_, rfl⟩, _, rfl⟩).trans g2
theorem VR.al (V : VR h v ra ru) {k : Nat} (hk : k < 5) : alr 5 (some ra) (I k) (sol h v ra q) = some (some (ru k)) := ((VR_sol V).2 k hk).1
theorem VR.cl (V : VR h v ra ru) {k : Nat} (hk : k < 5) : clo (some (ru k)) (sol h v ra q) = some (6 + k) := ((VR_sol V).2 k hk).2
end SV86
/-- what is known where a rule is looked at -/
def CU (h : PH) (p mm : Nat) (ms : Nat → Nat) (s w : Nat → Nat) (b v ra : Nat) (ru : Nat → Nat) : Prop := PgR h p mm ms s ∧ BdR h b p s w ∧ VR h v ra ru ∧ PG' s ∧ NB s ∧ SB s ∧ Nrm s ∧ (∀ i, i < s 0 + s 1 → s (83 + i) ≤ 1) ∧ W7 s w ∧ B0 s w
section CS86
variable {h : PH} {p mm b v ra : Nat} {ms ru : Nat → Nat} {s w : Nat → Nat} {q : Int32 × Int32 × Int32 × Int32}
theorem CU.sol (C : CU h p mm ms s w b v ra ru) : CU (sol h v ra q) p mm ms s w b v ra ru :=
  ⟨PgR_sol C.2.2.1 C.1, BdR_sol C.2.2.1 C.2.1, VR_sol C.2.2.1, C.2.2.2⟩
theorem cs_rule {c n r : Nat} (C : CU h p mm ms s w b v ra ru) (hb : WB s w) (hr : r < 5) (hc : c < nc s) (hn' : n ≤ 6) : (r = 0 → f_X7_cause (some (ru r)) (some b) (I c) (I n) h = some (cz (causeC s w r c n), h)) ∧ (r = 1 → f_X8_cause (some (ru r)) (some b) (I c) (I n) h = some (cz (causeC s w r c n), h)) ∧ (r = 2 ∨ r = 3 → f_X9_cause (some (ru r)) (some b) (I c) (I n) h = some (cz (causeC s w r c n), h)) ∧ (r = 4 → f_X12_cause (some (ru r)) (some b) (I c) (I n) h = some (cz (causeC s w r c n), h)) := by
  obtain ⟨H, B, V, hP, hNB, hs, hN, hsh, hW, hB⟩ := C
  have hx := (V.2 r hr).2
  refine ⟨fun e => ?_, fun e => ?_, fun e => ?_, fun e => ?_⟩
  · subst e; exact cr_used H B hP hN hW hc hn'
  · subst e; exact cr_place H B hP hN hW hc hn'
  · have e2 : causeC s w r c n = lineC s w r c n := by rcases e with rfl | rfl <;> rfl
    rw [e2]
    exact cr_line e (by rw [hx]; congr 1; omega) H B hP hNB hs hsh hb hB hc hn'
  · subst e; exact cr_pair H B hP hN hW hc hn'
theorem cz_99 {o : Option Nat} (ho : ∀ z, o = some z → z < 1000000) : (cz o = -99) = (o.isSome = false) := by
  cases o with
  | none => simp [cz]
  | some z => simp only [cz, Option.isSome_some]; exact (cz_none_ne (ho z rfl)).trans (by simp)
theorem cs_isStrike {c n r : Nat} {q2 q3 q4 : Int32} (C : CU h p mm ms s w b v ra ru) (hb : WB s w) (hr : r < 5) (hc : c < nc s) (hn' : n ≤ 6) : f_X5_isStrike (some v) (some b) (I c) (I n) (sol h v ra (I r, q2, q3, q4)) = some (I (bit ((causeC s w r c n).isSome = true)), sol h v ra (I r, I c, I n, cz (causeC s w r c n))) := by
  have C1 : CU (sol h v ra (I r, I c, I n, q4)) p mm ms s w b v ra ru := C.sol
  obtain ⟨g0, g1, g2, g4⟩ := cs_rule C1 hb hr hc hn'
  have hz := cz_99 (o := causeC s w r c n) (fun z hz => by have := cause_lt C.2.2.2.1 hc (hb c hc).2 hz; omega)
  have hcl := C.2.2.1.cl (q := (I r, I c, I n, q4)) hr
  have hal := C.2.2.1.al (q := (I r, I c, I n, q4)) hr
  have hrr : r = 0 ∨ r = 1 ∨ r = 2 ∨ r = 3 ∨ r = 4 := by omega
  cases ho : (causeC s w r c n).isSome with
  | false =>
    have hz1 : cz (causeC s w r c n) = -99 := by rw [hz]; exact ho
    rw [hz1] at g0 g1 g2 g4 ⊢
    rcases hrr with rfl | rfl | rfl | rfl | rfl
    · simp (disch := first | omega | assumption) only [f_X5_isStrike, sv_p2, sv_p3, sv_p4, sv_0, sv_1, sv_2, sv_3, sv_4, hal, hcl, Option.bind_some, g0 rfl, Nat.reduceAdd, if_true, lit_I, Bool.false_eq_true, bit_F']
    · simp (disch := first | omega | assumption) only [f_X5_isStrike, sv_p2, sv_p3, sv_p4, sv_0, sv_1, sv_2, sv_3, sv_4, hal, hcl, Option.bind_some, g1 rfl, Nat.reduceAdd, Option.some.injEq, Nat.reduceEqDiff, if_true, if_false, lit_I, Bool.false_eq_true, bit_F']
    · simp (disch := first | omega | assumption) only [f_X5_isStrike, sv_p2, sv_p3, sv_p4, sv_0, sv_1, sv_2, sv_3, sv_4, hal, hcl, Option.bind_some, g2 (Or.inl rfl), Nat.reduceAdd, Option.some.injEq, Nat.reduceEqDiff, if_true, if_false, lit_I, Bool.false_eq_true, bit_F']
    · simp (disch := first | omega | assumption) only [f_X5_isStrike, sv_p2, sv_p3, sv_p4, sv_0, sv_1, sv_2, sv_3, sv_4, hal, hcl, Option.bind_some, g2 (Or.inr rfl), Nat.reduceAdd, Option.some.injEq, Nat.reduceEqDiff, if_true, if_false, lit_I, Bool.false_eq_true, bit_F']
    · simp (disch := first | omega | assumption) only [f_X5_isStrike, sv_p2, sv_p3, sv_p4, sv_0, sv_1, sv_2, sv_3, sv_4, hal, hcl, Option.bind_some, g4 rfl, Nat.reduceAdd, Option.some.injEq, Nat.reduceEqDiff, if_true, if_false, lit_I, Bool.false_eq_true, bit_F']
  | true =>
    have hz1 : ¬ cz (causeC s w r c n) = - I 99 := by show ¬ cz (causeC s w r c n) = -99; rw [hz, ho]; simp
    rcases hrr with rfl | rfl | rfl | rfl | rfl
    · simp (disch := first | omega | assumption) only [f_X5_isStrike, sv_p2, sv_p3, sv_p4, sv_0, sv_1, sv_2, sv_3, sv_4, hal, hcl, Option.bind_some, g0 rfl, Nat.reduceAdd, if_true, hz1, if_false, lit_I, bit_T]
    · simp (disch := first | omega | assumption) only [f_X5_isStrike, sv_p2, sv_p3, sv_p4, sv_0, sv_1, sv_2, sv_3, sv_4, hal, hcl, Option.bind_some, g1 rfl, Nat.reduceAdd, Option.some.injEq, Nat.reduceEqDiff, if_true, if_false, hz1, lit_I, bit_T]
    · simp (disch := first | omega | assumption) only [f_X5_isStrike, sv_p2, sv_p3, sv_p4, sv_0, sv_1, sv_2, sv_3, sv_4, hal, hcl, Option.bind_some, g2 (Or.inl rfl), Nat.reduceAdd, Option.some.injEq, Nat.reduceEqDiff, if_true, if_false, hz1, lit_I, bit_T]
    · simp (disch := first | omega | assumption) only [f_X5_isStrike, sv_p2, sv_p3, sv_p4, sv_0, sv_1, sv_2, sv_3, sv_4, hal, hcl, Option.bind_some, g2 (Or.inr rfl), Nat.reduceAdd, Option.some.injEq, Nat.reduceEqDiff, if_true, if_false, hz1, lit_I, bit_T]
    · simp (disch := first | omega | assumption) only [f_X5_isStrike, sv_p2, sv_p3, sv_p4, sv_0, sv_1, sv_2, sv_3, sv_4, hal, hcl, Option.bind_some, g4 rfl, Nat.reduceAdd, Option.some.injEq, Nat.reduceEqDiff, if_true, if_false, hz1, lit_I, bit_T]
end CS86
