/-! PLAIN LAW: the class: rules allowed, costs, strikes -/
set_option maxRecDepth 100000
theorem rkTo_E {s t : Nat → Nat} (h0 : t 0 = s 0) (h1 : t 1 = s 1) (hb : ∀ c, c < nc s → t (8 + c) = s (8 + c)) : rkTo t (nc t) = rkTo s (nc s) := by
  rw [nc_of h0 h1]
  unfold rkTo
  refine sumTo_congr (fun d hd => ?_)
  have : fst t d = fst s d := by
    unfold fst
    rw [nc_of h0 h1, firstI_congr (fun e he => by rw [hb e he, hb d hd])]
  unfold isF
  rw [this]
section MID9c
variable {m x n0 : Nat} {h : PH} {st sh sl p b co mm : Nat} {ms : Nat → Nat} {f : F4} {fc fw : Nat → Int32} {fs : Nat → Option Nat} {s : Nat → Nat} {L : List (Nat → Nat)} {n : Nat} {tx : Nat → Nat}
/-- one cell is written, and nothing of the page or the members -/
theorem Mid.cell {a : Nat} {cc : PC} {t : Nat → Nat} {b' : Nat} {fc' fw' : Nat → Int32} (M : Mid m x n0 h st sh sl p b co mm ms f fc fw fs s L n tx) (ha : n0 ≤ a) (X' : LVX (hset h a cc) n0 st sh sl p b' co mm (I (t 0)) (I (t 1)) f (I (t 2)) fc' fw' fs) (h0 : t 0 = s 0) (h1 : t 1 = s 1) (hlo : ∀ k, 8 ≤ k → k < 93 → t k = s k) (hhi : ∀ k, 118 ≤ k → t k = s k) (hmm : mm ≠ a) (hms : ∀ k, k < rkTo s (nc s) → ms k ≠ a ∧ ms k ≠ b' + 1) (hfc : ∀ r, r < 5 → fc' r = I (t (3 + r))) (hP : PG' s) : Mid m x n0 (hset h a cc) st sh sl p b' co mm ms f fc' fw' fs t L n tx ∧ Old (tr n0 h) (hset h a cc) := by
  have hnc := nc_le hP
  obtain ⟨a1, a2, a3, a4⟩ := hP
  obtain ⟨⟨d, da, u, ua, v, ra, ru, la, C⟩, X, W, R, A, -, S, hl⟩ := M
  have O : Old (tr n0 h) (hset h a cc) := ⟨hl, rfl, fun y hy => hset_ne (by have : y < n0 := hy; omega)⟩
  have er := rkTo_E h0 h1 (fun c hc => hlo _ (by omega) (by omega))
  have alk : ∀ y, y ≠ a → Al m h y → Al m (hset h a cc) y := fun y hy A0 => by
    obtain ⟨z1, z2, c, z3, z4⟩ := A0
    exact ⟨z1, z2, c, (hset_ne hy).trans z3, z4⟩
  refine ⟨⟨⟨d, da, u, ua, v, ra, ru, la, C.old (tr_old O)⟩, X', PgW_row W h0 h1 (fun c hc => ?_) (fun i hi => ?_) W.2.2.1 W.2.2.2, MbR_row h0 h1 (fun c hc => hlo _ (by omega) (by omega)) (MbR_agree (lk_ne hmm) (fun k hk => lk_ne (hms k hk).1) R), ⟨alk _ hmm A.1, fun k hk => ?_⟩, hfc, (SlC.row S hhi).las (tr_old O).las, hl⟩, O⟩
  · rw [hlo _ (by omega) (by omega), hlo _ (by omega) (by omega), hlo _ (by omega) (by omega)]; exact W.1 c hc
  · rw [hlo _ (by omega) (by omega)]; exact W.2.1 i hi
  · rw [er] at hk
    obtain ⟨A1, A2, A3, A4, A5⟩ := A.2 k hk
    exact ⟨alk _ (hms k hk).1 A1, A2, A3, (hms k hk).2, A5⟩
theorem Mid.mmne (M : Mid m x n0 h st sh sl p b co mm ms f fc fw fs s L n tx) {a : Nat} {c : PC} (hc : h.1 a = some c) (hk : ki c ≠ 1003) : mm ≠ a := by
  intro e; subst e
  have := M.2.2.2.1.1
  simp only [aln, ar, lk_own hc] at this
  cases c with
  | inr o => simp at this
  | inl o =>
    have q : ¬ o.1 = 3 := fun z => hk (by show 1000 + o.1 = 1003; omega)
    simp [q] at this
theorem Mid.msne (M : Mid m x n0 h st sh sl p b co mm ms f fc fw fs s L n tx) {a : Nat} {c : PC} (hc : h.1 a = some c) (hk : ki c ≠ 1000) {k : Nat} (hk' : k < rkTo s (nc s)) : ms k ≠ a := by
  intro e
  have := (M.2.2.2.1.2 k hk').2.1
  rw [e] at this
  simp only [aln, ar, lk_own hc] at this
  cases c with
  | inr o => simp at this
  | inl o =>
    have q : ¬ o.1 = 0 := fun z => hk (by show 1000 + o.1 = 1000; omega)
    simp [q] at this
theorem Mid.allow {k : Nat} (M : Mid m x n0 h st sh sl p b co mm ms f fc fw fs s L n tx) (hP : PG' s) : pf 2 2 (some sh) (.int (I k)) h = some (hset h sh (sho p b co (I k))) ∧ Mid m x n0 (hset h sh (sho p b co (I k))) st sh sl p b co mm ms f fc fw fs (nup s 2 k) L n tx ∧ Old (tr n0 h) (hset h sh (sho p b co (I k))) := by
  obtain ⟨-, ⟨⟨x1, x2, x3, ⟨y0, y1, y2, y3, y4⟩, x5, x6⟩, ⟨b1, b2, b3, b4, b5, b6⟩, cc, D⟩, -, -, A, hfc, -, -⟩ := id M
  have hne : ∀ a (c : PC), h.1 a = some c → ki c ≠ 2 → (hset h sh (sho p b co (I k))).1 a = h.1 a := fun a c q1 q2 => hset_ne (fun e => by subst e; rw [x3] at q1; cases q1; exact q2 rfl)
  refine ⟨pf_at x3 (by simp), ?_⟩
  refine M.cell (t := nup s 2 k) b2 ⟨⟨(hne _ _ x1 (by simp [ki, sto])).trans x1, (hne _ _ x2 (by simp [ki])).trans x2, by rw [nup_eq]; exact hset_at, ?_, ⟨(hne _ _ x5.1 (by simp [ki])).trans x5.1, (hne _ _ x5.2 (by simp [ki])).trans x5.2⟩, (hne _ _ x6 (by simp [ki])).trans x6⟩, ⟨b1, b2, b3, b4, b5, b6⟩, cc, D⟩ (nup_ne (by omega)) (nup_ne (by omega)) (fun j h1 h2 => nup_ne (by omega)) (fun j h1 => nup_ne (by omega)) (M.mmne x3 (by simp [ki, sho])) (fun j hj => ⟨M.msne x3 (by simp [ki, sho]) hj, (A.2 j hj).2.2.2.1⟩) (fun r hr => by rw [nup_ne (by omega)]; exact hfc r hr) hP
  rw [nup_ne (show ¬ 0 = 2 by decide), nup_ne (show ¬ 1 = 2 by decide)]
  exact ⟨(hne _ _ y0 (by simp [ki, pgo])).trans y0, (hne _ _ y1 (by simp [ki])).trans y1, (hne _ _ y2 (by simp [ki])).trans y2, (hne _ _ y3 (by simp [ki])).trans y3, (hne _ _ y4 (by simp [ki])).trans y4⟩
theorem Mid.cost {r k : Nat} (M : Mid m x n0 h st sh sl p b co mm ms f fc fw fs s L n tx) (hP : PG' s) (hr : r < 5) : ∃ h' fc', asi 0 (some co) (I r) (I k) h = some h' ∧ Mid m x n0 h' st sh sl p b co mm ms f fc' fw fs (nup s (3 + r) k) L n tx ∧ Old (tr n0 h) h' ∧ hn h' = hn h ∧ hs h' = hs h := by
  obtain ⟨-, ⟨⟨x1, x2, x3, ⟨y0, y1, y2, y3, y4⟩, x5, x6⟩, ⟨b1, b2, b3, b4, b5, b6⟩, cc, D⟩, -, -, A, hfc, -, -⟩ := id M
  have hne : ∀ a (c : PC), h.1 a = some c → ki c ≠ 1000 → (hset h co (nar 0 5 (upd fc r (I k)))).1 a = h.1 a := fun a c q1 q2 => hset_ne (fun e => by subst e; rw [x6] at q1; cases q1; exact q2 rfl)
  have hM := M.cell (a := co) (cc := nar 0 5 (upd fc r (I k))) (t := nup s (3 + r) k) (b' := b) (fc' := upd fc r (I k)) (fw' := fw) b6 ⟨⟨(hne _ _ x1 (by simp [ki, sto])).trans x1, (hne _ _ x2 (by simp [ki])).trans x2, by rw [nup_ne (by omega)]; exact (hne _ _ x3 (by simp [ki, sho])).trans x3, by
      rw [nup_ne (by omega), nup_ne (by omega)]
      exact ⟨(hne _ _ y0 (by simp [ki, pgo])).trans y0, (hset_ne (Ne.symm D.2.2.1)).trans y1, (hset_ne (Ne.symm D.2.2.2.1)).trans y2, (hne _ _ y3 (by simp [ki])).trans y3, (hne _ _ y4 (by simp [ki])).trans y4⟩, ⟨(hne _ _ x5.1 (by simp [ki])).trans x5.1, (hset_ne (Ne.symm D.2.2.2.2)).trans x5.2⟩, hset_at⟩, ⟨b1, b2, b3, b4, b5, b6⟩, cc, D⟩ (nup_ne (by omega)) (nup_ne (by omega)) (fun j h1 h2 => nup_ne (by omega)) (fun j h1 => nup_ne (by omega)) (M.mmne x6 (by simp [ki])) (fun j hj => ⟨(A.2 j hj).2.2.2.2, (A.2 j hj).2.2.2.1⟩) (fun q hq => by
        by_cases e : q = r
        · subst e; rw [nup_eq]; simp [upd]
        · rw [nup_ne (by omega)]; simp only [upd, e, if_false]; exact hfc q hq) hP
  exact ⟨_, _, asi_at x6 hr (by decide), hM.1, hM.2, rfl, rfl⟩
end MID9c
section OP9c
variable {m x : Nat} {h : PH} {g : GS}
theorem bc5 {a : Nat} {h : PH} (ha : a < 32) : f_J3_bitCount (I a) h = some (I (pc a), h) := cl_bitCount (by omega)
theorem c_allow {y z : Int32} (C : CI m h x g) (hI : RInv g.1) : Res m x h (o_allow g y z) (f_X0_allow (some x) y z h) := by
  have hQ := hI.1.1
  have hP := hQ.1
  obtain ⟨st, sh, p, b, co, mm, ms, d, u, v, r0, -⟩ := C.look hP
  have hir : f_X0_isRule y h = some (I (bit (bt y 0 4 = true)), h) := by simp only [f_X0_isRule, lit_I, betZ, Option.bind_some, gb_bit]
  unfold o_allow
  cases h1 : bt y 0 4 with
  | false =>
    rw [h1] at hir
    refine Res.same C ?_ rfl
    simp only [Bool.false_and, Bool.false_eq_true, if_false]
    simp (disch := first | omega | assumption) only [f_X0_allow, hir, Option.bind_some, lit_I, Bool.false_eq_true, bit_F', if_true]
  | true =>
    rw [h1] at hir
    obtain ⟨e1, -, e3⟩ := bt_na (by decide) (by decide) h1
    generalize na y = c at *
    subst e1
    cases h2 : bt z 0 1 with
    | false =>
      refine Res.same C ?_ rfl
      simp only [Bool.and_false, Bool.false_eq_true, if_false]
      simp (disch := first | omega | assumption) only [f_X0_allow, hir, Option.bind_some, lit_I, bit_T, I_10, if_false, betZ, h2, Bool.false_eq_true, bit_F', if_true]
    | true =>
      obtain ⟨e4, -, e5⟩ := bt_na (by decide) (by decide) h2
      generalize na z = k at *
      subst e4
      simp only [Bool.and_self, if_true]
      obtain ⟨h1, mm1, ms1, f1, fc1, fw1, fs1, a1, a2, a3, a4, a5, a6⟩ := ca_begin C hI.1
      have hal := alw_lt hQ.2.1.1 (show c < 5 by omega) e5
      obtain ⟨b1, b2, b3⟩ := a2.allow (k := alw (g.1 2) c k) hP
      obtain ⟨-, -, -, -, -, -, -, m8, -⟩ := a2.rd
      obtain ⟨-, -, -, -, -, -, -, m9, -⟩ := b2.rd
      rw [nup_eq] at m9
      refine ⟨_, ?_, b2.fin (fun d hd => by rw [nup_ne (by omega)]; exact a3 d (by rw [nc_of (s := g.1) (t := nup g.1 2 (alw (g.1 2) c k)) (nup_ne (by omega)) (nup_ne (by omega))] at hd; exact hd)), Keep_old a4 b3, ?_, ?_⟩
      · have hb := bc5 (h := hset h1 (hn h + 1) (sho (hn h + 2) (hn h + 8) (hn h + 7) (I (alw (g.1 2) c k)))) hal
        have hkk : k = 0 ∨ k = 1 := by omega
        rcases hkk with rfl | rfl
        · have ea : I (g.1 2) &&& (I (1 <<< c) ^^^ (- I 1)) = I (alw (g.1 2) c 0) := by
            rw [I_andnI]; unfold alw; rw [Nat.zero_shiftLeft, Nat.or_zero]
          simp (disch := first | omega | assumption) only [f_X0_allow, f_X0_allow_B50, hir, Option.bind_some, lit_I, bit_T, I_10, I_01, if_false, betZ, h2, r0, a1, m8, I_shlM, I_and, ea, b1, m9, hb]
          rfl
        · have ea : I (g.1 2) ||| I (1 <<< c) = I (alw (g.1 2) c 1) := by
            rw [I_or]; unfold alw
            congr 1
            apply Nat.eq_of_testBit_eq
            intro j
            simp only [Nat.testBit_or, andn_tb]
            cases (g.1 2).testBit j <;> cases (1 <<< c).testBit j <;> rfl
          simp (disch := first | omega | assumption) only [f_X0_allow, f_X0_allow_B50, hir, Option.bind_some, lit_I, bit_T, I_10, if_true, if_false, betZ, h2, r0, a1, m8, I_shlM, I_and, ea, b1, m9, hb]
          rfl
      · rw [hset_hn]; omega
      · rw [hset_hs]; omega
theorem c_setCost {y z : Int32} (C : CI m h x g) (hI : RInv g.1) : Res m x h (o_setCost g y z) (f_X0_setCost (some x) y z h) := by
  have hQ := hI.1.1
  have hP := hQ.1
  obtain ⟨st, sh, p, b, co, mm, ms, d, u, v, r0, r1, -, -, -, r5, r6, r7, r8, r9, r10, -, -, hco⟩ := C.look hP
  have hir : f_X0_isRule y h = some (I (bit (bt y 0 4 = true)), h) := by simp only [f_X0_isRule, lit_I, betZ, Option.bind_some, gb_bit]
  unfold o_setCost
  cases h1 : bt y 0 4 with
  | false =>
    rw [h1] at hir
    refine Res.same C ?_ rfl
    simp only [Bool.false_and, Bool.false_eq_true, if_false]
    simp (disch := first | omega | assumption) only [f_X0_setCost, hir, Option.bind_some, lit_I, Bool.false_eq_true, bit_F', if_true]
  | true =>
    rw [h1] at hir
    obtain ⟨e1, -, e3⟩ := bt_na (by decide) (by decide) h1
    generalize na y = c at *
    subst e1
    cases h2 : bt z 1 9 with
    | false =>
      refine Res.same C ?_ rfl
      simp only [Bool.and_false, Bool.false_eq_true, if_false]
      simp (disch := first | omega | assumption) only [f_X0_setCost, hir, Option.bind_some, lit_I, bit_T, I_10, if_false, betZ, h2, Bool.false_eq_true, bit_F', if_true]
    | true =>
      obtain ⟨e4, -, e5⟩ := bt_na (by decide) (by decide) h2
      generalize na z = k at *
      subst e4
      simp only [Bool.and_self, if_true]
      obtain ⟨h1, mm1, ms1, f1, fc1, fw1, fs1, a1, a2, a3, a4, a5, a6⟩ := ca_begin C hI.1
      obtain ⟨h2', fc2, b1, b2, b3, b4, b5⟩ := a2.cost (k := k) hP (show c < 5 by omega)
      obtain ⟨-, -, -, -, -, -, -, -, m9⟩ := a2.rd
      refine ⟨h2', ?_, b2.fin (fun d hd => by rw [nup_ne (by omega)]; exact a3 d (by rw [nc_of (s := g.1) (t := nup g.1 (3 + c) k) (nup_ne (by omega)) (nup_ne (by omega))] at hd; exact hd)), Keep_old a4 b3, by omega, by omega⟩
      have hc5 := hco c (by omega)
      simp (disch := first | omega | assumption) only [f_X0_setCost, f_X0_sheet, hir, Option.bind_some, lit_I, bit_T, I_10, if_false, betZ, h2, r0, r1, r5, r9, hc5, a1, m9, b1]
      rfl
end OP9c
