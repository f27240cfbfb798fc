/-! PLAIN LAW: the class: exchange, clues, restart, fill -/
set_option maxRecDepth 100000
section RD99
variable {h : PH} {p mm : Nat} {ms : Nat → Nat} {s : Nat → Nat}
theorem cp_places {kind : Nat} (H : PgR h p mm ms s) (hk : kind ≤ 1) : f_X3_places (some p) (I kind) h = some (I (clAll s kind), h) := by
  have : kind = 0 ∨ kind = 1 := by omega
  rcases this with rfl | rfl
  · simp only [f_X3_places, lit_I, if_true, H.rc, cp_cells H, Option.bind_some]; rfl
  · simp only [f_X3_places, lit_I, I_10, if_false, H.rc, cp_lines H, Option.bind_some]; rfl
theorem clAll_le {s : Nat → Nat} (hP : PG' s) (kind : Nat) : 4 ≤ clAll s kind ∧ clAll s kind ≤ 25 := by
  have := nc_le hP
  obtain ⟨a1, a2, a3, a4⟩ := hP
  unfold clAll; split <;> omega
theorem cp_isPlace {k y : Int32} (H : PgR h p mm ms s) (hP : PG' s) : f_X3_isPlace (some p) k y h = some (I (bit ((bt k 0 1 && bt y 0 (clAll s (na k) - 1)) = true)), h) := by
  have hc := clAll_le hP (na k)
  cases hb : bt k 0 1 with
  | false =>
    simp only [f_X3_isPlace, lit_I, betZ, hb, Option.bind_some, Bool.false_and]
    simp (disch := first | omega | assumption) only [Bool.false_eq_true, bit_F', if_true]
  | true =>
    obtain ⟨e1, -, e3⟩ := bt_na (by decide) (by decide) hb
    have hp := cp_places (kind := na k) H e3
    rw [← e1] at hp
    cases hb2 : bt y 0 (clAll s (na k) - 1) with
    | false => simp (disch := first | omega | assumption) only [f_X3_isPlace, lit_I, betZ, hb, Option.bind_some, bit_T, I_10, if_false, H.rc, hp, I_sub, hb2, Bool.and_false, Bool.false_eq_true, bit_F', if_true]
    | true => simp (disch := first | omega | assumption) only [f_X3_isPlace, lit_I, betZ, hb, Option.bind_some, bit_T, I_10, if_false, H.rc, hp, I_sub, hb2, Bool.and_true, bit_0, not_true_eq_false]
theorem gb_le {k : Nat} (h : k ≤ 1) : gb (I k) = some () := by unfold gb; rw [if_pos (b01_I h)]
theorem cp_isClue {kind i : Nat} (H : PgR h p mm ms s) (hQ : QInv s) (hk : kind ≤ 1) (hi : i < clAll s kind) : f_X3_isClue (some p) (I kind) (I i) h = some (I (s (place kind i)), h) := by
  have : kind = 0 ∨ kind = 1 := by omega
  rcases this with rfl | rfl
  · have hi2 : i < nc s := hi
    have := (hQ.2.2.1 i hi2).2.2.1
    simp only [f_X3_isClue, lit_I, if_true, H.r4, H.g hi2, Option.bind_some, gb_le this]; rfl
  · have hi2 : i < s 0 + s 1 := hi
    have := hQ.2.2.2.2 i hi2
    simp only [f_X3_isClue, lit_I, I_10, if_false, H.r5, H.sh hi2, Option.bind_some, gb_le this]; rfl
theorem cp_clues {kind : Nat} (H : PgR h p mm ms s) (hQ : QInv s) (hk : kind ≤ 1) : f_X3_clues (some p) (I kind) h = some (I (if kind = 0 then ngiv s else nshw s), h) := by
  have hc := clAll_le hQ.1 kind
  have e : (if kind = 0 then ngiv s else nshw s) = sumTo (fun i => s (place kind i)) (clAll s kind) := by
    have : kind = 0 ∨ kind = 1 := by omega
    rcases this with rfl | rfl <;> rfl
  rw [e]
  unfold f_X3_clues
  refine loop_FU (fun k (q : Nat × Nat) => f_X3_clues_L4 k (some p) (I kind) (I q.1) (I q.2) h) (fun k => (sumTo (fun i => s (place kind i)) k, k)) (clAll s kind) _ (by omega) (fun k j hj => ?_) (fun k => ?_)
  · have hic := cp_isClue H hQ hk hj
    have h1 : s (place kind j) = 0 ∨ s (place kind j) = 1 := by
      have hh : kind = 0 ∨ kind = 1 := by omega
      rcases hh with rfl | rfl
      · have := (hQ.2.2.1 j hj).2.2.1; show s (58 + j) = 0 ∨ s (58 + j) = 1; omega
      · have := hQ.2.2.2.2 j hj; show s (83 + j) = 0 ∨ s (83 + j) = 1; omega
    rcases h1 with h1 | h1
    · rw [h1] at hic
      simp (disch := first | omega | assumption) only [f_X3_clues_L4, H.rc, cp_places H hk, Option.bind_some, I_le, if_neg, hic, lit_I, if_true, I_add, sumTo, h1]
    · rw [h1] at hic
      simp (disch := first | omega | assumption) only [f_X3_clues_L4, H.rc, cp_places H hk, Option.bind_some, I_le, if_neg, hic, lit_I, I_10, if_false, I_add, sumTo, h1]
  · simp (disch := first | omega | assumption) only [f_X3_clues_L4, H.rc, cp_places H hk, Option.bind_some, I_le, if_pos]
theorem cp_canBe {kind i : Nat} (H : PgR h p mm ms s) (hQ : QInv s) (hs : SB s) (hk : kind ≤ 1) (hi : i < clAll s kind) : f_X3_canBeClue (some p) (I kind) (I i) h = some (I (bit ((if kind = 0 then !(s (33 + i) == 0) else canS s i) = true)), h) := by
  have : kind = 0 ∨ kind = 1 := by omega
  rcases this with rfl | rfl
  · have hi2 : i < nc s := hi
    have h1 := hs (33 + i)
    by_cases q : s (33 + i) = 0
    · have e : (if (0 : Nat) = 0 then !(s (33 + i) == 0) else canS s i) = false := by simp [q]
      rw [e]
      simp (disch := first | omega | assumption) only [f_X3_canBeClue, lit_I, if_true, H.r3, H.n hi2, q, Option.bind_some, I_le, if_pos, Bool.false_eq_true, bit_F']
    · have e : (if (0 : Nat) = 0 then !(s (33 + i) == 0) else canS s i) = true := by simp [q]
      rw [e]
      simp (disch := first | omega | assumption) only [f_X3_canBeClue, lit_I, if_true, H.r3, H.n hi2, Option.bind_some, I_le, if_neg, bit_T]
  · have hi2 : i < s 0 + s 1 := hi
    have e : (if (1 : Nat) = 0 then !(s (33 + i) == 0) else canS s i) = canS s i := if_neg (by decide)
    rw [e]
    simp only [f_X3_canBeClue, lit_I, I_10, if_false, H.rc, cp_isTold H hQ.1 hs hi2, Option.bind_some, gb_bit]
end RD99
section OP99
variable {m x : Nat} {h : PH} {g : GS}
/-- in the midst: what is read -/
theorem Mid.rd {m x n0 : Nat} {h : PH} {st sh sl p b co mm : Nat} {ms : Nat → Nat} {f : F4} {fc fw : Nat → Int32} {fs : Nat → Option Nat} {s : Nat → Nat} {L : List (Nat → Nat)} {n : Nat} {tx : Nat → Nat} (M : Mid m x n0 h st sh sl p b co mm ms f fc fw fs s L n tx) : rcv 0 (some x) h = some () ∧ gfr 0 0 (some x) h = some (some st) ∧ gfr 1 0 (some st) h = some (some sh) ∧ gfr 1 1 (some st) h = some (some sl) ∧ rcv 2 (some sh) h = some () ∧ gfr 2 0 (some sh) h = some (some p) ∧ gfr 2 1 (some sh) h = some (some b) ∧ gfi 2 2 (some sh) h = some (I (s 2)) ∧ gfr 2 3 (some sh) h = some (some co) := by
  obtain ⟨⟨d, da, u, ua, v, ra, ru, la, C⟩, ⟨⟨x1, x2, x3, x4, x5, x6⟩, -⟩, -⟩ := M
  have hx : h.1 x = some (eso st d u v) := C.1
  exact ⟨rcv_at hx, gfr_at (x := some st) hx rfl, gfr_at (x := some sh) x1 rfl, gfr_at (x := some sl) x1 rfl, rcv_at x3, gfr_at (x := some p) x3 rfl, gfr_at (x := some b) x3 rfl, gfi_at x3 rfl, gfr_at (x := some co) x3 rfl⟩
theorem c_exchange {y z : Int32} (C : CI m h x g) (hI : RInv g.1) (hS : SB g.1) : Res m x h (o_exchange g y z) (f_X0_exchange (some x) y z h) := by
  have hQ := hI.1.1
  have hN := hI.1.2.1
  have hP := hQ.1
  have hnc := nc_le hP
  obtain ⟨st, sh, p, b, co, mm, ms, d, u, v, r0, r1, -, -, -, r5, r6, r7, r8, r9, r10, ⟨HB, HL⟩, -, -⟩ := C.look hP
  have H := HB.1
  have hpage : f_X0_page (some x) h = some (some p, h) := by simp only [f_X0_page, r1, r5, r6, Option.bind_some]
  have hic := cp_isCell (x := y) H hP
  have hic2 := cp_isCell (x := z) H hP
  unfold o_exchange
  cases h1 : bt y 0 (nc g.1 - 1) with
  | false =>
    rw [h1] at hic
    refine Res.same C ?_ rfl
    simp only [Bool.false_and, Bool.false_eq_true, if_false]
    simp (disch := first | omega | assumption) only [f_X0_exchange, r0, hpage, H.rc, hic, Option.bind_some, lit_I, Bool.false_eq_true, bit_F', if_true]
  | true =>
    rw [h1] at hic
    obtain ⟨e1, -, e3⟩ := bt_na (by decide) (by omega) h1
    have hc : na y < nc g.1 := by omega
    generalize na y = c at *
    subst e1
    cases h2 : bt z 0 (nc g.1 - 1) with
    | false =>
      rw [h2] at hic2
      refine Res.same C ?_ rfl
      simp only [Bool.and_false, Bool.false_and, Bool.false_eq_true, if_false]
      simp (disch := first | omega | assumption) only [f_X0_exchange, r0, hpage, H.rc, hic, hic2, Option.bind_some, lit_I, bit_T, I_10, if_false, Bool.false_eq_true, bit_F', if_true]
    | true =>
      rw [h2] at hic2
      obtain ⟨e4, -, e5⟩ := bt_na (by decide) (by omega) h2
      have hd : na z < nc g.1 := by omega
      generalize na z = d at *
      subst e4
      by_cases hcd : c = d
      · subst hcd
        refine Res.same C ?_ (by simp)
        simp only [beq_self_eq_true, Bool.not_true, Bool.and_false, Bool.false_eq_true, if_false]
        simp (disch := first | omega | assumption) only [f_X0_exchange, r0, hpage, H.rc, hic, hic2, Option.bind_some, lit_I, bit_T, I_10, if_false, if_true]
      · have hcdb : (c == d) = false := beq_false_of_ne hcd
        have s1 := hS (8 + c)
        have s2 := hS (8 + d)
        have s3 := hS (33 + c)
        have s4 := hS (33 + d)
        by_cases q1 : g.1 (8 + c) = g.1 (8 + d)
        · by_cases q2 : g.1 (33 + c) = 0
          · have hno : ¬ (g.1 (8 + c) = g.1 (8 + d) ∧ g.1 (33 + c) ≠ 0 ∧ g.1 (33 + d) ≠ 0) := fun z => z.2.1 q2
            refine Res.same C ?_ (by simp only [hcdb, Bool.not_false, Bool.and_true, Bool.and_self, if_true]; rw [if_neg hno])
            simp only [hcdb, Bool.not_false, Bool.and_true, Bool.and_self, if_true]
            rw [if_neg hno]
            simp (disch := first | omega | assumption) only [f_X0_exchange, r0, hpage, H.rc, hic, hic2, Option.bind_some, lit_I, bit_T, I_10, I_eq, if_false, if_neg, H.r2, H.b hc, H.b hd, q1, H.r3, H.n hc, q2, if_true]
          · by_cases q3 : g.1 (33 + d) = 0
            · have hno : ¬ (g.1 (8 + c) = g.1 (8 + d) ∧ g.1 (33 + c) ≠ 0 ∧ g.1 (33 + d) ≠ 0) := fun z => z.2.2 q3
              refine Res.same C ?_ (by simp only [hcdb, Bool.not_false, Bool.and_true, Bool.and_self, if_true]; rw [if_neg hno])
              simp only [hcdb, Bool.not_false, Bool.and_true, Bool.and_self, if_true]
              rw [if_neg hno]
              simp (disch := first | omega | assumption) only [f_X0_exchange, r0, hpage, H.rc, hic, hic2, Option.bind_some, lit_I, bit_T, I_10, I_eq, if_false, if_neg, H.r2, H.b hc, H.b hd, q1, H.r3, H.n hc, H.n hd, q3, if_true]
            · simp only [hcdb, Bool.not_false, Bool.and_true, Bool.and_self, if_true]
              rw [if_pos ⟨q1, q2, q3⟩]
              have b6 := (hQ.2.2.1 c hc)
              have b7 := (hQ.2.2.1 d hd)
              obtain ⟨h1, mm1, ms1, f1, fc1, fw1, fs1, a1, a2, a3, a4, a5, a6⟩ := ca_begin C hI.1
              obtain ⟨h2, f2, b1, b2, b3, b4, b5⟩ := a2.write hP hc (k := g.1 (33 + d)) (by omega)
              have eW : sWr g.1 c (g.1 (33 + d)) = nup g.1 (33 + c) (g.1 (33 + d)) := by unfold sWr; rw [if_neg q3]
              rw [eW] at b2
              have hP2 : PG' (nup g.1 (33 + c) (g.1 (33 + d))) := by unfold PG'; rw [nup_ne (by omega), nup_ne (by omega)]; exact hP
              have hnc2 : nc (nup g.1 (33 + c) (g.1 (33 + d))) = nc g.1 := nc_of (nup_ne (by omega)) (nup_ne (by omega))
              obtain ⟨h3, f3, c1, c2, c3, c4, c5⟩ := b2.write hP2 (c := d) (by rw [hnc2]; exact hd) (k := g.1 (33 + c)) (by omega)
              have eW2 : sWr (nup g.1 (33 + c) (g.1 (33 + d))) d (g.1 (33 + c)) = nup (nup g.1 (33 + c) (g.1 (33 + d))) (33 + d) (g.1 (33 + c)) := by unfold sWr; rw [if_neg q2]
              rw [eW2] at c2
              have hQ2 := QInv_xch hQ hc hd hcd q1 q2 q3
              have hN2 : Nrm (nup (nup g.1 (33 + c) (g.1 (33 + d))) (33 + d) (g.1 (33 + c))) := Nrm_Eq8 (by rw [nup_ne (by omega), nup_ne (by omega)]) (by rw [nup_ne (by omega), nup_ne (by omega)]) (fun e he => by rw [nup_ne (by omega), nup_ne (by omega)]) hN
              obtain ⟨h4, d1, d2, d3, d4, d5⟩ := c2.reset hQ2 hN2
              have KK : Keep h h2 := Keep_old a4 b3
              refine ⟨h4, ?_, d2.fin (Mid.reset_w hQ2.1), Keep_old a4 (Old.tr2 b3 (Old.tr2 c3 d3)), by omega, by omega⟩
              obtain ⟨-, -, -, -, m5, m6, -⟩ := a2.rd
              obtain ⟨-, -, -, -, -, m7, -⟩ := b2.rd
              obtain ⟨-, -, -, -, m8, -⟩ := c2.rd
              obtain ⟨-, -, -, -, -, m9, -⟩ := d2.rd
              have H1 := (HL h1 (Las.keep a4)).1
              have H2 := (HL h2 (Las.keep KK)).1
              have P1 := (a2.pg hP).1
              have P2 := (b2.pg hP2).1
              have hPr : PG' (sReset (nup (nup g.1 (33 + c) (g.1 (33 + d))) (33 + d) (g.1 (33 + c)))) := by unfold PG'; rw [sReset_lo (Or.inl (by decide)), sReset_lo (Or.inl (by decide))]; exact hQ2.1
              have P4 := (d2.pg hPr).1
              have n4 := P4.n (c := c) (by rw [nc_sReset, nc_of (t := nup (nup g.1 (33 + c) (g.1 (33 + d))) (33 + d) (g.1 (33 + c))) (s := g.1) (by rw [nup_ne (by omega), nup_ne (by omega)]) (by rw [nup_ne (by omega), nup_ne (by omega)])]; exact hc)
              rw [sReset_lo (Or.inl (by omega)), nup_ne (by omega), nup_eq] at n4
              simp (disch := first | omega | assumption) only [f_X0_exchange, r0, hpage, H.rc, hic, hic2, Option.bind_some, lit_I, bit_T, I_10, I_eq, if_false, if_neg, H.r2, H.b hc, H.b hd, q1, H.r3, H.n hc, H.n hd, if_true, a1, m6, H1.r3, H1.n hd, P1.rc, b1, m7, H2.r3, H2.n hc, P2.rc, c1, m8, d1, m9, P4.r3, n4]
              rfl
        · have hno : ¬ (g.1 (8 + c) = g.1 (8 + d) ∧ g.1 (33 + c) ≠ 0 ∧ g.1 (33 + d) ≠ 0) := fun z => q1 z.1
          refine Res.same C ?_ (by simp only [hcdb, Bool.not_false, Bool.and_true, Bool.and_self, if_true]; rw [if_neg hno])
          simp only [hcdb, Bool.not_false, Bool.and_true, Bool.and_self, if_true]
          rw [if_neg hno]
          simp (disch := first | omega | assumption) only [f_X0_exchange, r0, hpage, H.rc, hic, hic2, Option.bind_some, lit_I, bit_T, I_10, I_eq, if_false, if_neg, H.r2, H.b hc, H.b hd, if_neg, if_true]
end OP99
