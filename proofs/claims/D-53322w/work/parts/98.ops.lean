/-! PLAIN LAW: the class: calls that write -/
set_option maxRecDepth 100000
/-- the object as it is read -/
theorem CI.look {m x : Nat} {h : PH} {g : GS} (C : CI m h x g) (hP : PG' g.1) : ∃ st sh p b co mm ms d u v, rcv 0 (some x) h = some () ∧ gfr 0 0 (some x) h = some (some st) ∧ gfr 0 1 (some x) h = some (some d) ∧ gfr 0 2 (some x) h = some (some u) ∧ gfr 0 3 (some x) h = some (some v) ∧ gfr 1 0 (some st) h = some (some sh) ∧ gfr 2 0 (some sh) h = some (some p) ∧ gfr 2 1 (some sh) h = some (some b) ∧ gfi 2 2 (some sh) h = some (I (g.1 2)) ∧ gfr 2 3 (some sh) h = some (some co) ∧ rcv 2 (some sh) h = some () ∧ (PgB h p mm ms g.1 ∧ ∀ h', Las m h h' → PgB h' p mm ms g.1) ∧ BdR h b p g.1 (bd g.1) ∧ (∀ r, r < 5 → ald 0 (some co) (I r) h = some (I (g.1 (3 + r)))) := by
  obtain ⟨st, d, da, u, ua, v, ra, ru, la, CM0, sh, sl, fs, t1, t2, ⟨p, b, co, mm, ms, f, al, fc, fw, S⟩, -⟩ := C
  have hnc := nc_le hP
  have hx := CM0.1
  obtain ⟨⟨a1, a2⟩, X, W, M, ⟨B, b3⟩, ⟨c1, c2⟩, l⟩ := id S
  subst a2
  have hpg : ∀ h' : PH, Las m h h' → PgB h' p mm ms g.1 := fun h' LS => by
    obtain ⟨-, X, W, M, -, -, l1, l2, l3, l4, l5, l6, l7⟩ := S.las LS
    exact PgW_R X W M hP ⟨(l2 _ (by omega) (Nat.le_refl _)).1, l6.1, fun k hk => (l7 k hk).1⟩
  refine ⟨st, sh, p, b, co, mm, ms, d, u, v, rcv_at hx, gfr_at (x := some st) hx rfl, gfr_at (x := some d) hx rfl, gfr_at (x := some u) hx rfl, gfr_at (x := some v) hx rfl, gfr_at (x := some sh) t1 rfl, gfr_at (x := some p) a1 rfl, gfr_at (x := some b) a1 rfl, gfi_at a1 rfl, gfr_at (x := some co) a1 rfl, rcv_at a1, ⟨hpg h (Las.refl m h), hpg⟩, B.R hnc.2 b3, fun r hr => by rw [ald_at c1 hr (by decide), c2 r hr]⟩
/-- how a call of the class ends -/
def Res (m x : Nat) (h : PH) (r : Int32 × GS) (o : Option (Int32 × PH)) : Prop := ∃ h', o = some (r.1, h') ∧ CI m h' x r.2 ∧ Keep h h' ∧ hn h' ≤ hn h + 49000 ∧ hs h' ≤ hs h + 228000
theorem Res.same {m x : Nat} {h : PH} {r : Int32 × GS} {o : Option (Int32 × PH)} {g : GS} (C : CI m h x g) (e : o = some (r.1, h)) (hr : r.2 = g) : Res m x h r o := ⟨h, e, by rw [hr]; exact C, Keep.refl h, by omega, by omega⟩
theorem sWr_lo {s : Nat → Nat} {c k j : Nat} (h : j < 33) : sWr s c k j = s j := by
  unfold sWr
  rw [nup_ne (by omega)]
  split
  · exact sEmp_low h
  · rfl
theorem bt_01 {y : Int32} {B : Nat} (hB : B < 2147483648) : bt y 0 B = (decide (y = I 0) || bt y 1 B) := by
  refine Bool.eq_iff_iff.mpr ?_
  rw [Bool.or_eq_true, decide_eq_true_eq]
  constructor
  · intro h
    obtain ⟨e, h1, h2⟩ := bt_na (by decide) hB h
    by_cases q : na y = 0
    · left; rw [e, q]
    · right; rw [e, bt_I (by omega) (by decide) hB]; simp; omega
  · rintro (h | h)
    · rw [h, bt_I (by decide) (by decide) hB]; simp
    · obtain ⟨e, h1, h2⟩ := bt_na (by decide) hB h
      rw [e, bt_I (by omega) (by decide) hB]; simp; omega
theorem Old.tr2 {n : Nat} {h1 h2 h3 : PH} (O1 : Old (tr n h1) h2) (O2 : Old (tr n h2) h3) : Old (tr n h1) h3 :=
  ⟨O2.1, O2.2.1.trans O1.2.1, fun a ha => (O2.2.2 a ha).trans (O1.2.2 a ha)⟩
section OP98
variable {m x : Nat} {h : PH} {g : GS}
theorem c_write {y z : Int32} (C : CI m h x g) (hI : RInv g.1) (hS : SB g.1) : Res m x h (o_write g y z) (f_X0_write (some x) y z h) := by
  have hQ := hI.1.1
  have hN := hI.1.2.1
  have hP := hQ.1
  have hnc := nc_le hP
  obtain ⟨st, sh, p, b, co, mm, ms, d, u, v, r0, r1, -, -, -, r5, r6, r7, r8, r9, r10, ⟨HB, HL⟩, -, -⟩ := C.look hP
  have H := HB.1
  have hpage : f_X0_page (some x) h = some (some p, h) := by simp only [f_X0_page, r1, r5, r6, Option.bind_some]
  have hic := cp_isCell (x := y) H hP
  unfold o_write
  cases h1 : bt y 0 (nc g.1 - 1) with
  | false =>
    rw [h1] at hic
    refine Res.same C ?_ rfl
    simp only [Bool.false_and, Bool.false_eq_true, if_false]
    simp (disch := first | omega | assumption) only [f_X0_write, r0, hpage, H.rc, hic, Option.bind_some, lit_I, Bool.false_eq_true, bit_F', if_true]
  | true =>
    rw [h1] at hic
    obtain ⟨e1, -, e3⟩ := bt_na (by decide) (by omega) h1
    have hc : na y < nc g.1 := by omega
    generalize na y = c at *
    subst e1
    have hbz := hQ.2.2.1 c hc
    have hin := cp_isNumber (y := z) H hN hc
    have hb01 := bt_01 (y := z) (B := bsz g.1 (g.1 (8 + c))) (by omega)
    -- the writing itself
    have key : ∀ k, k ≤ bsz g.1 (g.1 (8 + c)) → (k ≠ 0 → taken g.1 c k = false) → Res m x h (chg g (I (g.1 (33 + c))) (sReset (sWr g.1 c k))) (f_X0_write_B48 (some x) (I c) (I k) h) := by
      intro k hk ht
      obtain ⟨h1, mm1, ms1, f1, fc1, fw1, fs1, a1, a2, a3, a4, a5, a6⟩ := ca_begin C hI.1
      obtain ⟨h2, f2, b1, b2, b3, b4, b5⟩ := a2.write hP hc (k := k) (by omega)
      have hQ2 := QInv_sWr hQ hc hk ht
      have hN2 : Nrm (sWr g.1 c k) := Nrm_Eq8 (sWr_lo (by decide)) (sWr_lo (by decide)) (fun d hd => sWr_lo (by omega)) hN
      obtain ⟨h3, c1, c2, c3, c4, c5⟩ := b2.reset hQ2 hN2
      refine ⟨h3, ?_, c2.fin (Mid.reset_w hQ2.1), Keep_old a4 (Old.tr2 b3 c3), by omega, by omega⟩
      have q1 : gfr 2 0 (some (hn h + 1)) h1 = some (some (hn h + 2)) := gfr_at (x := some (hn h + 2)) a2.2.1.1.2.2.1 rfl
      have q2 : rcv 3 (some (hn h + 2)) h1 = some () := (a2.pg hP).1.rc
      have q3 : rcv 2 (some (hn h + 1)) h2 = some () := rcv_at b2.2.1.1.2.2.1
      simp only [f_X0_write_B48, r0, hpage, H.r3, H.n hc, a1, q1, q2, b1, q3, c1, Option.bind_some]
      rfl
    cases h2 : bt z 0 (bsz g.1 (g.1 (8 + c))) with
    | false =>
      rw [h2] at hb01
      have h3 : decide (z = I 0) = false ∧ bt z 1 (bsz g.1 (g.1 (8 + c))) = false := by simpa using hb01.symm
      have h4 : ¬ z = I 0 := of_decide_eq_false h3.1
      rw [h3.2] at hin
      refine Res.same C ?_ rfl
      simp only [Bool.and_false, Bool.false_eq_true, if_false]
      simp (disch := first | omega | assumption) only [f_X0_write, r0, hpage, H.rc, hic, Option.bind_some, lit_I, bit_T, I_10, if_false, h4, hin, Bool.false_eq_true, bit_F', if_true]
    | true =>
      obtain ⟨e4, -, e5⟩ := bt_na (by decide) (by omega) h2
      generalize na z = k at *
      subst e4
      have hel := cp_hasElse (n := k) H hP hN hS hc (by omega)
      by_cases hk0 : k = 0
      · subst hk0
        have := key 0 (by omega) (fun h => absurd rfl h)
        simpa [f_X0_write, f_X0_write_B29, r0, hpage, H.rc, hic, bit, lit_I, I_10] using this
      · have h4 : ¬ I k = I 0 := by rw [I_eq (by omega) (by decide)]; exact hk0
        have h5 : bt (I k) 1 (bsz g.1 (g.1 (8 + c))) = true := by rw [bt_I (by omega) (by decide) (by omega)]; simp; omega
        rw [h5] at hin
        cases ht : taken g.1 c k with
        | true =>
          rw [ht] at hel
          refine Res.same C ?_ ?_
          · simp only [Bool.and_self, if_true, hk0, ne_eq, not_false_eq_true, true_and]
            simp (disch := first | omega | assumption) only [f_X0_write, f_X0_write_B29, r0, hpage, H.rc, hic, Option.bind_some, lit_I, bit_T, I_10, if_false, h4, hin, hel]
          · simp only [Bool.and_self, if_true, hk0, ne_eq, not_false_eq_true, true_and]
        | false =>
          rw [ht] at hel
          have := key k e5 (fun _ => ht)
          simp only [Bool.and_self, if_true, Bool.false_eq_true, and_false, if_false]
          simp (disch := first | omega | assumption) only [f_X0_write, f_X0_write_B29, r0, hpage, H.rc, hic, Option.bind_some, lit_I, bit_T, I_10, if_false, h4, hin, hel, Bool.false_eq_true, bit_F', if_true]
          exact this
end OP98
