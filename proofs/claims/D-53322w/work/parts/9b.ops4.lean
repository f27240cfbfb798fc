/-! PLAIN LAW: the class: fill, allow, costs -/
set_option maxRecDepth 100000
theorem taken_own {s : Nat → Nat} (hQ : QInv s) {c : Nat} (hc : c < nc s) (h0 : s (33 + c) ≠ 0) : taken s c (s (33 + c)) = false := by
  refine Bool.eq_false_iff.mpr (fun z => ?_)
  unfold taken at z
  rw [anyB_iff] at z
  obtain ⟨d, hd, hp⟩ := z
  simp only [Bool.and_eq_true, Bool.not_eq_true', beq_eq_false_iff_ne, beq_iff_eq] at hp
  exact h0 (hQ.2.2.2.1 c d hc hd (fun e => hp.1 e.symm) hp.2.1.symm hp.2.2.symm)
theorem flTo_Nrm {s : Nat → Nat} (hN : Nrm s) (hP : PG' s) : ∀ n, n ≤ nc s → Nrm (flTo s n) := by
  have hnc := nc_le hP
  intro n hn
  exact Nrm_Eq8 (flTo_ne n (by omega) (by omega)) (flTo_ne n (by omega) (by omega)) (fun c hc => flTo_ne n (by omega) (by omega)) hN
section OP9b
variable {m x : Nat} {h : PH} {g : GS}
theorem cf_L60 {r28 : Int32 → Option Nat → Option Nat → Int32 → PH → Option (Int32 × PH)} {x1 : Int32} {sh p mm : Nat} {ms s : Nat → Nat} {c : Nat} (H : PgR h p mm ms s) (hQ : QInv s) (hN : Nrm s) (hS : SB s) (hc : c < nc s) : f_X0_fill_L60 r28 FU x1 (some sh) (some p) (I c) (if s (33 + c) = 0 then I 1 else I (s (33 + c))) h = (f_X3_write (some p) (I c) (I (if s (33 + c) = 0 then lowF s c else s (33 + c))) h).bind (fun h4 => r28 x1 (some sh) (some p) (I (c + 1)) h4) := by
  have hnc := nc_le hQ.1
  have h6 := (hQ.2.2.1 c hc)
  by_cases q : s (33 + c) = 0
  · rw [if_pos q, if_pos q]
    obtain ⟨l1, l2, l3⟩ := lowF_spec hQ hc q
    have key : ∀ (d i k : Nat), i + d + 1 = lowF s c → d < k → f_X0_fill_L60 r28 k x1 (some sh) (some p) (I c) (I (i + 1)) h = (f_X3_write (some p) (I c) (I (lowF s c)) h).bind (fun h4 => r28 x1 (some sh) (some p) (I (c + 1)) h4) := by
      intro d
      induction d with
      | zero =>
        intro i k hi hk
        obtain ⟨k, rfl⟩ : ∃ k', k = k' + 1 := ⟨k - 1, by omega⟩
        have e : i + 1 = lowF s c := by omega
        rw [e]
        have hel := cp_hasElse (n := lowF s c) H hQ.1 hN hS hc (by omega)
        rw [l2] at hel
        simp (disch := first | omega | assumption) only [f_X0_fill_L60, H.rc, hel, Option.bind_some, lit_I, Bool.false_eq_true, bit_F', if_true, I_add]
      | succ d ih =>
        intro i k hi hk
        obtain ⟨k, rfl⟩ : ∃ k', k = k' + 1 := ⟨k - 1, by omega⟩
        have hel := cp_hasElse (n := i + 1) H hQ.1 hN hS hc (by omega)
        rw [l3 i (by omega)] at hel
        rw [← ih (i + 1) k (by omega) (by omega)]
        simp (disch := first | omega | assumption) only [f_X0_fill_L60, H.rc, hel, Option.bind_some, lit_I, bit_T, I_10, if_false, I_add]
    exact key (lowF s c - 1) 0 FU (by unfold lowF; omega) (by rw [FU_eq]; omega)
  · rw [if_neg q, if_neg q]
    have ht := taken_own hQ hc q
    have hel := cp_hasElse (n := s (33 + c)) H hQ.1 hN hS hc (by omega)
    rw [ht] at hel
    obtain ⟨f0, hF⟩ : ∃ f, FU = f + 1 := ⟨999999, FU_eq⟩
    rw [hF]
    simp (disch := first | omega | assumption) only [f_X0_fill_L60, H.rc, hel, Option.bind_some, lit_I, Bool.false_eq_true, bit_F', if_true, I_add]
theorem cf_L28 {n0 st sh sl p b co mm : Nat} {ms : Nat → Nat} {fc fw : Nat → Int32} {fs : Nat → Option Nat} {s : Nat → Nat} {L : List (Nat → Nat)} {n : Nat} {tx : Nat → Nat} {x1 : Int32} (hQ : QInv s) (hN : Nrm s) (hS : SB s) : ∀ (d c k : Nat) (h : PH) (f : F4), c + d = nc s → d < k → Mid m x n0 h st sh sl p b co mm ms f fc fw fs (flTo s c) L n tx →
    ∃ h' f', f_X0_fill_L28 k x1 (some sh) (some p) (I c) h = (f_X2_reset (some sh) h').bind (fun h4 => some (x1, h4)) ∧ Mid m x n0 h' st sh sl p b co mm ms f' fc fw fs (flTo s (nc s)) L n tx ∧ Old (tr n0 h) h' ∧ hn h' = hn h ∧ hs h' = hs h := by
  have hnc := nc_le hQ.1
  intro d
  induction d with
  | zero =>
    intro c k h f hc hk M
    obtain ⟨k, rfl⟩ : ∃ k', k = k' + 1 := ⟨k - 1, by omega⟩
    have : c = nc s := by omega
    subst this
    obtain ⟨Q1, Q2, Q3⟩ := flTo_Q hQ (nc s) (Nat.le_refl _)
    have P1 := (M.pg Q1.1).1
    obtain ⟨-, -, -, -, m5, -⟩ := M.rd
    refine ⟨h, f, ?_, M, ⟨M.2.2.2.2.2.2.2, rfl, fun _ _ => rfl⟩, rfl, rfl⟩
    have hcl := cp_cells P1
    rw [Q2] at hcl
    simp (disch := first | omega | assumption) only [f_X0_fill_L28, P1.rc, hcl, Option.bind_some, I_le, if_pos, m5]
  | succ d ih =>
    intro c k h f hc hk M
    obtain ⟨k, rfl⟩ : ∃ k', k = k' + 1 := ⟨k - 1, by omega⟩
    obtain ⟨Q1, Q2, Q3⟩ := flTo_Q hQ c (by omega)
    have P1 := (M.pg Q1.1).1
    have hS1 := Q3 hS
    have hN1 := flTo_Nrm hN hQ.1 c (by omega)
    have hcc : c < nc (flTo s c) := by omega
    have h33 := hS1 (33 + c)
    have hcl := cp_cells P1
    rw [Q2] at hcl
    have h60 := cf_L60 (r28 := f_X0_fill_L28 k) (x1 := x1) (sh := sh) P1 Q1 hN1 hS1 hcc
    have hbz := Q1.2.2.1 c hcc
    have hk6 : (if flTo s c (33 + c) = 0 then lowF (flTo s c) c else flTo s c (33 + c)) < 1000000 := by
      split
      · rename_i h0
        have := (lowF_spec Q1 hcc h0).1; omega
      · omega
    obtain ⟨h2, f2, b1, b2, b3, b4, b5⟩ := M.write Q1.1 hcc hk6
    have eW : sWr (flTo s c) c (if flTo s c (33 + c) = 0 then lowF (flTo s c) c else flTo s c (33 + c)) = flTo s (c + 1) := by
      unfold sWr
      simp only [flTo]
      by_cases q : flTo s c (33 + c) = 0
      · rw [if_pos q, if_pos q, if_neg (by unfold lowF; omega)]
      · rw [if_neg q, if_neg q, if_neg q]
        funext j
        by_cases e : j = 33 + c
        · subst e; rw [nup_eq]
        · rw [nup_ne e]
    rw [eW] at b2
    obtain ⟨h', f', c1, c2, c3, c4, c5⟩ := ih (c + 1) k h2 f2 (by omega) (by omega) b2
    refine ⟨h', f', ?_, c2, Old.tr2 b3 c3, by omega, by omega⟩
    rw [← c1]
    rw [b1] at h60
    by_cases q : flTo s c (33 + c) = 0
    · rw [if_pos q] at h60
      simp (disch := first | omega | assumption) only [f_X0_fill_L28, P1.rc, hcl, Option.bind_some, I_le, if_neg, P1.r3, P1.n hcc, q, lit_I, if_true, h60]
    · rw [if_neg q] at h60
      simp (disch := first | omega | assumption) only [f_X0_fill_L28, P1.rc, hcl, Option.bind_some, I_le, I_eq, if_neg, P1.r3, P1.n hcc, lit_I, h60]
theorem c_fill (C : CI m h x g) (hI : RInv g.1) (hS : SB g.1) : Res m x h (o_fill g) (f_X0_fill (some x) h) := by
  have hQ := hI.1.1
  have hN := hI.1.2.1
  have hP := hQ.1
  have hnc := nc_le hP
  obtain ⟨st, sh, p, b, co, mm, ms, d, u, v, r0, r1, -, -, -, r5, r6, r7, r8, r9, r10, ⟨HB, HL⟩, -, -⟩ := C.look hP
  have H := HB.1
  have hpage : f_X0_page (some x) h = some (some p, h) := by simp only [f_X0_page, r1, r5, r6, Option.bind_some]
  have hu := cp_untold H hP hS
  have hle : nemp g.1 ≤ 25 := by
    have hone : ∀ n, sumTo (fun _ => 1) n = n := fun n => by induction n with | zero => rfl | succ n ih => simp [sumTo, ih]
    have : nemp g.1 ≤ sumTo (fun _ => 1) (nc g.1) := sumTo_le (fun c hc => by split <;> omega)
    rw [hone] at this; omega
  unfold o_fill
  by_cases q : nemp g.1 = 0
  · rw [if_pos q]
    refine Res.same C ?_ rfl
    simp (disch := first | omega | assumption) only [f_X0_fill, r0, hpage, H.rc, hu, Option.bind_some, lit_I, q, if_true]
  · rw [if_neg q]
    obtain ⟨h1, mm1, ms1, f1, fc1, fw1, fs1, a1, a2, a3, a4, a5, a6⟩ := ca_begin C hI.1
    obtain ⟨h2, f2, b1, b2, b3, b4, b5⟩ := cf_L28 (x1 := I (nemp g.1)) hQ hN hS (nc g.1) 0 FU h1 f1 (by omega) (by rw [FU_eq]; omega) a2
    obtain ⟨Q1, Q2, Q3⟩ := flTo_Q hQ (nc g.1) (Nat.le_refl _)
    have hN1 := flTo_Nrm hN hQ.1 (nc g.1) (Nat.le_refl _)
    obtain ⟨h3, c1, c2, c3, c4, c5⟩ := b2.reset Q1 hN1
    refine ⟨h3, ?_, c2.fin (Mid.reset_w Q1.1), Keep_old a4 (Old.tr2 b3 c3), by omega, by omega⟩
    obtain ⟨-, -, -, -, m5, m6, -⟩ := a2.rd
    rw [c1] at b1
    simp (disch := first | omega | assumption) only [f_X0_fill, r0, hpage, H.rc, hu, Option.bind_some, lit_I, I_eq, if_neg, a1, m6, b1]
    rfl
end OP9b
