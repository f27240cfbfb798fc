/-! PLAIN LAW: the reference's calls: turned, cells moved -/
set_option maxRecDepth 100000
section TWt
variable {m : Nat} {v : Nat → Int32} {A : Nat → Nat → Nat} {h : PH} {g : GS}
theorem trn_at {R C i j : Nat} (hj : j < R) : trn R C (R * i + j) = C * (R - 1 - j) + i := by
  unfold trn
  rw [Nat.mul_add_mod, Nat.mod_eq_of_lt hj, Nat.mul_add_div (by omega), Nat.div_eq_of_lt hj, Nat.add_zero]
theorem tw_turn (hT : TI v A g) (hI : RInv g.1) : ∃ v' A', f_X13_turn (some m) (TW m v A h) = some ((o_turn g).1, TW m v' A' h) ∧ TI v' A' (o_turn g).2 := by
  have hQ := hI.1.1
  have hn := nc_le hQ.1
  have hp := prm_mir hQ.1
  obtain ⟨v1, A1, a1, a2, -, -⟩ := tw_actT (m := m) (h := h) (TI_v0 (x := I 0) hT)
  have hs := TI_SB hT
  have hA10 : SB (A1 10) := a2.1 10
  have hP' := hQ.1
  have htrn : ∀ c, c < nc g.1 → trn (g.1 0) (g.1 1) c < 25 := fun c hc => by have := prm_lt hp.2 hc; omega
  obtain ⟨b1, b2, b3, b4⟩ := hP'
  have s1 : A1 1 = g.1 := a2.2.1
  have hcm : g.1 1 * g.1 0 = nc g.1 := Nat.mul_comm _ _
  let F := trn (g.1 0) (g.1 1)
  let w1 := brTo g.1 (A1 10) F (nc g.1)
  let w2 := shTo g.1 w1 (ltrn (g.1 0) (g.1 1)) (g.1 1 + g.1 0)
  obtain ⟨A2, A3, A4, e2, e3, e4, t4, -, -⟩ := tw_layT (m := m) (h := h) (w := w2) (R := g.1 1) (C := g.1 0) (f := F) (l := ltrn (g.1 0) (g.1 1)) a2 hQ (shTo_SB hs (brTo_SB hs hA10)) hcm ⟨b3, b4⟩ ⟨b1, b2⟩ hp.2 (fun i hi => by unfold ltrn; simp only at hi ⊢; split <;> omega)
    (fun c hc => by simp only [w2, w1]; rw [shTo_lo (k := 8 + c) (by omega), shTo_lo (k := 33 + c) (by omega)]
                    have h58 : shTo g.1 (brTo g.1 (A1 10) F (nc g.1)) (ltrn (g.1 0) (g.1 1)) (g.1 1 + g.1 0) (58 + c) = brTo g.1 (A1 10) F (nc g.1) (58 + c) := shTo_lo (by omega)
                    rw [h58]; exact brTo_8 (by omega) (by rw [← hcm]; exact hc))
    (fun i hi => shTo_83 hi)
  have k73 := loop_FU (fun k (p : Nat × (Nat → Nat)) => f_X13_turn_L73 k (some m) (I (g.1 1)) (I (g.1 0)) (I p.1) (TW m v1 (aset A1 10 p.2) h)) (fun i => (i, shTo g.1 w1 (ltrn (g.1 0) (g.1 1)) i)) (g.1 1 + g.1 0) (some (I (g.1 1), TW m v1 A4 h)) (by omega) (fun k i hi => ?_) (fun k => ?_)
  · have k25 := loop_FU (fun k (p : Nat × (Nat → Nat)) => f_X13_turn_L25 k (some m) (I (g.1 1)) (I (g.1 0)) (I p.1) (TW m v1 (aset A1 10 p.2) h)) (fun i => (i, brTo g.1 (A1 10) F (g.1 0 * i))) (g.1 1) (f_X13_turn_L73 FU (some m) (I (g.1 1)) (I (g.1 0)) (I 0) (TW m v1 (aset A1 10 w1) h)) (by omega) (fun k i hi => ?_) (fun k => ?_)
    · simp only [Nat.mul_zero, brTo_0, aset_self] at k25
      simp only [shTo_0] at k73
      refine ⟨v1, A4, ?_, t4⟩
      simp (disch := first | omega | assumption) only [tw_rcv, tw_r1, tw_r2, tw_r3, tw_r5, tw_r7, tw_r12, tw_r14, tw_r15, tw_r16, tw_r17, tw_r18, Option.bind_some, lit_I, I_add, I_mul, I_le, I_lt, I_eq, if_neg, if_pos, if_true, if_false, I_10, I_01, bit_T, bit_F, bit_F', bit_0, bit_1, gb_bit, tw_s, tw_rw, tw_cells, tw_blockOf, tw_numberOf, aset_eq, aset_ne, aset_aset, Bool.false_eq_true, not_true_eq_false, not_false_eq_true, f_X13_turn, tw_p0, a1, s1]
      exact k25.trans k73
    · have hle : g.1 0 * (i + 1) ≤ nc g.1 := Nat.mul_le_mul_left _ (show i + 1 ≤ g.1 1 by omega)
      rw [Nat.mul_add, Nat.mul_one] at hle
      have k33 := loop_FU (fun k (p : Nat × (Nat → Nat)) => f_X13_turn_L33 (f_X13_turn_L25 k) k (some m) (I (g.1 1)) (I (g.1 0)) (I i) (I p.1) (TW m v1 (aset A1 10 p.2) h)) (fun j => (j, brTo g.1 (A1 10) F (g.1 0 * i + j))) (g.1 0)
      have k33' := loop_FU (fun k' (p : Nat × (Nat → Nat)) => f_X13_turn_L33 (f_X13_turn_L25 k) k' (some m) (I (g.1 1)) (I (g.1 0)) (I i) (I p.1) (TW m v1 (aset A1 10 p.2) h)) (fun j => (j, brTo g.1 (A1 10) F (g.1 0 * i + j))) (g.1 0) (f_X13_turn_L25 k (some m) (I (g.1 1)) (I (g.1 0)) (I (i + 1)) (TW m v1 (aset A1 10 (brTo g.1 (A1 10) F (g.1 0 * (i + 1)))) h)) (by omega) (fun k' j hj => ?_) (fun k' => ?_)
      · simp (disch := first | omega | assumption) only [tw_rcv, tw_r1, tw_r2, tw_r3, tw_r5, tw_r7, tw_r12, tw_r14, tw_r15, tw_r16, tw_r17, tw_r18, Option.bind_some, lit_I, I_add, I_mul, I_le, I_lt, I_eq, if_neg, if_pos, if_true, if_false, I_10, I_01, bit_T, bit_F, bit_F', bit_0, bit_1, gb_bit, tw_s, tw_rw, tw_cells, tw_blockOf, tw_numberOf, aset_eq, aset_ne, aset_aset, Bool.false_eq_true, not_true_eq_false, not_false_eq_true, f_X13_turn_L25]
        exact k33'
      · have hm := htrn (g.1 0 * i + j) (by omega)
        have e := trn_at (C := g.1 1) (i := i) hj
        have hb := tw_bring (m := m) (v := v1) (h := h) (A := A1) (c := g.1 0 * i + j) (f := trn (g.1 0) (g.1 1) (g.1 0 * i + j)) (g := brTo g.1 (A1 10) F (g.1 0 * i + j)) (by omega) hm
        rw [s1, brTo_up (by omega), e] at hb
        simp (disch := first | omega | assumption) only [tw_rcv, tw_r1, tw_r2, tw_r3, tw_r5, tw_r7, tw_r12, tw_r14, tw_r15, tw_r16, tw_r17, tw_r18, Option.bind_some, lit_I, I_add, I_mul, I_le, I_lt, I_eq, if_neg, if_pos, if_true, if_false, I_10, I_01, bit_T, bit_F, bit_F', bit_0, bit_1, gb_bit, tw_s, tw_rw, tw_cells, tw_blockOf, tw_numberOf, aset_eq, aset_ne, aset_aset, Bool.false_eq_true, not_true_eq_false, not_false_eq_true, f_X13_turn_L33, I_sub, hb, Nat.add_assoc]
      · simp (disch := first | omega | assumption) only [tw_rcv, tw_r1, tw_r2, tw_r3, tw_r5, tw_r7, tw_r12, tw_r14, tw_r15, tw_r16, tw_r17, tw_r18, Option.bind_some, lit_I, I_add, I_mul, I_le, I_lt, I_eq, if_neg, if_pos, if_true, if_false, I_10, I_01, bit_T, bit_F, bit_F', bit_0, bit_1, gb_bit, tw_s, tw_rw, tw_cells, tw_blockOf, tw_numberOf, aset_eq, aset_ne, aset_aset, Bool.false_eq_true, not_true_eq_false, not_false_eq_true, f_X13_turn_L33]
        rw [Nat.mul_add, Nat.mul_one]
    · simp (disch := first | omega | assumption) only [tw_rcv, tw_r1, tw_r2, tw_r3, tw_r5, tw_r7, tw_r12, tw_r14, tw_r15, tw_r16, tw_r17, tw_r18, Option.bind_some, lit_I, I_add, I_mul, I_le, I_lt, I_eq, if_neg, if_pos, if_true, if_false, I_10, I_01, bit_T, bit_F, bit_F', bit_0, bit_1, gb_bit, tw_s, tw_rw, tw_cells, tw_blockOf, tw_numberOf, aset_eq, aset_ne, aset_aset, Bool.false_eq_true, not_true_eq_false, not_false_eq_true, f_X13_turn_L25]
      rfl
  · have e5 : nup (shTo g.1 w1 (ltrn (g.1 0) (g.1 1)) i) (83 + i) (g.1 (83 + ltrn (g.1 0) (g.1 1) i)) = shTo g.1 w1 (ltrn (g.1 0) (g.1 1)) (i + 1) := shTo_up
    by_cases h1 : i < g.1 1
    · have e6 : ltrn (g.1 0) (g.1 1) i = g.1 0 + i := by unfold ltrn; rw [if_pos h1]
      rw [e6] at e5
      simp (disch := first | omega | assumption) only [tw_rcv, tw_r1, tw_r2, tw_r3, tw_r5, tw_r7, tw_r12, tw_r14, tw_r15, tw_r16, tw_r17, tw_r18, Option.bind_some, lit_I, I_add, I_mul, I_le, I_lt, I_eq, if_neg, if_pos, if_true, if_false, I_10, I_01, bit_T, bit_F, bit_F', bit_0, bit_1, gb_bit, tw_s, tw_rw, tw_cells, tw_blockOf, tw_numberOf, aset_eq, aset_ne, aset_aset, Bool.false_eq_true, not_true_eq_false, not_false_eq_true, f_X13_turn_L73, f_X13_turn_B112, s1, tw_w10, e5]
    · have e6 : ltrn (g.1 0) (g.1 1) i = g.1 0 - 1 - (i - g.1 1) := by unfold ltrn; rw [if_neg h1]
      rw [e6] at e5
      simp (disch := first | omega | assumption) only [tw_rcv, tw_r1, tw_r2, tw_r3, tw_r5, tw_r7, tw_r12, tw_r14, tw_r15, tw_r16, tw_r17, tw_r18, Option.bind_some, lit_I, I_add, I_mul, I_le, I_lt, I_eq, if_neg, if_pos, if_true, if_false, I_10, I_01, bit_T, bit_F, bit_F', bit_0, bit_1, gb_bit, tw_s, tw_rw, tw_cells, tw_blockOf, tw_numberOf, aset_eq, aset_ne, aset_aset, Bool.false_eq_true, not_true_eq_false, not_false_eq_true, f_X13_turn_L73, f_X13_turn_B112, s1, I_sub, tw_w10, e5]
  · simp only [w2] at e2
    simp (disch := first | omega | assumption) only [tw_rcv, tw_r1, tw_r2, tw_r3, tw_r5, tw_r7, tw_r12, tw_r14, tw_r15, tw_r16, tw_r17, tw_r18, Option.bind_some, lit_I, I_add, I_mul, I_le, I_lt, I_eq, if_neg, if_pos, if_true, if_false, I_10, I_01, bit_T, bit_F, bit_F', bit_0, bit_1, gb_bit, tw_s, tw_rw, tw_cells, tw_blockOf, tw_numberOf, aset_eq, aset_ne, aset_aset, Bool.false_eq_true, not_true_eq_false, not_false_eq_true, f_X13_turn_L73, f_X13_renumberTurned, e2, e3, e4]
end TWt
/-! cells emptied -/
theorem sEmp_at {s : Nat → Nat} (hP : PG' s) {c k : Nat} (hc : c < nc s) : sEmp s c k = if k = 33 + c ∨ k = 58 + c ∨ k = 83 + dv c (s 1) ∨ k = 83 + s 0 + md c (s 1) then 0 else s k := by
  have hd := dv_lt hP hc
  have hn := nc_le hP
  obtain ⟨a1, a2, a3, a4⟩ := hP
  simp only [sEmp, nup]
  repeat' split
  all_goals first | rfl | omega
theorem sEmpB_at {s : Nat → Nat} (hP : PG' s) {b : Nat} : ∀ n, n ≤ nc s → (∀ k, k < 33 ∨ 93 ≤ k → sEmpB s b n k = s k) ∧ (∀ d, d < nc s → sEmpB s b n (33 + d) = (if d < n ∧ s (8 + d) = b then 0 else s (33 + d)) ∧ sEmpB s b n (58 + d) = (if d < n ∧ s (8 + d) = b then 0 else s (58 + d))) ∧ (∀ i, sEmpB s b n (83 + i) ≤ s (83 + i)) ∧ (∀ k, sEmpB s b n k ≤ s k) := by
  have hn := nc_le hP
  intro n
  induction n with
  | zero =>
    intro _
    refine ⟨fun k _ => rfl, fun d _ => ?_, fun i => Nat.le_refl _, fun k => Nat.le_refl _⟩
    simp [sEmpB]
  | succ n ih =>
    intro hle
    obtain ⟨i1, i2, i3, i4⟩ := ih (by omega)
    have hP1 : PG' (sEmpB s b n) := PG_of (i1 0 (by omega)) (i1 1 (by omega)) hP
    have hn1 : nc (sEmpB s b n) = nc s := nc_of (i1 0 (by omega)) (i1 1 (by omega))
    have h0 := i1 0 (by omega)
    have h1 := i1 1 (by omega)
    by_cases hb : s (8 + n) = b
    · have e : sEmpB s b (n + 1) = sEmp (sEmpB s b n) n := by simp only [sEmpB]; rw [if_pos hb]
      rw [e]
      have hat := fun k => sEmp_at (k := k) hP1 (c := n) (by rw [hn1]; omega)
      have hdv := dv_lt hP1 (c := n) (by rw [hn1]; omega)
      obtain ⟨a1, a2, a3, a4⟩ := hP1
      refine ⟨fun k hk => ?_, fun d hd => ⟨?_, ?_⟩, fun i => ?_, fun k => ?_⟩
      · rw [hat, if_neg (by omega)]; exact i1 k hk
      · rw [hat]
        by_cases e2 : d = n
        · subst e2; rw [if_pos (by omega), if_pos ⟨by omega, hb⟩]
        · rw [if_neg (by omega), (i2 d hd).1]
          by_cases e3 : d < n ∧ s (8 + d) = b
          · rw [if_pos e3, if_pos ⟨by omega, e3.2⟩]
          · rw [if_neg e3, if_neg (fun q => e3 ⟨by omega, q.2⟩)]
      · rw [hat]
        by_cases e2 : d = n
        · subst e2; rw [if_pos (by omega), if_pos ⟨by omega, hb⟩]
        · rw [if_neg (by omega), (i2 d hd).2]
          by_cases e3 : d < n ∧ s (8 + d) = b
          · rw [if_pos e3, if_pos ⟨by omega, e3.2⟩]
          · rw [if_neg e3, if_neg (fun q => e3 ⟨by omega, q.2⟩)]
      · rw [hat]
        split
        · exact Nat.zero_le _
        · exact i3 i
      · rw [hat]
        split
        · exact Nat.zero_le _
        · exact i4 k
    · have e : sEmpB s b (n + 1) = sEmpB s b n := by simp only [sEmpB]; rw [if_neg hb]
      rw [e]
      refine ⟨i1, fun d hd => ?_, i3, i4⟩
      rw [(i2 d hd).1, (i2 d hd).2]
      by_cases e2 : d = n
      · subst e2; rw [if_neg (by omega), if_neg (by omega), if_neg (fun q => hb q.2), if_neg (fun q => hb q.2)]; exact ⟨rfl, rfl⟩
      · by_cases e3 : d < n ∧ s (8 + d) = b
        · rw [if_pos e3, if_pos ⟨by omega, e3.2⟩, if_pos e3, if_pos ⟨by omega, e3.2⟩]; exact ⟨rfl, rfl⟩
        · rw [if_neg e3, if_neg (fun q => e3 ⟨by omega, q.2⟩), if_neg e3, if_neg (fun q => e3 ⟨by omega, q.2⟩)]; exact ⟨rfl, rfl⟩
/-- a block's cells emptied -/
def sClr (s : Nat → Nat) (b : Nat) : Nat → Nat := sEmpB s b (nc s)
section CL
variable {s : Nat → Nat} {b : Nat}
theorem sClr_lo (hP : PG' s) {k : Nat} (h : k < 33 ∨ 93 ≤ k) : sClr s b k = s k := (sEmpB_at hP _ (Nat.le_refl _)).1 k h
theorem sClr_33 (hP : PG' s) {d : Nat} (hd : d < nc s) : sClr s b (33 + d) = (if s (8 + d) = b then 0 else s (33 + d)) ∧ sClr s b (58 + d) = (if s (8 + d) = b then 0 else s (58 + d)) := by
  have := (sEmpB_at hP (b := b) _ (Nat.le_refl _)).2.1 d hd
  unfold sClr
  simpa [hd] using this
theorem sClr_le (hP : PG' s) (k : Nat) : sClr s b k ≤ s k := (sEmpB_at hP _ (Nat.le_refl _)).2.2.2 k
theorem PG_sClr (hP : PG' s) : PG' (sClr s b) := PG_of (sClr_lo hP (by omega)) (sClr_lo hP (by omega)) hP
theorem nc_sClr (hP : PG' s) : nc (sClr s b) = nc s := nc_of (sClr_lo hP (by omega)) (sClr_lo hP (by omega))
theorem sClr_SB (hP : PG' s) (h : SB s) : SB (sClr s b) := fun k => Nat.lt_of_le_of_lt (sClr_le hP k) (h k)
theorem bsz_sClr (hP : PG' s) {e : Nat} : bsz (sClr s b) e = bsz s e := by
  unfold bsz; rw [nc_sClr hP]
  have hn := nc_le hP
  exact sumTo_congr (fun i hi => by rw [sClr_lo hP (by omega)])
theorem QInv_sClr (h : QInv s) : QInv (sClr s b) := by
  obtain ⟨hP, ⟨h2, h3⟩, h4, h5, h6⟩ := h
  have hn := nc_le hP
  have e0 : sClr s b 0 = s 0 := sClr_lo hP (by omega)
  have e1 : sClr s b 1 = s 1 := sClr_lo hP (by omega)
  refine ⟨PG_sClr hP, ⟨by rw [sClr_lo hP (by omega)]; exact h2, fun r hr => by rw [sClr_lo hP (by omega)]; exact h3 r hr⟩, fun c hc => ?_, fun c d hc hd hcd => ?_, fun i hi => ?_⟩
  · rw [nc_sClr hP] at hc
    have h7 := h4 c hc
    rw [sClr_lo (k := 8 + c) hP (by omega), bsz_sClr hP, (sClr_33 hP hc).1, (sClr_33 hP hc).2]
    split
    · exact ⟨h7.1, Nat.zero_le _, by decide, fun q => by cases q⟩
    · exact h7
  · rw [nc_sClr hP] at hc hd
    rw [sClr_lo (k := 8 + c) hP (by omega), sClr_lo (k := 8 + d) hP (by omega), (sClr_33 hP hc).1, (sClr_33 hP hd).1]
    intro q1 q2
    split at q2
    · rename_i z; rw [if_pos z]
    · rename_i z
      rw [if_neg z]
      rw [if_neg (by rw [← q1]; exact z)] at q2
      exact h5 c d hc hd hcd q1 q2
  · rw [e0, e1] at hi
    have := sClr_le (b := b) hP (83 + i)
    have := h6 i hi
    omega
end CL
/-- a cell put in a block b' whose cells are empty, as are those of its own -/
theorem QInv_put {s : Nat → Nat} {c b' : Nat} (h : QInv s) (hc : c < nc s) (h0 : ∀ d, d < nc s → s (8 + d) = s (8 + c) ∨ s (8 + d) = b' → s (33 + d) = 0) (hz : bsz s b' < 6) (hne : ¬ s (8 + c) = b') : QInv (nup s (8 + c) b') := by
  obtain ⟨hP, ⟨h2, h3⟩, h4, h5, h6⟩ := h
  have hn := nc_le hP
  have en : nc (nup s (8 + c) b') = nc s := nc_of (nup_ne (by omega)) (nup_ne (by omega))
  have e8 : ∀ d, nup s (8 + c) b' (8 + d) = if d = c then b' else s (8 + d) := fun d => by
    by_cases e : d = c
    · subst e; rw [nup_eq, if_pos rfl]
    · rw [nup_ne (by omega), if_neg e]
  have hbs : ∀ e, bsz (nup s (8 + c) b') e ≤ bsz s e + (if e = b' then 1 else 0) := fun e => by
    unfold bsz
    rw [en]
    have key : ∀ n, n ≤ nc s → sumTo (fun d => if nup s (8 + c) b' (8 + d) = e then 1 else 0) n ≤ sumTo (fun d => if s (8 + d) = e then 1 else 0) n + (if e = b' ∧ c < n then 1 else 0) := by
      intro n
      induction n with
      | zero => intro _; simp [sumTo]
      | succ n ih =>
        intro hle
        have := ih (by omega)
        simp only [sumTo]
        rw [e8 n]
        by_cases e1 : n = c
        · subst e1
          rw [if_pos rfl]
          by_cases e2 : e = b'
          · subst e2
            have w1 : (if e = e ∧ n < n + 1 then 1 else 0) = 1 := if_pos ⟨rfl, by omega⟩
            have w2 : (if e = e ∧ n < n then 1 else 0) = 0 := if_neg (by omega)
            rw [w1, if_pos rfl]
            rw [w2] at this
            omega
          · have w1 : (if e = b' ∧ n < n + 1 then 1 else 0) = 0 := if_neg (fun q => e2 q.1)
            have w2 : (if e = b' ∧ n < n then 1 else 0) = 0 := if_neg (fun q => e2 q.1)
            rw [w1, if_neg (show ¬ b' = e from fun q => e2 q.symm)]
            rw [w2] at this
            omega
        · rw [if_neg e1]
          by_cases e2 : e = b' ∧ c < n
          · have w1 : (if e = b' ∧ c < n + 1 then 1 else 0) = 1 := if_pos ⟨e2.1, by omega⟩
            rw [if_pos e2] at this; rw [w1]; omega
          · rw [if_neg e2] at this
            omega
    have := key (nc s) (Nat.le_refl _)
    by_cases e2 : e = b'
    · rw [if_pos e2]; rw [if_pos ⟨e2, hc⟩] at this; exact this
    · have w2 : (if e = b' ∧ c < nc s then 1 else 0) = 0 := if_neg (fun q => e2 q.1)
      rw [if_neg e2]; rw [w2] at this; exact this
  have hbs' : ∀ e, e ≠ s (8 + c) → bsz s e ≤ bsz (nup s (8 + c) b') e := fun e he => by
    unfold bsz
    rw [en]
    refine sumTo_le (fun d hd => ?_)
    rw [e8 d]
    by_cases e1 : d = c
    · subst e1
      rw [if_neg (show ¬ s (8 + d) = e from fun q => he q.symm)]
      exact Nat.zero_le _
    · rw [if_neg e1]; exact Nat.le_refl _
  refine ⟨PG_of (nup_ne (by omega)) (nup_ne (by omega)) hP, ⟨by rw [nup_ne (by omega)]; exact h2, fun r hr => by rw [nup_ne (by omega)]; exact h3 r hr⟩, fun d hd => ?_, fun d e hd he hde => ?_, fun i hi => ?_⟩
  · rw [en] at hd
    have h7 := h4 d hd
    rw [nup_ne (k := 33 + d) (by omega), nup_ne (k := 58 + d) (by omega), e8 d]
    by_cases e1 : d = c
    · subst e1
      rw [if_pos rfl]
      have h8 := hbs b'
      rw [if_pos rfl] at h8
      have h9 := h0 d hd (Or.inl rfl)
      exact ⟨by omega, by omega, h7.2.2.1, h7.2.2.2⟩
    · rw [if_neg e1]
      have h8 := hbs (s (8 + d))
      by_cases e2 : s (8 + d) = b'
      · rw [if_pos e2] at h8
        have h9 := h0 d hd (Or.inr e2)
        rw [e2] at h8 ⊢
        exact ⟨by omega, by omega, h7.2.2.1, h7.2.2.2⟩
      · rw [if_neg e2] at h8
        by_cases e3 : s (8 + d) = s (8 + c)
        · have h9 := h0 d hd (Or.inl e3)
          exact ⟨by omega, by omega, h7.2.2.1, h7.2.2.2⟩
        · have := hbs' _ e3
          exact ⟨by omega, by omega, h7.2.2.1, h7.2.2.2⟩
  · rw [en] at hd he
    rw [nup_ne (k := 33 + d) (by omega), nup_ne (k := 33 + e) (by omega), e8 d, e8 e]
    intro q1 q2
    by_cases e1 : d = c
    · subst e1; exact h0 d hd (Or.inl rfl)
    · rw [if_neg e1] at q1
      by_cases e2 : e = c
      · subst e2
        rw [if_pos rfl] at q1
        exact h0 d hd (Or.inr q1)
      · rw [if_neg e2] at q1
        exact h5 d e hd he hde q1 q2
  · rw [nup_ne (k := 0) (by omega), nup_ne (k := 1) (by omega)] at hi
    obtain ⟨a1, a2, a3, a4⟩ := hP
    rw [nup_ne (by omega)]; exact h6 i hi
