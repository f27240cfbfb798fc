/-! PLAIN LAW: blocks numbered by the reference -/
set_option maxRecDepth 100000
theorem aset_comm {A : Nat → Nat → Nat} {o o' : Nat} {g g' : Nat → Nat} (h : ¬ o = o') : aset (aset A o g) o' g' = aset (aset A o' g') o g := by
  funext x
  by_cases e : x = o
  · subst e; rw [aset_ne h, aset_eq, aset_eq]
  · by_cases e' : x = o'
    · subst e'; rw [aset_eq, aset_ne e, aset_eq]
    · rw [aset_ne e', aset_ne e, aset_ne e, aset_ne e']
/-- the first cell of a cell's block -/
def fst (s : Nat → Nat) (c : Nat) : Nat := (firstI (fun d => s (8 + d) == s (8 + c)) (nc s)).getD 0
def isF (s : Nat → Nat) (d : Nat) : Bool := fst s d == d
/-- how many blocks begin before a cell -/
def rkTo (s : Nat → Nat) (n : Nat) : Nat := sumTo (fun d => bit (isF s d = true)) n
def rk (s : Nat → Nat) (c : Nat) : Nat := rkTo s (fst s c)
theorem fst_spec {s : Nat → Nat} {c : Nat} (hc : c < nc s) : fst s c ≤ c ∧ s (8 + fst s c) = s (8 + c) ∧ ∀ d, d < fst s c → s (8 + d) ≠ s (8 + c) := by
  unfold fst
  cases h : firstI (fun d => s (8 + d) == s (8 + c)) (nc s) with
  | none =>
    rw [firstI_none] at h
    have := h c hc
    simp at this
  | some j =>
    rw [firstI_some] at h
    obtain ⟨h1, h2, h3⟩ := h
    refine ⟨?_, by simpa using h2, fun d hd => by have := h3 d hd; simpa using this⟩
    rcases Nat.lt_or_ge c j with h4 | h4
    · have := h3 c h4; simp at this
    · exact h4
theorem fst_eq {s : Nat → Nat} {c d : Nat} (hc : c < nc s) (hd : d < nc s) : fst s d = fst s c ↔ s (8 + d) = s (8 + c) := by
  have h1 := fst_spec hc
  have h2 := fst_spec hd
  constructor
  · intro h; rw [← h1.2.1, ← h2.2.1, h]
  · intro h
    rcases Nat.lt_trichotomy (fst s d) (fst s c) with h3 | h3 | h3
    · exact absurd (h2.2.1.trans h) (h1.2.2 _ h3)
    · exact h3
    · exact absurd (h1.2.1.trans h.symm) (h2.2.2 _ h3)
theorem rkTo_le (s : Nat → Nat) : ∀ n, rkTo s n ≤ n := by
  intro n
  induction n with
  | zero => exact Nat.le_refl _
  | succ n ih => unfold rkTo at *; have := bit_lt (isF s n = true); simp only [sumTo]; omega
def sRenI (s : Nat → Nat) (c j : Nat) : Nat → Nat := fun k => if 8 ≤ k ∧ k < 8 + nc s ∧ (fst s (k - 8) < c ∨ (fst s (k - 8) = c ∧ k - 8 < j)) then rk s (k - 8) else s k
def mkI (s M : Nat → Nat) (c j : Nat) : Nat → Nat := fun d => if d < nc s then bit (fst s d < c ∨ (fst s d = c ∧ d < j)) else M d
/-- the blocks numbered anew -/
def sRen (s : Nat → Nat) : Nat → Nat := fun k => if 8 ≤ k ∧ k < 8 + nc s then rk s (k - 8) else s k
theorem sRenI_lo {s : Nat → Nat} {c j k : Nat} (h : k < 8) : sRenI s c j k = s k := by unfold sRenI; rw [if_neg (by omega)]
def A178 (A : Nat → Nat → Nat) (S L M : Nat → Nat) : Nat → Nat → Nat := aset (aset (aset A 7 L) 8 M) 1 S
section A178
variable {A : Nat → Nat → Nat} {S L M G : Nat → Nat}
theorem a178_1 : A178 A S L M 1 = S := by unfold A178; rw [aset_eq]
theorem a178_7 : A178 A S L M 7 = L := by unfold A178; rw [aset_ne (by decide), aset_ne (by decide), aset_eq]
theorem a178_8 : A178 A S L M 8 = M := by unfold A178; rw [aset_ne (by decide), aset_eq]
theorem a178_s1 : aset (A178 A S L M) 1 G = A178 A G L M := by unfold A178; rw [aset_aset]
theorem a178_s8 : aset (A178 A S L M) 8 G = A178 A S L G := by unfold A178; rw [aset_comm (by decide), aset_aset]
theorem a178_s7 : aset (A178 A S L M) 7 G = A178 A S G M := by unfold A178; rw [aset_comm (o := 1) (by decide), aset_comm (o := 8) (by decide), aset_aset]
theorem a178_self : A178 A (A 1) (A 7) (A 8) = A := by
  unfold A178
  rw [show aset A 7 (A 7) = A from aset_self, show aset A 8 (A 8) = A from aset_self, show aset A 1 (A 1) = A from aset_self]
end A178
section TWr
variable {m : Nat} {v : Nat → Int32} {A : Nat → Nat → Nat} {h : PH}
theorem tw_w7 {j x : Nat} (hj : j < 25) : asi 0 (some (m + 7)) (I j) (I x) (TW m v A h) = some (TW m v (aset A 7 (nup (A 7) j x)) h) := tw_w (o := 7) (by decide) hj
theorem tw_w8 {j x : Nat} (hj : j < 25) : asi 0 (some (m + 8)) (I j) (I x) (TW m v A h) = some (TW m v (aset A 8 (nup (A 8) j x)) h) := tw_w (o := 8) (by decide) hj
theorem tw_r7' {j : Nat} (hj : j < 25) : ald 0 (some (m + 7)) (I j) (TW m v A h) = some (I (A 7 j)) := tw_ald (o := 7) (by decide) hj
theorem tw_r8' {j : Nat} (hj : j < 25) : ald 0 (some (m + 8)) (I j) (TW m v A h) = some (I (A 8 j)) := tw_ald (o := 8) (by decide) hj
theorem nc_A178 {S L M : Nat → Nat} {s : Nat → Nat} {c j : Nat} (h : S = sRenI s c j) : nc (A178 A S L M 1) = nc s := by
  rw [a178_1, h]; exact nc_of (sRenI_lo (by decide)) (sRenI_lo (by decide))
theorem tw_ren57 {r38 : Option Nat → Int32 → Int32 → PH → Option (Int32 × PH)} {s L M : Nat → Nat} {c : Nat} (hs : SB s) (hP : PG' s) (hc : c < nc s) (hF : fst s c = c) (hL : ∀ d, d < nc s → L d = s (8 + d)) :
    f_X13_renumber_L57 r38 FU (some m) (I (rkTo s c)) (I c) (I c) (TW m v (A178 A (sRenI s c c) L (mkI s M c c)) h) = r38 (some m) (I (rkTo s c + 1)) (I (c + 1)) (TW m v (A178 A (sRenI s c (nc s)) L (mkI s M c (nc s))) h) := by
  have hn := nc_le hP
  have e8 : ∀ S L M, nc (A178 A S L M 1) = nc S := fun S L M => by rw [a178_1]
  refine loop_up (fun k (p : Nat × (Nat → Nat) × (Nat → Nat)) => f_X13_renumber_L57 r38 k (some m) (I (rkTo s c)) (I c) (I p.1) (TW m v (A178 A p.2.1 L p.2.2) h)) (fun j => (j, sRenI s c j, mkI s M c j)) (nc s) _ (fun k j hj => ?_) (fun k => ?_) FU c (by omega) (by rw [FU_eq]; omega)
  · have hnc : nc (sRenI s c j) = nc s := nc_of (sRenI_lo (by decide)) (sRenI_lo (by decide))
    have h1 := hs (8 + j)
    have h2 := hs (8 + c)
    have h3 := hL j hj
    have h4 := hL c hc
    by_cases h5 : s (8 + j) = s (8 + c)
    · have h6 : fst s j = c := ((fst_eq hc hj).mpr h5).trans hF
      simp (disch := first | omega | assumption) only [tw_rcv, tw_r1, tw_r2, tw_r3, tw_r5, tw_r7, tw_r12, tw_r14, tw_r15, tw_r16, tw_r17, tw_r18, Option.bind_some, lit_I, I_add, I_mul, I_le, I_lt, I_eq, if_neg, if_pos, if_true, if_false, I_10, I_01, bit_T, bit_F, bit_F', bit_0, bit_1, gb_bit, tw_s, tw_rw, tw_cells, tw_blockOf, tw_numberOf, aset_eq, aset_ne, aset_aset, Bool.false_eq_true, not_true_eq_false, not_false_eq_true, f_X13_renumber_L57, a178_1, a178_7, a178_8, a178_s1, a178_s8, hnc, tw_r7', h3, h4, h5, tw_w8, tw_ws]
      have e1 : nup (sRenI s c j) (8 + j) (rkTo s c) = sRenI s c (j + 1) := by
        funext k
        simp only [nup, sRenI]
        by_cases e : k = 8 + j
        · subst e
          rw [if_pos rfl, if_pos ⟨by omega, by omega, Or.inr ⟨by rw [Nat.add_sub_cancel_left]; exact h6, by omega⟩⟩, Nat.add_sub_cancel_left]
          unfold rk; rw [h6]
        · rw [if_neg e]
          by_cases e2 : 8 ≤ k ∧ k < 8 + nc s ∧ (fst s (k - 8) < c ∨ (fst s (k - 8) = c ∧ k - 8 < j))
          · rw [if_pos e2, if_pos (by omega)]
          · rw [if_neg e2, if_neg (by omega)]
      have e2 : nup (mkI s M c j) j 1 = mkI s M c (j + 1) := by
        funext d
        simp only [nup, mkI]
        by_cases e : d = j
        · subst e
          rw [if_pos rfl, if_pos hj, bit_t (by omega)]
        · rw [if_neg e]
          by_cases e3 : d < nc s
          · rw [if_pos e3, if_pos e3]; exact bit_congr (by omega)
          · rw [if_neg e3, if_neg e3]
      rw [e1, e2]
    · have h6 : ¬ fst s j = c := fun q => h5 ((fst_eq hc hj).mp (q.trans hF.symm))
      simp (disch := first | omega | assumption) only [tw_rcv, tw_r1, tw_r2, tw_r3, tw_r5, tw_r7, tw_r12, tw_r14, tw_r15, tw_r16, tw_r17, tw_r18, Option.bind_some, lit_I, I_add, I_mul, I_le, I_lt, I_eq, if_neg, if_pos, if_true, if_false, I_10, I_01, bit_T, bit_F, bit_F', bit_0, bit_1, gb_bit, tw_s, tw_rw, tw_cells, tw_blockOf, tw_numberOf, aset_eq, aset_ne, aset_aset, Bool.false_eq_true, not_true_eq_false, not_false_eq_true, f_X13_renumber_L57, a178_1, a178_7, a178_8, a178_s1, a178_s8, hnc, tw_r7', h3, h4, h5]
      have e1 : sRenI s c j = sRenI s c (j + 1) := by
        funext k
        simp only [sRenI]
        by_cases e : k = 8 + j
        · subst e
          rw [Nat.add_sub_cancel_left]
          by_cases e2 : fst s j < c
          · rw [if_pos (by omega), if_pos (by omega)]
          · rw [if_neg (by omega), if_neg (by omega)]
        · by_cases e2 : 8 ≤ k ∧ k < 8 + nc s ∧ (fst s (k - 8) < c ∨ (fst s (k - 8) = c ∧ k - 8 < j))
          · rw [if_pos e2, if_pos (by omega)]
          · rw [if_neg e2, if_neg (by omega)]
      have e2 : mkI s M c j = mkI s M c (j + 1) := by
        funext d
        simp only [mkI]
        by_cases e3 : d < nc s
        · rw [if_pos e3, if_pos e3]
          by_cases e : d = j
          · subst e; exact bit_congr (by omega)
          · exact bit_congr (by omega)
        · rw [if_neg e3, if_neg e3]
      rw [← e1, ← e2]
  · have hnc : nc (sRenI s c (nc s)) = nc s := nc_of (sRenI_lo (by decide)) (sRenI_lo (by decide))
    simp (disch := first | omega | assumption) only [tw_rcv, tw_r1, tw_r2, tw_r3, tw_r5, tw_r7, tw_r12, tw_r14, tw_r15, tw_r16, tw_r17, tw_r18, Option.bind_some, lit_I, I_add, I_mul, I_le, I_lt, I_eq, if_neg, if_pos, if_true, if_false, I_10, I_01, bit_T, bit_F, bit_F', bit_0, bit_1, gb_bit, tw_s, tw_rw, tw_cells, tw_blockOf, tw_numberOf, aset_eq, aset_ne, aset_aset, Bool.false_eq_true, not_true_eq_false, not_false_eq_true, f_X13_renumber_L57, a178_1, hnc]
theorem sRenI_up {s : Nat → Nat} {c : Nat} (hc : c < nc s) : sRenI s c (nc s) = sRenI s (c + 1) (c + 1) := by
  funext k
  simp only [sRenI]
  by_cases e1 : 8 ≤ k ∧ k < 8 + nc s
  · have h1 := fst_spec (s := s) (c := k - 8) (by omega)
    by_cases e2 : fst s (k - 8) < c + 1
    · rw [if_pos (by omega), if_pos (by omega)]
    · rw [if_neg (by omega), if_neg (by omega)]
  · rw [if_neg (by omega), if_neg (by omega)]
theorem mkI_up {s M : Nat → Nat} {c : Nat} (hc : c < nc s) : mkI s M c (nc s) = mkI s M (c + 1) (c + 1) := by
  funext d
  simp only [mkI]
  by_cases e3 : d < nc s
  · have h1 := fst_spec e3
    rw [if_pos e3, if_pos e3]; exact bit_congr (by omega)
  · rw [if_neg e3, if_neg e3]
theorem sRenI_no {s : Nat → Nat} {c : Nat} (hc : c < nc s) (hF : ¬ fst s c = c) : sRenI s c c = sRenI s (c + 1) (c + 1) := by
  funext k
  simp only [sRenI]
  by_cases e1 : 8 ≤ k ∧ k < 8 + nc s
  · have h1 := fst_spec (s := s) (c := k - 8) (by omega)
    have h3 := fst_spec hc
    have h2 : ¬ fst s (k - 8) = c := fun q => by
      have : fst s c = c := by
        have h4 := (fst_eq (s := s) (c := c) (d := k - 8) hc (by omega)).mpr (by rw [← h1.2.1, q])
        rw [← h4, q]
      exact hF this
    by_cases e2 : fst s (k - 8) < c
    · rw [if_pos (by omega), if_pos (by omega)]
    · rw [if_neg (by omega), if_neg (by omega)]
  · rw [if_neg (by omega), if_neg (by omega)]
theorem mkI_no {s M : Nat → Nat} {c : Nat} (hc : c < nc s) (hF : ¬ fst s c = c) : mkI s M c c = mkI s M (c + 1) (c + 1) := by
  funext d
  simp only [mkI]
  by_cases e3 : d < nc s
  · have h1 := fst_spec e3
    have h2 : ¬ fst s d = c := fun q => by
      have h4 := (fst_eq (s := s) (c := c) (d := d) hc e3).mpr (by rw [← h1.2.1, q])
      exact hF (by rw [← h4, q])
    rw [if_pos e3, if_pos e3]; exact bit_congr (by omega)
  · rw [if_neg e3, if_neg e3]
theorem tw_ren38 {s L M : Nat → Nat} (hs : SB s) (hP : PG' s) (hL : ∀ d, d < nc s → L d = s (8 + d)) :
    f_X13_renumber_L38 FU (some m) (I 0) (I 0) (TW m v (A178 A (sRenI s 0 0) L (mkI s M 0 0)) h) = some (I (rkTo s (nc s)), TW m v (A178 A (sRen s) L (mkI s M (nc s) (nc s))) h) := by
  have hn := nc_le hP
  refine loop_FU (fun k (p : Nat × Nat × (Nat → Nat) × (Nat → Nat)) => f_X13_renumber_L38 k (some m) (I p.1) (I p.2.1) (TW m v (A178 A p.2.2.1 L p.2.2.2) h)) (fun j => (rkTo s j, j, sRenI s j j, mkI s M j j)) (nc s) _ (by omega) (fun k j hj => ?_) (fun k => ?_)
  · have hnc : nc (sRenI s j j) = nc s := nc_of (sRenI_lo (by decide)) (sRenI_lo (by decide))
    have hsp := fst_spec hj
    by_cases h1 : fst s j = j
    · have h2 : mkI s M j j j = 0 := by unfold mkI; rw [if_pos hj, bit_f (by omega)]
      simp (disch := first | omega | assumption) only [tw_rcv, tw_r1, tw_r2, tw_r3, tw_r5, tw_r7, tw_r12, tw_r14, tw_r15, tw_r16, tw_r17, tw_r18, Option.bind_some, lit_I, I_add, I_mul, I_le, I_lt, I_eq, if_neg, if_pos, if_true, if_false, I_10, I_01, bit_T, bit_F, bit_F', bit_0, bit_1, gb_bit, tw_s, tw_rw, tw_cells, tw_blockOf, tw_numberOf, aset_eq, aset_ne, aset_aset, Bool.false_eq_true, not_true_eq_false, not_false_eq_true, f_X13_renumber_L38, a178_1, a178_8, hnc, tw_r8', h2]
      rw [tw_ren57 hs hP hj h1 hL, sRenI_up hj, mkI_up hj]
      have e : rkTo s (j + 1) = rkTo s j + 1 := by unfold rkTo; simp only [sumTo]; rw [bit_t]; simp [isF, h1]
      rw [e]
    · have h2 : mkI s M j j j = 1 := by unfold mkI; rw [if_pos hj, bit_t (by omega)]
      have e : rkTo s (j + 1) = rkTo s j := by unfold rkTo; simp only [sumTo]; rw [bit_f]; · rfl
                                               simp [isF, h1]
      simp (disch := first | omega | assumption) only [tw_rcv, tw_r1, tw_r2, tw_r3, tw_r5, tw_r7, tw_r12, tw_r14, tw_r15, tw_r16, tw_r17, tw_r18, Option.bind_some, lit_I, I_add, I_mul, I_le, I_lt, I_eq, if_neg, if_pos, if_true, if_false, I_10, I_01, bit_T, bit_F, bit_F', bit_0, bit_1, gb_bit, tw_s, tw_rw, tw_cells, tw_blockOf, tw_numberOf, aset_eq, aset_ne, aset_aset, Bool.false_eq_true, not_true_eq_false, not_false_eq_true, f_X13_renumber_L38, a178_1, a178_8, hnc, tw_r8', h2]
      rw [sRenI_no hj h1, mkI_no hj h1, e]
  · have hnc : nc (sRenI s (nc s) (nc s)) = nc s := nc_of (sRenI_lo (by decide)) (sRenI_lo (by decide))
    simp (disch := first | omega | assumption) only [tw_rcv, tw_r1, tw_r2, tw_r3, tw_r5, tw_r7, tw_r12, tw_r14, tw_r15, tw_r16, tw_r17, tw_r18, Option.bind_some, lit_I, I_add, I_mul, I_le, I_lt, I_eq, if_neg, if_pos, if_true, if_false, I_10, I_01, bit_T, bit_F, bit_F', bit_0, bit_1, gb_bit, tw_s, tw_rw, tw_cells, tw_blockOf, tw_numberOf, aset_eq, aset_ne, aset_aset, Bool.false_eq_true, not_true_eq_false, not_false_eq_true, f_X13_renumber_L38, a178_1, hnc]
    have e : sRenI s (nc s) (nc s) = sRen s := by
      funext k
      simp only [sRenI, sRen]
      by_cases e1 : 8 ≤ k ∧ k < 8 + nc s
      · have h1 := fst_spec (s := s) (c := k - 8) (by omega)
        rw [if_pos (by omega), if_pos e1]
      · rw [if_neg (by omega), if_neg e1]
    rw [e]
/-- the rows after the numbering -/
def aRen (A : Nat → Nat → Nat) : Nat → Nat → Nat := A178 A (sRen (A 1)) (wTo (fun c => A 1 (8 + c)) (A 7) (nc (A 1))) (mkI (A 1) (A 8) (nc (A 1)) (nc (A 1)))
theorem tw_renumber (hA : SB (A 1)) (hP : PG' (A 1)) : f_X13_renumber (some m) (TW m v A h) = some (I (rkTo (A 1) (nc (A 1))), TW m v (aRen A) h) := by
  have hn := nc_le hP
  unfold f_X13_renumber
  have := loop_FU (fun k (p : Nat × (Nat → Nat) × (Nat → Nat)) => f_X13_renumber_L2 k (some m) (I p.1) (TW m v (A178 A (A 1) p.2.1 p.2.2) h)) (fun i => (i, wTo (fun c => A 1 (8 + c)) (A 7) i, wTo (fun _ => 0) (A 8) i)) (nc (A 1)) (some (I (rkTo (A 1) (nc (A 1))), TW m v (aRen A) h)) (by omega) (fun k i hi => ?_) (fun k => ?_)
  · simp only [wTo_0, a178_self] at this
    exact this
  · simp (disch := first | omega | assumption) only [tw_rcv, tw_r1, tw_r2, tw_r3, tw_r5, tw_r7, tw_r12, tw_r14, tw_r15, tw_r16, tw_r17, tw_r18, Option.bind_some, lit_I, I_add, I_mul, I_le, I_lt, I_eq, if_neg, if_pos, if_true, if_false, I_10, I_01, bit_T, bit_F, bit_F', bit_0, bit_1, gb_bit, tw_s, tw_rw, tw_cells, tw_blockOf, tw_numberOf, aset_eq, aset_ne, aset_aset, Bool.false_eq_true, not_true_eq_false, not_false_eq_true, f_X13_renumber_L2, a178_1, a178_7, a178_8, a178_s7, a178_s8, tw_w7, tw_w8]
    rw [show nup (wTo (fun c => A 1 (8 + c)) (A 7) i) i (A 1 (8 + i)) = wTo (fun c => A 1 (8 + c)) (A 7) (i + 1) from wTo_up (f := fun c => A 1 (8 + c)), show nup (wTo (fun _ => 0) (A 8) i) i 0 = wTo (fun _ => 0) (A 8) (i + 1) from wTo_up (f := fun _ => 0)]
  · simp (disch := first | omega | assumption) only [tw_rcv, tw_r1, tw_r2, tw_r3, tw_r5, tw_r7, tw_r12, tw_r14, tw_r15, tw_r16, tw_r17, tw_r18, Option.bind_some, lit_I, I_add, I_mul, I_le, I_lt, I_eq, if_neg, if_pos, if_true, if_false, I_10, I_01, bit_T, bit_F, bit_F', bit_0, bit_1, gb_bit, tw_s, tw_rw, tw_cells, tw_blockOf, tw_numberOf, aset_eq, aset_ne, aset_aset, Bool.false_eq_true, not_true_eq_false, not_false_eq_true, f_X13_renumber_L2, a178_1]
    have e1 : A 1 = sRenI (A 1) 0 0 := by funext k; simp only [sRenI]; rw [if_neg (by omega)]
    have e2 : wTo (fun _ => 0) (A 8) (nc (A 1)) = mkI (A 1) (A 8) 0 0 := by
      funext d
      simp only [wTo, mkI]
      by_cases e3 : d < nc (A 1)
      · rw [if_pos e3, if_pos e3, bit_f (by omega)]
      · rw [if_neg e3, if_neg e3]
    have := tw_ren38 (m := m) (v := v) (A := A) (h := h) (s := A 1) (L := wTo (fun c => A 1 (8 + c)) (A 7) (nc (A 1))) (M := A 8) hA hP (fun d hd => by simp only [wTo, if_pos hd])
    rw [← e1, ← e2] at this
    exact this
theorem sRen_SB {s : Nat → Nat} (h : SB s) (hP : PG' s) : SB (sRen s) := by
  intro k
  have hn := nc_le hP
  have h1 := h k
  unfold sRen
  split
  · rename_i e
    have h2 := fst_spec (s := s) (c := k - 8) (by omega)
    have h3 := rkTo_le s (fst s (k - 8))
    unfold rk; omega
  · exact h1
theorem aRen_AB (hA : AB A) (hP : PG' (A 1)) : AB (aRen A) := by
  refine AB_set (AB_set (AB_set hA ?_) ?_) ?_
  · intro j; unfold wTo; have h1 := hA 1 (8 + j); have h2 := hA 7 j; split <;> assumption
  · intro j; unfold mkI; have h2 := hA 8 j; have := bit_lt (fst (A 1) j < nc (A 1) ∨ (fst (A 1) j = nc (A 1) ∧ j < nc (A 1))); split <;> omega
  · exact sRen_SB (hA 1) hP
theorem aRen_1 : aRen A 1 = sRen (A 1) := a178_1
theorem aRen_ne {o : Nat} (h1 : o ≠ 1) (h7 : o ≠ 7) (h8 : o ≠ 8) : aRen A o = A o := by unfold aRen A178; rw [aset_ne h1, aset_ne h8, aset_ne h7]
end TWr
