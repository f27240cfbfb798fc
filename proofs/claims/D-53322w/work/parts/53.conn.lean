/-! PLAIN LAW: whether a block hangs together, by the reference -/
set_option maxRecDepth 100000
theorem firstFrom_snoc {P : Nat → Bool} : ∀ n i, firstFrom P (n + 1) i = (match firstFrom P n i with | some j => some j | none => if P (i + n) = true then some (i + n) else none) := by
  intro n
  induction n with
  | zero => intro i; simp [firstFrom]
  | succ n ih =>
    intro i
    cases h : P i with
    | true => simp [firstFrom, h]
    | false =>
      have e : i + 1 + n = i + (n + 1) := by omega
      have h1 : firstFrom P (n + 1 + 1) i = firstFrom P (n + 1) (i + 1) := by rw [firstFrom, h]; rfl
      have h2 : firstFrom P (n + 1) i = firstFrom P n (i + 1) := by rw [firstFrom, h]; rfl
      rw [h2, ← e, ← ih (i + 1), ← h1, firstFrom]
theorem firstI_snoc {P : Nat → Bool} {n : Nat} : firstI P (n + 1) = (match firstI P n with | some j => some j | none => if P n = true then some n else none) := by
  unfold firstI; rw [firstFrom_snoc, Nat.zero_add]
/-- a cell of the block, but one -/
def inS (s : Nat → Nat) (b : Nat) (but : Option Nat) (c : Nat) : Bool := s (8 + c) == b && !(but == some c)
/-- a set that takes in all neighbours -/
def Cl (s : Nat → Nat) (b : Nat) (but : Option Nat) (X : Nat → Bool) : Prop := ∀ c d, c < nc s → d < nc s → inS s b but c = true → inS s b but d = true → X d = true → adjb (s 1) c d = true → X c = true
def Conn (s : Nat → Nat) (b : Nat) (but : Option Nat) : Prop := ∀ X : Nat → Bool, (∀ f, firstI (inS s b but) (nc s) = some f → X f = true) → Cl s b but X → ∀ c, c < nc s → inS s b but c = true → X c = true
/-- marks that lie in each closed set with the first cell -/
def MI8 (s : Nat → Nat) (b : Nat) (but : Option Nat) (M : Nat → Nat) : Prop := SB M ∧ (∀ c, c < nc s → M c = 0 ∨ (M c = 1 ∧ inS s b but c = true ∧ ∀ X : Nat → Bool, (∀ f, firstI (inS s b but) (nc s) = some f → X f = true) → Cl s b but X → X c = true))
theorem nup_up8 {s : Nat → Nat} {b : Nat} {but : Option Nat} {M : Nat → Nat} {c d : Nat} (hM : MI8 s b but M) (hc : c < nc s) (hd : d < nc s) (hi' : inS s b but c = true) (h1 : M d = 1) (ha : adjb (s 1) c d = true) : MI8 s b but (nup M c 1) := by
  refine ⟨nup_lt hM.1 (by decide), fun e he => ?_⟩
  by_cases q : e = c
  · subst q
    rw [nup_eq]
    refine Or.inr ⟨rfl, hi', fun X hf hX => ?_⟩
    rcases hM.2 d hd with h2 | ⟨h2, h3, h4⟩
    · omega
    · exact hX e d he hd hi' h3 (h4 X hf hX) ha
  · rw [nup_ne q]; exact hM.2 e he
section TWk
variable {m : Nat} {v : Nat → Int32} {A : Nat → Nat → Nat} {h : PH}
theorem nc8 {M : Nat → Nat} : nc (aset A 8 M 1) = nc (A 1) := by rw [aset_ne (by decide)]
theorem tw_k99 {r76 : Option Nat → Int32 → Int32 → Int32 → PH → Option (Int32 × PH)} {r87 : Option Nat → Int32 → Int32 → Int32 → Int32 → PH → Option (Int32 × PH)} {b c : Nat} {but : Option Nat} (hb : b < 1000000) (hbut : ∀ j, but = some j → j < 1000000) (hc : c < nc (A 1)) (hA : SB (A 1)) (hP : PG' (A 1)) (M : Nat → Nat) (hM : MI8 (A 1) b but M) (hi' : inS (A 1) b but c = true) (h0 : M c = 0) (g : Nat) :
    ∀ (k j : Nat), j ≤ nc (A 1) → nc (A 1) - j < k → (∀ d, d < j → M d = 1 → adjb (A 1 1) c d = false) →
    (f_X13_isConnected_L99 r76 r87 k (some m) (I b) (bz but) (I g) (I c) (I j) (TW m v (aset A 8 M) h) = r87 (some m) (I b) (bz but) (I 1) (I (c + 1)) (TW m v (aset A 8 (nup M c 1)) h) ∧ MI8 (A 1) b but (nup M c 1)) ∨
    (f_X13_isConnected_L99 r76 r87 k (some m) (I b) (bz but) (I g) (I c) (I j) (TW m v (aset A 8 M) h) = r87 (some m) (I b) (bz but) (I g) (I (c + 1)) (TW m v (aset A 8 M) h) ∧ ∀ d, d < nc (A 1) → M d = 1 → adjb (A 1 1) c d = false) := by
  have hn := nc_le hP
  have a1 : ∀ M, (aset A 8 M) 1 = A 1 := fun M => aset_ne (by decide)
  have hne : ¬ I c = bz but := fun q => by
    have := (bz_eq (show c < 1000000 by omega) hbut).mp q
    simp [inS, this] at hi'
  have hbl : A 1 (8 + c) = b := by simp [inS] at hi'; exact hi'.1
  intro k
  induction k with
  | zero => intro j _ h; omega
  | succ k ih =>
    intro j hj hk hno
    by_cases e : j = nc (A 1)
    · refine Or.inr ⟨?_, by rw [← e]; exact hno⟩
      simp (disch := first | omega | assumption) only [tw_rcv, tw_r1, tw_r2, tw_r3, tw_r5, tw_r7, tw_r12, tw_r14, tw_r15, tw_r16, tw_r17, tw_r18, Option.bind_some, lit_I, I_add, I_mul, I_le, I_lt, I_eq, if_neg, if_pos, if_true, if_false, I_10, I_01, bit_T, bit_F, bit_F', bit_0, bit_1, gb_bit, tw_s, tw_rw, tw_cells, tw_blockOf, tw_numberOf, aset_eq, aset_ne, aset_aset, Bool.false_eq_true, not_true_eq_false, not_false_eq_true, f_X13_isConnected_L99, a1, e]
    · have hadj := tw_adj (m := m) (v := v) (h := h) (A := aset A 8 M) (a := c) (b := j) (by omega) (by omega) (by rw [a1]; exact hP)
      rw [a1] at hadj
      have hMs := hM.1
      have hMj := hMs j
      by_cases h1 : M j = 1
      · cases h2 : adjb (A 1 1) c j with
        | true =>
          have hM' := nup_up8 hM hc (show j < nc (A 1) by omega) hi' h1 h2
          refine Or.inl ⟨?_, hM'⟩
          simp (disch := first | omega | assumption) only [tw_rcv, tw_r1, tw_r2, tw_r3, tw_r5, tw_r7, tw_r12, tw_r14, tw_r15, tw_r16, tw_r17, tw_r18, Option.bind_some, lit_I, I_add, I_mul, I_le, I_lt, I_eq, if_neg, if_pos, if_true, if_false, I_10, I_01, bit_T, bit_F, bit_F', bit_0, bit_1, gb_bit, tw_s, tw_rw, tw_cells, tw_blockOf, tw_numberOf, aset_eq, aset_ne, aset_aset, Bool.false_eq_true, not_true_eq_false, not_false_eq_true, f_X13_isConnected_L99, a1, tw_r8', h0, hbl, h1, hadj, h2, not_true_eq_false, tw_w8]
          -- next round: marked, goes out
          obtain ⟨k, rfl⟩ : ∃ k', k = k' + 1 := ⟨k - 1, by omega⟩
          by_cases e2 : j + 1 = nc (A 1)
          · simp (disch := first | omega | assumption) only [tw_rcv, tw_r1, tw_r2, tw_r3, tw_r5, tw_r7, tw_r12, tw_r14, tw_r15, tw_r16, tw_r17, tw_r18, Option.bind_some, lit_I, I_add, I_mul, I_le, I_lt, I_eq, if_neg, if_pos, if_true, if_false, I_10, I_01, bit_T, bit_F, bit_F', bit_0, bit_1, gb_bit, tw_s, tw_rw, tw_cells, tw_blockOf, tw_numberOf, aset_eq, aset_ne, aset_aset, Bool.false_eq_true, not_true_eq_false, not_false_eq_true, f_X13_isConnected_L99, a1, e2]
          · simp (disch := first | omega | assumption) only [tw_rcv, tw_r1, tw_r2, tw_r3, tw_r5, tw_r7, tw_r12, tw_r14, tw_r15, tw_r16, tw_r17, tw_r18, Option.bind_some, lit_I, I_add, I_mul, I_le, I_lt, I_eq, if_neg, if_pos, if_true, if_false, I_10, I_01, bit_T, bit_F, bit_F', bit_0, bit_1, gb_bit, tw_s, tw_rw, tw_cells, tw_blockOf, tw_numberOf, aset_eq, aset_ne, aset_aset, Bool.false_eq_true, not_true_eq_false, not_false_eq_true, f_X13_isConnected_L99, a1, tw_r8', nup_eq]
        | false =>
          have := ih (j + 1) (by omega) (by omega) (fun d hd hd1 => by
            rcases Nat.lt_succ_iff_lt_or_eq.mp hd with h3 | h3
            · exact hno d h3 hd1
            · rw [h3]; exact h2)
          have e3 : f_X13_isConnected_L99 r76 r87 (k + 1) (some m) (I b) (bz but) (I g) (I c) (I j) (TW m v (aset A 8 M) h) = f_X13_isConnected_L99 r76 r87 k (some m) (I b) (bz but) (I g) (I c) (I (j + 1)) (TW m v (aset A 8 M) h) := by
            rw [f_X13_isConnected_L99]
            simp (disch := first | omega | assumption) only [tw_rcv, tw_r1, tw_r2, tw_r3, tw_r5, tw_r7, tw_r12, tw_r14, tw_r15, tw_r16, tw_r17, tw_r18, Option.bind_some, lit_I, I_add, I_mul, I_le, I_lt, I_eq, if_neg, if_pos, if_true, if_false, I_10, I_01, bit_T, bit_F, bit_F', bit_0, bit_1, gb_bit, tw_s, tw_rw, tw_cells, tw_blockOf, tw_numberOf, aset_eq, aset_ne, aset_aset, Bool.false_eq_true, not_true_eq_false, not_false_eq_true, a1, tw_r8', h0, hbl, h1, hadj, h2, not_false_eq_true]
          rw [e3]; exact this
      · have := ih (j + 1) (by omega) (by omega) (fun d hd hd1 => by
          rcases Nat.lt_succ_iff_lt_or_eq.mp hd with h3 | h3
          · exact hno d h3 hd1
          · rw [h3] at hd1; exact absurd hd1 h1)
        have e3 : f_X13_isConnected_L99 r76 r87 (k + 1) (some m) (I b) (bz but) (I g) (I c) (I j) (TW m v (aset A 8 M) h) = f_X13_isConnected_L99 r76 r87 k (some m) (I b) (bz but) (I g) (I c) (I (j + 1)) (TW m v (aset A 8 M) h) := by
          rw [f_X13_isConnected_L99]
          simp (disch := first | omega | assumption) only [tw_rcv, tw_r1, tw_r2, tw_r3, tw_r5, tw_r7, tw_r12, tw_r14, tw_r15, tw_r16, tw_r17, tw_r18, Option.bind_some, lit_I, I_add, I_mul, I_le, I_lt, I_eq, if_neg, if_pos, if_true, if_false, I_10, I_01, bit_T, bit_F, bit_F', bit_0, bit_1, gb_bit, tw_s, tw_rw, tw_cells, tw_blockOf, tw_numberOf, aset_eq, aset_ne, aset_aset, Bool.false_eq_true, not_true_eq_false, not_false_eq_true, a1, tw_r8', h0, hbl, h1]
        rw [e3]; exact this
def cnt8 (s M : Nat → Nat) : Nat := sumTo (fun c => bit (M c = 1)) (nc s)
theorem cnt8_le (s M : Nat → Nat) : cnt8 s M ≤ nc s := by
  have : ∀ n, sumTo (fun c => bit (M c = 1)) n ≤ n := by
    intro n
    induction n with
    | zero => exact Nat.le_refl _
    | succ n ih => have := bit_lt (M n = 1); simp only [sumTo]; omega
  exact this _
theorem cnt8_up {s M : Nat → Nat} {c : Nat} (hc : c < nc s) (h0 : M c = 0) : cnt8 s M < cnt8 s (nup M c 1) := by
  refine sumTo_slt (j := c) (fun i hi => ?_) hc ?_
  · by_cases e : i = c
    · subst e; rw [nup_eq, h0]; exact bit_le (by omega)
    · rw [nup_ne e]; exact Nat.le_refl _
  · simp [nup_eq, h0, bit]
/-- one round over the cells -/
theorem tw_k87 {r76 : Option Nat → Int32 → Int32 → Int32 → PH → Option (Int32 × PH)} {b : Nat} {but : Option Nat} (hb : b < 1000000) (hbut : ∀ j, but = some j → j < 1000000) (hA : SB (A 1)) (hP : PG' (A 1)) :
    ∀ (k c : Nat) (M : Nat → Nat) (g : Nat), c ≤ nc (A 1) → nc (A 1) - c < k → MI8 (A 1) b but M → g < 2 →
    ∃ M' g', f_X13_isConnected_L87 r76 k (some m) (I b) (bz but) (I g) (I c) (TW m v (aset A 8 M) h) = r76 (some m) (I b) (bz but) (I g') (TW m v (aset A 8 M') h) ∧ MI8 (A 1) b but M' ∧ g' < 2 ∧ cnt8 (A 1) M ≤ cnt8 (A 1) M' ∧ (∀ d, d < nc (A 1) → M d = 1 → M' d = 1) ∧
      (g' = 0 → g = 0 ∧ M' = M ∧ ∀ e, c ≤ e → e < nc (A 1) → inS (A 1) b but e = true → M e = 0 → ∀ d, d < nc (A 1) → M d = 1 → adjb (A 1 1) e d = false) ∧ (g' = 1 → g = 1 ∨ cnt8 (A 1) M < cnt8 (A 1) M') := by
  have hn := nc_le hP
  have a1 : ∀ M, (aset A 8 M) 1 = A 1 := fun M => aset_ne (by decide)
  intro k
  induction k with
  | zero => intro c M g _ h; omega
  | succ k ih =>
    intro c M g hc hk hM hg
    by_cases e : c = nc (A 1)
    · refine ⟨M, g, ?_, hM, hg, Nat.le_refl _, fun _ _ h => h, fun h0 => ⟨h0, rfl, fun e' h1 h2 => by omega⟩, fun h1 => Or.inl h1⟩
      simp (disch := first | omega | assumption) only [tw_rcv, tw_r1, tw_r2, tw_r3, tw_r5, tw_r7, tw_r12, tw_r14, tw_r15, tw_r16, tw_r17, tw_r18, Option.bind_some, lit_I, I_add, I_mul, I_le, I_lt, I_eq, if_neg, if_pos, if_true, if_false, I_10, I_01, bit_T, bit_F, bit_F', bit_0, bit_1, gb_bit, tw_s, tw_rw, tw_cells, tw_blockOf, tw_numberOf, aset_eq, aset_ne, aset_aset, Bool.false_eq_true, not_true_eq_false, not_false_eq_true, f_X13_isConnected_L87, a1, e]
    · have hc' : c < nc (A 1) := by omega
      have hMs := hM.1
      have hMc := hMs c
      obtain ⟨f0, hF⟩ : ∃ f, FU = f + 1 := ⟨999999, FU_eq⟩
      -- passed over
      have skip : (inS (A 1) b but c = false ∨ M c ≠ 0) → f_X13_isConnected_L87 r76 (k + 1) (some m) (I b) (bz but) (I g) (I c) (TW m v (aset A 8 M) h) = f_X13_isConnected_L87 r76 k (some m) (I b) (bz but) (I g) (I (c + 1)) (TW m v (aset A 8 M) h) := fun hs => by
        rw [f_X13_isConnected_L87]
        simp (disch := first | omega | assumption) only [tw_rcv, tw_r1, tw_r2, tw_r3, tw_r5, tw_r7, tw_r12, tw_r14, tw_r15, tw_r16, tw_r17, tw_r18, Option.bind_some, lit_I, I_add, I_mul, I_le, I_lt, I_eq, if_neg, if_pos, if_true, if_false, I_10, I_01, bit_T, bit_F, bit_F', bit_0, bit_1, gb_bit, tw_s, tw_rw, tw_cells, tw_blockOf, tw_numberOf, aset_eq, aset_ne, aset_aset, Bool.false_eq_true, not_true_eq_false, not_false_eq_true, a1]
        rw [hF]
        by_cases h0 : M c = 0
        · have h1 : inS (A 1) b but c = false := by rcases hs with h | h; · exact h
                                                    · exact absurd h0 h
          by_cases h2 : I c = bz but
          · simp (disch := first | omega | assumption) only [tw_rcv, tw_r1, tw_r2, tw_r3, tw_r5, tw_r7, tw_r12, tw_r14, tw_r15, tw_r16, tw_r17, tw_r18, Option.bind_some, lit_I, I_add, I_mul, I_le, I_lt, I_eq, if_neg, if_pos, if_true, if_false, I_10, I_01, bit_T, bit_F, bit_F', bit_0, bit_1, gb_bit, tw_s, tw_rw, tw_cells, tw_blockOf, tw_numberOf, aset_eq, aset_ne, aset_aset, Bool.false_eq_true, not_true_eq_false, not_false_eq_true, f_X13_isConnected_L99, a1, tw_r8', h0]
          · have h3 : ¬ A 1 (8 + c) = b := fun q => by
              have h4 : ¬ but = some c := fun q' => h2 ((bz_eq (by omega) hbut).mpr q')
              simp [inS, q, h4] at h1
            have h5 := hA (8 + c)
            simp (disch := first | omega | assumption) only [tw_rcv, tw_r1, tw_r2, tw_r3, tw_r5, tw_r7, tw_r12, tw_r14, tw_r15, tw_r16, tw_r17, tw_r18, Option.bind_some, lit_I, I_add, I_mul, I_le, I_lt, I_eq, if_neg, if_pos, if_true, if_false, I_10, I_01, bit_T, bit_F, bit_F', bit_0, bit_1, gb_bit, tw_s, tw_rw, tw_cells, tw_blockOf, tw_numberOf, aset_eq, aset_ne, aset_aset, Bool.false_eq_true, not_true_eq_false, not_false_eq_true, f_X13_isConnected_L99, a1, tw_r8', h0]
        · simp (disch := first | omega | assumption) only [tw_rcv, tw_r1, tw_r2, tw_r3, tw_r5, tw_r7, tw_r12, tw_r14, tw_r15, tw_r16, tw_r17, tw_r18, Option.bind_some, lit_I, I_add, I_mul, I_le, I_lt, I_eq, if_neg, if_pos, if_true, if_false, I_10, I_01, bit_T, bit_F, bit_F', bit_0, bit_1, gb_bit, tw_s, tw_rw, tw_cells, tw_blockOf, tw_numberOf, aset_eq, aset_ne, aset_aset, Bool.false_eq_true, not_true_eq_false, not_false_eq_true, f_X13_isConnected_L99, a1, tw_r8']
      by_cases hs : inS (A 1) b but c = false ∨ M c ≠ 0
      · obtain ⟨M', g', b1, b2, b3, b4, b5, b6, b7⟩ := ih (c + 1) M g (by omega) (by omega) hM hg
        refine ⟨M', g', by rw [skip hs, b1], b2, b3, b4, b5, fun h0 => ?_, b7⟩
        obtain ⟨c1, c2, c3⟩ := b6 h0
        refine ⟨c1, c2, fun e' h1 h2 h3 h4 d hd hd1 => ?_⟩
        by_cases q : e' = c
        · subst q
          rcases hs with h5 | h5
          · rw [h3] at h5; cases h5
          · exact absurd h4 h5
        · exact c3 e' (by omega) h2 h3 h4 d hd hd1
      · have hi' : inS (A 1) b but c = true := by
          cases hq : inS (A 1) b but c with
          | true => rfl
          | false => exact absurd (Or.inl hq) hs
        have h0 : M c = 0 := by
          rcases Nat.eq_zero_or_pos (M c) with h | h
          · exact h
          · exact absurd (Or.inr (by omega)) hs
        have e4 : f_X13_isConnected_L87 r76 (k + 1) (some m) (I b) (bz but) (I g) (I c) (TW m v (aset A 8 M) h) = f_X13_isConnected_L99 r76 (f_X13_isConnected_L87 r76 k) FU (some m) (I b) (bz but) (I g) (I c) (I 0) (TW m v (aset A 8 M) h) := by
          rw [f_X13_isConnected_L87]
          simp (disch := first | omega | assumption) only [tw_rcv, tw_r1, tw_r2, tw_r3, tw_r5, tw_r7, tw_r12, tw_r14, tw_r15, tw_r16, tw_r17, tw_r18, Option.bind_some, lit_I, I_add, I_mul, I_le, I_lt, I_eq, if_neg, if_pos, if_true, if_false, I_10, I_01, bit_T, bit_F, bit_F', bit_0, bit_1, gb_bit, tw_s, tw_rw, tw_cells, tw_blockOf, tw_numberOf, aset_eq, aset_ne, aset_aset, Bool.false_eq_true, not_true_eq_false, not_false_eq_true, a1]
        rcases tw_k99 (r76 := r76) (r87 := f_X13_isConnected_L87 r76 k) (m := m) (v := v) (h := h) hb hbut hc' hA hP M hM hi' h0 g FU 0 (by omega) (by rw [FU_eq]; omega) (fun d hd => by omega) with ⟨d1, d2⟩ | ⟨d1, d2⟩
        · obtain ⟨M', g', b1, b2, b3, b4, b5, b6, b7⟩ := ih (c + 1) (nup M c 1) 1 (by omega) (by omega) d2 (by decide)
          have hup := cnt8_up hc' h0
          refine ⟨M', g', by rw [e4, d1, b1], b2, b3, by omega, fun d hd hd1 => b5 d hd ?_, fun h => ?_, fun _ => Or.inr (by omega)⟩
          · by_cases q : d = c
            · subst q; rw [nup_eq]
            · rw [nup_ne q]; exact hd1
          · have := (b6 h).1; omega
        · obtain ⟨M', g', b1, b2, b3, b4, b5, b6, b7⟩ := ih (c + 1) M g (by omega) (by omega) hM hg
          refine ⟨M', g', by rw [e4, d1, b1], b2, b3, b4, b5, fun h => ?_, b7⟩
          obtain ⟨c1, c2, c3⟩ := b6 h
          refine ⟨c1, c2, fun e' h1 h2 h3 h4 d hd hd1 => ?_⟩
          by_cases q : e' = c
          · subst q; exact d2 d hd hd1
          · exact c3 e' (by omega) h2 h3 h4 d hd hd1
theorem tw_k188 {b : Nat} {but : Option Nat} (hbut : ∀ j, but = some j → j < 1000000) (hb : b < 1000000) (hA : SB (A 1)) (hP : PG' (A 1)) {M : Nat → Nat} (hM : SB M) :
    f_X13_isConnected_L188 FU (some m) (I b) (bz but) (I 1) (I 0) (TW m v (aset A 8 M) h) = some (I (bit (allB (fun c => !(inS (A 1) b but c) || M c == 1) (nc (A 1)) = true)), TW m v (aset A 8 M) h) := by
  have hn := nc_le hP
  have a1 : ∀ M, (aset A 8 M) 1 = A 1 := fun M => aset_ne (by decide)
  refine loop_FU (fun k (p : Nat × Nat) => f_X13_isConnected_L188 k (some m) (I b) (bz but) (I p.1) (I p.2) (TW m v (aset A 8 M) h)) (fun k => (bit (allB (fun c => !(inS (A 1) b but c) || M c == 1) k = true), k)) (nc (A 1)) _ (by omega) (fun k j hj => ?_) (fun k => ?_)
  · have h1 := hM j
    have h2 := hA (8 + j)
    cases hb' : allB (fun c => !(inS (A 1) b but c) || M c == 1) j with
    | false => simp (disch := first | omega | assumption) only [tw_rcv, tw_r1, tw_r2, tw_r3, tw_r5, tw_r7, tw_r12, tw_r14, tw_r15, tw_r16, tw_r17, tw_r18, Option.bind_some, lit_I, I_add, I_mul, I_le, I_lt, I_eq, if_neg, if_pos, if_true, if_false, I_10, I_01, bit_T, bit_F, bit_F', bit_0, bit_1, gb_bit, tw_s, tw_rw, tw_cells, tw_blockOf, tw_numberOf, aset_eq, aset_ne, aset_aset, Bool.false_eq_true, not_true_eq_false, not_false_eq_true, f_X13_isConnected_L188, a1, allB, hb', Bool.false_and]
    | true =>
      by_cases h3 : I j = bz but
      · have h4 := (bz_eq (by omega) hbut).mp h3
        simp (disch := first | omega | assumption) only [tw_rcv, tw_r1, tw_r2, tw_r3, tw_r5, tw_r7, tw_r12, tw_r14, tw_r15, tw_r16, tw_r17, tw_r18, Option.bind_some, lit_I, I_add, I_mul, I_le, I_lt, I_eq, if_neg, if_pos, if_true, if_false, I_10, I_01, bit_T, bit_F, bit_F', bit_0, bit_1, gb_bit, tw_s, tw_rw, tw_cells, tw_blockOf, tw_numberOf, aset_eq, aset_ne, aset_aset, Bool.false_eq_true, not_true_eq_false, not_false_eq_true, f_X13_isConnected_L188, a1, allB, hb', Bool.true_and]
        simp [inS, h4, bit]
      · have h4 : ¬ but = some j := fun q => h3 ((bz_eq (by omega) hbut).mpr q)
        by_cases h5 : A 1 (8 + j) = b
        · by_cases h6 : M j = 1
          · simp (disch := first | omega | assumption) only [tw_rcv, tw_r1, tw_r2, tw_r3, tw_r5, tw_r7, tw_r12, tw_r14, tw_r15, tw_r16, tw_r17, tw_r18, Option.bind_some, lit_I, I_add, I_mul, I_le, I_lt, I_eq, if_neg, if_pos, if_true, if_false, I_10, I_01, bit_T, bit_F, bit_F', bit_0, bit_1, gb_bit, tw_s, tw_rw, tw_cells, tw_blockOf, tw_numberOf, aset_eq, aset_ne, aset_aset, Bool.false_eq_true, not_true_eq_false, not_false_eq_true, f_X13_isConnected_L188, a1, allB, hb', Bool.true_and, h5, tw_r8', h6]
            simp [bit]
          · simp (disch := first | omega | assumption) only [tw_rcv, tw_r1, tw_r2, tw_r3, tw_r5, tw_r7, tw_r12, tw_r14, tw_r15, tw_r16, tw_r17, tw_r18, Option.bind_some, lit_I, I_add, I_mul, I_le, I_lt, I_eq, if_neg, if_pos, if_true, if_false, I_10, I_01, bit_T, bit_F, bit_F', bit_0, bit_1, gb_bit, tw_s, tw_rw, tw_cells, tw_blockOf, tw_numberOf, aset_eq, aset_ne, aset_aset, Bool.false_eq_true, not_true_eq_false, not_false_eq_true, f_X13_isConnected_L188, a1, allB, hb', Bool.true_and, h5, tw_r8']
            simp [inS, h4, h5, h6, bit]
        · simp (disch := first | omega | assumption) only [tw_rcv, tw_r1, tw_r2, tw_r3, tw_r5, tw_r7, tw_r12, tw_r14, tw_r15, tw_r16, tw_r17, tw_r18, Option.bind_some, lit_I, I_add, I_mul, I_le, I_lt, I_eq, if_neg, if_pos, if_true, if_false, I_10, I_01, bit_T, bit_F, bit_F', bit_0, bit_1, gb_bit, tw_s, tw_rw, tw_cells, tw_blockOf, tw_numberOf, aset_eq, aset_ne, aset_aset, Bool.false_eq_true, not_true_eq_false, not_false_eq_true, f_X13_isConnected_L188, a1, allB, hb', Bool.true_and]
          simp [inS, h5, bit]
  · simp (disch := first | omega | assumption) only [tw_rcv, tw_r1, tw_r2, tw_r3, tw_r5, tw_r7, tw_r12, tw_r14, tw_r15, tw_r16, tw_r17, tw_r18, Option.bind_some, lit_I, I_add, I_mul, I_le, I_lt, I_eq, if_neg, if_pos, if_true, if_false, I_10, I_01, bit_T, bit_F, bit_F', bit_0, bit_1, gb_bit, tw_s, tw_rw, tw_cells, tw_blockOf, tw_numberOf, aset_eq, aset_ne, aset_aset, Bool.false_eq_true, not_true_eq_false, not_false_eq_true, f_X13_isConnected_L188, a1]
/-- marks grow to all that hangs together -/
theorem tw_k76 {b f : Nat} {but : Option Nat} (hb : b < 1000000) (hbut : ∀ j, but = some j → j < 1000000) (hA : SB (A 1)) (hP : PG' (A 1)) (hf : firstI (inS (A 1) b but) (nc (A 1)) = some f) :
    ∀ (k : Nat) (M : Nat → Nat), nc (A 1) - cnt8 (A 1) M + 1 < k → MI8 (A 1) b but M → M f = 1 →
    ∃ (M' : Nat → Nat) (r : Bool), f_X13_isConnected_L76 k (some m) (I b) (bz but) (I 1) (TW m v (aset A 8 M) h) = some (I (bit (r = true)), TW m v (aset A 8 M') h) ∧ SB M' ∧ (r = true ↔ Conn (A 1) b but) := by
  have hn := nc_le hP
  have a1 : ∀ M, (aset A 8 M) 1 = A 1 := fun M => aset_ne (by decide)
  have hfs := (firstI_some.mp hf)
  intro k
  induction k with
  | zero => intro M h; omega
  | succ k ih =>
    intro M hk hM hMf
    have hle := cnt8_le (A 1) M
    obtain ⟨M', g', b1, b2, b3, b4, b5, b6, b7⟩ := tw_k87 (m := m) (v := v) (h := h) (r76 := f_X13_isConnected_L76 k) hb hbut hA hP FU 0 M 0 (by omega) (by rw [FU_eq]; omega) hM (by decide)
    have e1 : f_X13_isConnected_L76 (k + 1) (some m) (I b) (bz but) (I 1) (TW m v (aset A 8 M) h) = f_X13_isConnected_L76 k (some m) (I b) (bz but) (I g') (TW m v (aset A 8 M') h) := by
      rw [← b1, f_X13_isConnected_L76]
      simp (disch := first | omega | assumption) only [tw_rcv, tw_r1, tw_r2, tw_r3, tw_r5, tw_r7, tw_r12, tw_r14, tw_r15, tw_r16, tw_r17, tw_r18, Option.bind_some, lit_I, I_add, I_mul, I_le, I_lt, I_eq, if_neg, if_pos, if_true, if_false, I_10, I_01, bit_T, bit_F, bit_F', bit_0, bit_1, gb_bit, tw_s, tw_rw, tw_cells, tw_blockOf, tw_numberOf, aset_eq, aset_ne, aset_aset, Bool.false_eq_true, not_true_eq_false, not_false_eq_true]
    have hle' := cnt8_le (A 1) M'
    rw [e1]
    by_cases hg : g' = 0
    · obtain ⟨-, rfl, c3⟩ := b6 hg
      subst hg
      obtain ⟨k, rfl⟩ : ∃ k', k = k' + 1 := ⟨k - 1, by omega⟩
      refine ⟨M', allB (fun c => !(inS (A 1) b but c) || M' c == 1) (nc (A 1)), ?_, hM.1, ?_⟩
      · rw [f_X13_isConnected_L76]
        simp (disch := first | omega | assumption) only [tw_rcv, tw_r1, tw_r2, tw_r3, tw_r5, tw_r7, tw_r12, tw_r14, tw_r15, tw_r16, tw_r17, tw_r18, Option.bind_some, lit_I, I_add, I_mul, I_le, I_lt, I_eq, if_neg, if_pos, if_true, if_false, I_10, I_01, bit_T, bit_F, bit_F', bit_0, bit_1, gb_bit, tw_s, tw_rw, tw_cells, tw_blockOf, tw_numberOf, aset_eq, aset_ne, aset_aset, Bool.false_eq_true, not_true_eq_false, not_false_eq_true]
        exact tw_k188 hbut hb hA hP hM.1
      · rw [allB_iff]
        constructor
        · intro hall X hX1 hX2 c hc hcs
          have := hall c hc
          rw [hcs] at this
          rcases hM.2 c hc with h0 | ⟨-, -, h1⟩
          · rw [h0] at this; simp at this
          · exact h1 X hX1 hX2
        · intro hC c hc
          cases hcs : inS (A 1) b but c with
          | false => rfl
          | true =>
            have := hC (fun c => M' c == 1) (fun f' hf' => by rw [hf] at hf'; cases hf'; simpa using hMf) (fun c d hc hd h1 h2 h3 h4 => by
              rcases hM.2 c hc with h0 | ⟨h0, -, -⟩
              · have := c3 c (Nat.zero_le _) hc h1 h0 d hd (by simpa using h3)
                rw [this] at h4; cases h4
              · simp [h0]) c hc hcs
            simpa using this
    · have hg1 : g' = 1 := by omega
      subst hg1
      have h8 : cnt8 (A 1) M < cnt8 (A 1) M' := by rcases b7 rfl with h | h; · omega
                                                   · exact h
      exact ih M' (by omega) b2 (b5 f hfs.1 hMf)
theorem tw_isConnected {b : Nat} {but : Option Nat} (hb : b < 1000000) (hbut : ∀ j, but = some j → j < 1000000) (hA : AB A) (hP : PG' (A 1)) :
    ∃ (M' : Nat → Nat) (r : Bool), f_X13_isConnected (some m) (I b) (bz but) (TW m v A h) = some (I (bit (r = true)), TW m v (aset A 8 M') h) ∧ SB M' ∧ (r = true ↔ Conn (A 1) b but) := by
  have hn := nc_le hP
  have hA1 : SB (A 1) := hA 1
  have a1 : ∀ M, (aset A 8 M) 1 = A 1 := fun M => aset_ne (by decide)
  unfold f_X13_isConnected
  have hM0 : SB (wTo (fun _ => 0) (A 8) (nc (A 1))) := by intro j; unfold wTo; have := hA 8 j; (split <;> first | exact this | (show 0 < 1000000; decide))
  have key := loop_FU (fun k (p : Int32 × Nat × (Nat → Nat)) => f_X13_isConnected_L6 k (some m) (I b) (bz but) p.1 (I p.2.1) (TW m v (aset A 8 p.2.2) h)) (fun i => (cz (firstI (inS (A 1) b but) i), i, wTo (fun _ => 0) (A 8) i)) (nc (A 1)) (match firstI (inS (A 1) b but) (nc (A 1)) with | none => some (I 1, TW m v (aset A 8 (wTo (fun _ => 0) (A 8) (nc (A 1)))) h) | some f => f_X13_isConnected_L76 FU (some m) (I b) (bz but) (I 1) (TW m v (aset A 8 (nup (wTo (fun _ => 0) (A 8) (nc (A 1))) f 1)) h)) (by omega) (fun k i hi => ?_) (fun k => ?_)
  · simp only [wTo_0, aset_self] at key
    have e0 : cz (firstI (inS (A 1) b but) 0) = -99 := rfl
    rw [e0] at key
    have e : f_X13_isConnected_L6 FU (some m) (I b) (bz but) (-99) 0 (TW m v A h) = _ := key
    rw [e]
    cases hf : firstI (inS (A 1) b but) (nc (A 1)) with
    | none =>
      refine ⟨wTo (fun _ => 0) (A 8) (nc (A 1)), true, ?_, hM0, ?_⟩
      · simp [bit]
      · simp only [true_iff]
        intro X _ _ c hc hcs
        rw [firstI_none] at hf
        rw [hf c hc] at hcs; cases hcs
    | some f =>
      have hfs := firstI_some.mp hf
      refine tw_k76 hb hbut hA1 hP hf FU _ (by rw [FU_eq]; omega) ⟨nup_lt hM0 (by decide), fun c hc => ?_⟩ nup_eq
      by_cases q : c = f
      · subst q
        rw [nup_eq]
        exact Or.inr ⟨rfl, hfs.2.1, fun X h1 _ => h1 c hf⟩
      · rw [nup_ne q]; left; unfold wTo; rw [if_pos hc]
  · have h5 := hA1 (8 + i)
    have e1 : nup (wTo (fun _ => 0) (A 8) i) i 0 = wTo (fun _ => 0) (A 8) (i + 1) := wTo_up (f := fun _ => 0)
    cases hf : firstI (inS (A 1) b but) i with
    | some f =>
      have hfl := (firstI_some.mp hf).1
      simp (disch := first | omega | assumption) only [tw_rcv, tw_r1, tw_r2, tw_r3, tw_r5, tw_r7, tw_r12, tw_r14, tw_r15, tw_r16, tw_r17, tw_r18, Option.bind_some, lit_I, I_add, I_mul, I_le, I_lt, I_eq, if_neg, if_pos, if_true, if_false, I_10, I_01, bit_T, bit_F, bit_F', bit_0, bit_1, gb_bit, tw_s, tw_rw, tw_cells, tw_blockOf, tw_numberOf, aset_eq, aset_ne, aset_aset, Bool.false_eq_true, not_true_eq_false, not_false_eq_true, f_X13_isConnected_L6, a1, tw_w8, e1, firstI_snoc, hf, cz, cz_none_ne]
    | none =>
      by_cases h2 : I i = bz but
      · have h4 := (bz_eq (by omega) hbut).mp h2
        have h6 : inS (A 1) b but i = false := by simp [inS, h4]
        simp (disch := first | omega | assumption) only [tw_rcv, tw_r1, tw_r2, tw_r3, tw_r5, tw_r7, tw_r12, tw_r14, tw_r15, tw_r16, tw_r17, tw_r18, Option.bind_some, lit_I, I_add, I_mul, I_le, I_lt, I_eq, if_neg, if_pos, if_true, if_false, I_10, I_01, bit_T, bit_F, bit_F', bit_0, bit_1, gb_bit, tw_s, tw_rw, tw_cells, tw_blockOf, tw_numberOf, aset_eq, aset_ne, aset_aset, Bool.false_eq_true, not_true_eq_false, not_false_eq_true, f_X13_isConnected_L6, a1, tw_w8, e1, firstI_snoc, hf, cz, h6]
      · have h4 : ¬ but = some i := fun q => h2 ((bz_eq (by omega) hbut).mpr q)
        by_cases h3 : A 1 (8 + i) = b
        · have h6 : inS (A 1) b but i = true := by simp [inS, h4, h3]
          simp (disch := first | omega | assumption) only [tw_rcv, tw_r1, tw_r2, tw_r3, tw_r5, tw_r7, tw_r12, tw_r14, tw_r15, tw_r16, tw_r17, tw_r18, Option.bind_some, lit_I, I_add, I_mul, I_le, I_lt, I_eq, if_neg, if_pos, if_true, if_false, I_10, I_01, bit_T, bit_F, bit_F', bit_0, bit_1, gb_bit, tw_s, tw_rw, tw_cells, tw_blockOf, tw_numberOf, aset_eq, aset_ne, aset_aset, Bool.false_eq_true, not_true_eq_false, not_false_eq_true, f_X13_isConnected_L6, a1, tw_w8, e1, firstI_snoc, hf, cz, h6, h3]
        · have h6 : inS (A 1) b but i = false := by simp [inS, h3]
          simp (disch := first | omega | assumption) only [tw_rcv, tw_r1, tw_r2, tw_r3, tw_r5, tw_r7, tw_r12, tw_r14, tw_r15, tw_r16, tw_r17, tw_r18, Option.bind_some, lit_I, I_add, I_mul, I_le, I_lt, I_eq, if_neg, if_pos, if_true, if_false, I_10, I_01, bit_T, bit_F, bit_F', bit_0, bit_1, gb_bit, tw_s, tw_rw, tw_cells, tw_blockOf, tw_numberOf, aset_eq, aset_ne, aset_aset, Bool.false_eq_true, not_true_eq_false, not_false_eq_true, f_X13_isConnected_L6, a1, tw_w8, e1, firstI_snoc, hf, cz, h6]
  · cases hf : firstI (inS (A 1) b but) (nc (A 1)) with
    | none => simp (disch := first | omega | assumption) only [tw_rcv, tw_r1, tw_r2, tw_r3, tw_r5, tw_r7, tw_r12, tw_r14, tw_r15, tw_r16, tw_r17, tw_r18, Option.bind_some, lit_I, I_add, I_mul, I_le, I_lt, I_eq, if_neg, if_pos, if_true, if_false, I_10, I_01, bit_T, bit_F, bit_F', bit_0, bit_1, gb_bit, tw_s, tw_rw, tw_cells, tw_blockOf, tw_numberOf, aset_eq, aset_ne, aset_aset, Bool.false_eq_true, not_true_eq_false, not_false_eq_true, f_X13_isConnected_L6, a1, cz]
    | some f =>
      have hfl := (firstI_some.mp hf).1
      simp (disch := first | omega | assumption) only [tw_rcv, tw_r1, tw_r2, tw_r3, tw_r5, tw_r7, tw_r12, tw_r14, tw_r15, tw_r16, tw_r17, tw_r18, Option.bind_some, lit_I, I_add, I_mul, I_le, I_lt, I_eq, if_neg, if_pos, if_true, if_false, I_10, I_01, bit_T, bit_F, bit_F', bit_0, bit_1, gb_bit, tw_s, tw_rw, tw_cells, tw_blockOf, tw_numberOf, aset_eq, aset_ne, aset_aset, Bool.false_eq_true, not_true_eq_false, not_false_eq_true, f_X13_isConnected_L6, a1, cz, cz_none_ne, tw_w8]
end TWk
