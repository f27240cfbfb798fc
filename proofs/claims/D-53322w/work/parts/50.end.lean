/-! PLAIN LAW: the reference goes to the end -/
set_option maxRecDepth 100000
def strW (w : Nat → Nat) (c n : Nat) : Nat → Nat := nup w c (andn (w c) (1 <<< n))
/-- what can be struck: the numbers 1 to 6 -/
def p6 (a : Nat) : Nat := sumTo (fun k => bit (a.testBit (k + 1) = true)) 6
def mu (s w : Nat → Nat) : Nat := sumTo (fun c => p6 (w c)) (nc s)
theorem sumTo_le {f g : Nat → Nat} : ∀ {n}, (∀ i, i < n → f i ≤ g i) → sumTo f n ≤ sumTo g n := by
  intro n
  induction n with
  | zero => intro _; exact Nat.le_refl _
  | succ n ih => intro hf; have h1 := hf n (by omega); have h2 := ih (fun i hi => hf i (by omega)); simp only [sumTo]; omega
theorem sumTo_slt {f g : Nat → Nat} : ∀ {n j}, (∀ i, i < n → f i ≤ g i) → j < n → f j < g j → sumTo f n < sumTo g n := by
  intro n
  induction n with
  | zero => intro j _ h; omega
  | succ n ih =>
    intro j hf hj hlt
    simp only [sumTo]
    by_cases e : j = n
    · subst e
      have h2 := sumTo_le (n := j) (fun i hi => hf i (by omega))
      omega
    · have h1 := hf n (by omega)
      have h2 := ih (j := j) (fun i hi => hf i (by omega)) (by omega) hlt
      omega
theorem bit_le {p q : Prop} [Decidable p] [Decidable q] (h : p → q) : bit p ≤ bit q := by
  unfold bit
  by_cases hp : p
  · simp [hp, h hp]
  · simp [hp]
theorem sh1_tb (n k : Nat) : (1 <<< n).testBit k = decide (k = n) := by
  rw [Nat.one_shiftLeft, Nat.testBit_two_pow]
  exact decide_eq_decide.mpr eq_comm
theorem p6_le (a : Nat) : p6 a ≤ 6 := by
  have := sumTo_lt' (n := 6) (f := fun k => bit (a.testBit (k + 1) = true)) (B := 2) (fun i _ => bit_lt _)
  have h : ∀ n, sumTo (fun k => bit (a.testBit (k + 1) = true)) n ≤ n := by
    intro n
    induction n with
    | zero => exact Nat.le_refl _
    | succ n ih => have := bit_lt (a.testBit (n + 1) = true); simp only [sumTo]; omega
  exact h 6
theorem mu_le (s w : Nat → Nat) : mu s w ≤ nc s * 6 := by
  unfold mu
  have : ∀ n, sumTo (fun c => p6 (w c)) n ≤ n * 6 := by
    intro n
    induction n with
    | zero => simp [sumTo]
    | succ n ih => have := p6_le (w n); simp only [sumTo, Nat.succ_mul]; omega
  exact this _
theorem p6_str {a n : Nat} (h1 : 1 ≤ n) (h6 : n ≤ 6) (hb : a.testBit n = true) : p6 (andn a (1 <<< n)) < p6 a := by
  refine sumTo_slt (j := n - 1) (fun i hi => bit_le ?_) (by omega) ?_
  · rw [andn_tb]; simp only [Bool.and_eq_true]; exact And.left
  · have e : n - 1 + 1 = n := by omega
    simp [e, andn_tb, hb, sh1_tb, bit]
theorem mu_str {s w : Nat → Nat} {c n : Nat} (hc : c < nc s) (h1 : 1 ≤ n) (h6 : n ≤ 6) (hb : (w c).testBit n = true) : mu s (strW w c n) < mu s w := by
  refine sumTo_slt (j := c) (fun i hi => ?_) hc ?_
  · by_cases e : i = c
    · subst e; simp only [strW, nup_eq]; exact Nat.le_of_lt (p6_str h1 h6 hb)
    · simp only [strW, nup_ne e]; exact Nat.le_refl _
  · simp only [strW, nup_eq]; exact p6_str h1 h6 hb
/-- steps and the board at the end -/
def goN (s : Nat → Nat) (rules : Nat) : Nat → (Nat → Nat) → List SP4 × (Nat → Nat)
  | 0, w => ([], w)
  | k + 1, w => match findS s w rules with
    | none => ([], w)
    | some t => (t :: (goN s rules k (strW w t.2.1 t.2.2.1)).1, (goN s rules k (strW w t.2.1 t.2.2.1)).2)
def goE (s : Nat → Nat) (rules : Nat) (w : Nat → Nat) : List SP4 × (Nat → Nat) := goN s rules 151 w
theorem goN_len {s : Nat → Nat} {rules : Nat} : ∀ k w, (goN s rules k w).1.length ≤ k ∧ (goN s rules k w).1.length ≤ mu s w := by
  intro k
  induction k with
  | zero => intro w; simp [goN]
  | succ k ih =>
    intro w
    cases hf : findS s w rules with
    | none => simp [goN, hf]
    | some t =>
      obtain ⟨-, h1, h2, h3, h4, h5, h6, h7⟩ := findS_some hf
      have := mu_str h3 h4 h5 h6
      have h8 := ih (strW w t.2.1 t.2.2.1)
      simp only [goN, hf, List.length_cons]
      omega
/-- with rounds enough the end is an end -/
theorem goN_end {s : Nat → Nat} {rules : Nat} : ∀ k w, mu s w < k → findS s (goN s rules k w).2 rules = none ∧ ∀ j, mu s w < j → goN s rules j w = goN s rules k w := by
  intro k
  induction k with
  | zero => intro w h; omega
  | succ k ih =>
    intro w hk
    cases hf : findS s w rules with
    | none =>
      refine ⟨by simp [goN, hf], fun j hj => ?_⟩
      obtain ⟨j, rfl⟩ : ∃ j', j = j' + 1 := ⟨j - 1, by omega⟩
      simp [goN, hf]
    | some t =>
      obtain ⟨-, h1, h2, h3, h4, h5, h6, h7⟩ := findS_some hf
      have h9 := mu_str h3 h4 h5 h6
      have h8 := ih (strW w t.2.1 t.2.2.1) (by omega)
      refine ⟨by simp only [goN, hf]; exact h8.1, fun j hj => ?_⟩
      obtain ⟨j, rfl⟩ : ∃ j', j = j' + 1 := ⟨j - 1, by omega⟩
      simp only [goN, hf]
      rw [h8.2 j (by omega)]
theorem strW_W7 {s w : Nat → Nat} {c n : Nat} (h : W7 s w) : W7 s (strW w c n) := by
  intro d hd
  have := h d hd
  by_cases e : d = c
  · subst e; simp only [strW, nup_eq]; have := andn_le (w d) (1 <<< n); omega
  · simp only [strW, nup_ne e]; exact this
theorem strW_SB {w : Nat → Nat} {c n : Nat} (h : SB w) : SB (strW w c n) := by
  intro d
  have := h d
  by_cases e : d = c
  · subst e; simp only [strW, nup_eq]; have := andn_le (w d) (1 <<< n); omega
  · simp only [strW, nup_ne e]; exact this
theorem goN_W7 {s : Nat → Nat} {rules : Nat} : ∀ k w, W7 s w → W7 s (goN s rules k w).2 := by
  intro k
  induction k with
  | zero => intro w h; exact h
  | succ k ih =>
    intro w h
    cases hf : findS s w rules with
    | none => simp only [goN, hf]; exact h
    | some t => simp only [goN, hf]; exact ih _ (strW_W7 h)
theorem goN_SB {s : Nat → Nat} {rules : Nat} : ∀ k w, SB w → SB (goN s rules k w).2 := by
  intro k
  induction k with
  | zero => intro w h; exact h
  | succ k ih =>
    intro w h
    cases hf : findS s w rules with
    | none => simp only [goN, hf]; exact h
    | some t => simp only [goN, hf]; exact ih _ (strW_SB h)
/-- a step's parts, as the row of steps has them -/
def prt (t : SP4) (j : Nat) : Nat := match j with | 0 => t.1 | 1 => t.2.1 | 2 => t.2.2.1 | _ => t.2.2.2
/-- the row g has the steps l from the place n on -/
def HS (g : Nat → Nat) (n : Nat) (l : List SP4) : Prop := ∀ k t, l[k]? = some t → ∀ j, j < 4 → g (4 * (n + k) + j) = prt t j
def put4 (g : Nat → Nat) (n : Nat) (t : SP4) : Nat → Nat := nup (nup (nup (nup g (4 * n) t.1) (4 * n + 1) t.2.1) (4 * n + 2) t.2.2.1) (4 * n + 3) t.2.2.2
theorem put4_lo {g : Nat → Nat} {n j : Nat} {t : SP4} (h : j < 4 * n) : put4 g n t j = g j := by
  simp (disch := omega) only [put4, nup_ne]
theorem put4_at {g : Nat → Nat} {n j : Nat} {t : SP4} (h : j < 4) : put4 g n t (4 * n + j) = prt t j := by
  have : j = 0 ∨ j = 1 ∨ j = 2 ∨ j = 3 := by omega
  rcases this with rfl | rfl | rfl | rfl
  · simp (disch := omega) only [put4, nup_ne, Nat.add_zero, nup_eq, prt]
  · simp (disch := omega) only [put4, nup_ne, nup_eq, prt]
  · simp (disch := omega) only [put4, nup_ne, nup_eq, prt]
  · simp (disch := omega) only [put4, nup_ne, nup_eq, prt]
theorem put4_SB {g : Nat → Nat} {n : Nat} {t : SP4} (hg : SB g) (h1 : t.1 < 1000000) (h2 : t.2.1 < 1000000) (h3 : t.2.2.1 < 1000000) (h4 : t.2.2.2 < 1000000) : SB (put4 g n t) := nup_lt (nup_lt (nup_lt (nup_lt hg h1) h2) h3) h4
/-- numbers of the reference that a look at a board may change -/
def VK (v v' : Nat → Int32) : Prop := ∀ k, (k < 8 ∨ 11 < k) → k ≠ 13 → v' k = v k
theorem VK.refl (v : Nat → Int32) : VK v v := fun _ _ _ => rfl
theorem VK.trans {v v' v'' : Nat → Int32} (h1 : VK v v') (h2 : VK v' v'') : VK v v'' := fun k a b => (h2 k a b).trans (h1 k a b)
theorem stp_VK {v : Nat → Int32} {t : SP4} : VK v (stp v t) := fun k a b => by
  simp (disch := omega) only [stp, vup_ne]
theorem vup13_VK {v : Nat → Int32} {x : Int32} : VK v (vup v 13 x) := fun k a b => by
  simp (disch := omega) only [vup_ne]
theorem stp_8 {v : Nat → Int32} {t : SP4} : stp v t 8 = I t.1 := by simp (disch := omega) only [stp, vup_ne, vup_eq]
theorem stp_9 {v : Nat → Int32} {t : SP4} : stp v t 9 = I t.2.1 := by simp (disch := omega) only [stp, vup_ne, vup_eq]
theorem stp_10 {v : Nat → Int32} {t : SP4} : stp v t 10 = I t.2.2.1 := by simp (disch := omega) only [stp, vup_ne, vup_eq]
theorem stp_11 {v : Nat → Int32} {t : SP4} : stp v t 11 = I t.2.2.2 := by simp (disch := omega) only [stp, vup_eq]
theorem stp_13 {v : Nat → Int32} {t : SP4} : stp v t 13 = v 13 := by simp (disch := omega) only [stp, vup_ne]
section TWe
variable {m : Nat} {v : Nat → Int32} {A : Nat → Nat → Nat} {h : PH}
theorem tw_w6 {j x : Nat} (hj : j < 600) : asi 0 (some (m + 6)) (I j) (I x) (TW m v A h) = some (TW m v (aset A 6 (nup (A 6) j x)) h) := tw_w (o := 6) (by decide) hj
theorem tw_end5 {rules : Nat} (hru : rules < 1000000) (hA : SB (A 1)) (hP : PG' (A 1)) (hN : NB (A 1)) : ∀ (k f n : Nat) (v : Nat → Int32) (w g : Nat → Nat), mu (A 1) w < k → k < f → n + mu (A 1) w ≤ 150 → v 13 = I n → W7 (A 1) w → SB w → SB g →
    ∃ v' g', f_X13_goToEnd_L5 f (some m) (I rules) (TW m v (aset (aset A 5 w) 6 g) h) = some (TW m v' (aset (aset A 5 (goN (A 1) rules k w).2) 6 g') h) ∧ VK v v' ∧ v' 13 = I (n + (goN (A 1) rules k w).1.length) ∧ HS g' n (goN (A 1) rules k w).1 ∧ (∀ j, j < 4 * n → g' j = g j) ∧ SB g' := by
  have hn := nc_le hP
  have a1 : ∀ w g, (aset (aset A 5 w) 6 g) 1 = A 1 := fun w g => by rw [aset_ne (by decide), aset_ne (by decide)]
  have a5 : ∀ w g, (aset (aset A 5 w) 6 g) 5 = w := fun w g => by rw [aset_ne (by decide), aset_eq]
  intro k
  induction k with
  | zero => intro f n v w g h1; omega
  | succ k ih =>
    intro f n v w g hmu hkf hlen hv hW hS hg
    obtain ⟨f, rfl⟩ : ∃ f', f = f' + 1 := ⟨f - 1, by omega⟩
    have hfs := tw_findStep (m := m) (v := v) (h := h) (A := aset (aset A 5 w) 6 g) hru (by rw [a1, a5]; exact hW) (by rw [a1]; exact hA) (by rw [a5]; exact hS) (by rw [a1]; exact hP) (by rw [a1]; exact hN)
    rw [a1, a5] at hfs
    cases hf : findS (A 1) w rules with
    | none =>
      rw [hf] at hfs
      refine ⟨v, g, ?_, VK.refl v, ?_, ?_, fun _ _ => rfl, hg⟩
      · simp (disch := first | omega | assumption) only [tw_rcv, tw_r1, tw_r2, tw_r3, tw_r5, tw_r7, tw_r12, tw_r14, tw_r15, tw_r16, tw_r17, tw_r18, Option.bind_some, lit_I, I_add, I_mul, I_le, I_lt, I_eq, if_neg, if_pos, if_true, if_false, I_10, I_01, bit_T, bit_F, bit_F', bit_0, bit_1, gb_bit, tw_s, tw_rw, tw_cells, tw_blockOf, tw_numberOf, aset_eq, aset_ne, aset_aset, Bool.false_eq_true, not_true_eq_false, not_false_eq_true, f_X13_goToEnd_L5, hfs, goN, hf]
      · simp only [goN, hf, List.length_nil, Nat.add_zero]; exact hv
      · intro k t hk; simp [goN, hf] at hk
    | some t =>
      rw [hf] at hfs
      obtain ⟨-, h1, h2, h3, h4, h5, h6, h7⟩ := findS_some hf
      have h8 := cause_lt hP h3 (hW _ h3) h7
      have h9 := mu_str h3 h4 h5 h6
      have ea : ∀ q g, aset (aset (aset A 5 w) 6 g) 5 q = aset (aset A 5 q) 6 g := fun q g => by
        funext o
        by_cases e5 : o = 5
        · subst e5; rw [aset_eq, aset_ne (by decide), aset_eq]
        · rw [aset_ne e5]
          by_cases e6 : o = 6
          · subst e6; rw [aset_eq, aset_eq]
          · rw [aset_ne e6, aset_ne e6, aset_ne e5, aset_ne e5]
      obtain ⟨v', g', b1, b2, b3, b4, b5, b6⟩ := ih f (n + 1) (vup (stp v t) 13 (I (n + 1))) (strW w t.2.1 t.2.2.1) (put4 g n t) (by omega) (by omega) (by omega) (vup_eq _ _) (strW_W7 hW) (strW_SB hS) (put4_SB hg (by omega) (by omega) (by omega) (by omega))
      refine ⟨v', g', ?_, VK.trans (VK.trans stp_VK vup13_VK) b2, ?_, ?_, ?_, b6⟩
      · simp (disch := first | omega | assumption) only [tw_rcv, tw_r1, tw_r2, tw_r3, tw_r5, tw_r7, tw_r12, tw_r14, tw_r15, tw_r16, tw_r17, tw_r18, Option.bind_some, lit_I, I_add, I_mul, I_le, I_lt, I_eq, if_neg, if_pos, if_true, if_false, I_10, I_01, bit_T, bit_F, bit_F', bit_0, bit_1, gb_bit, tw_s, tw_rw, tw_cells, tw_blockOf, tw_numberOf, aset_eq, aset_ne, aset_aset, Bool.false_eq_true, not_true_eq_false, not_false_eq_true, f_X13_goToEnd_L5, hfs, goN, hf, tw_int (k := 8) rfl, tw_int (k := 9) rfl, tw_int (k := 10) rfl, tw_int (k := 11) rfl, tw_int (k := 13) rfl, stp_8, stp_9, stp_10, stp_11, stp_13, hv, tw_ww, tw_w6, I_andnI, I_shlM, I_and, tw_pf (k := 13) rfl, ea, a5]
        exact b1
      · rw [b3]; simp only [goN, hf, List.length_cons]; congr 1; omega
      · intro j u hj i hi
        simp only [goN, hf] at hj
        cases j with
        | zero =>
          simp only [List.getElem?_cons_zero, Option.some.injEq] at hj
          subst hj
          rw [b5 _ (by omega)]
          exact put4_at hi
        | succ j =>
          have := b4 j u (by simpa using hj) i hi
          rw [← this]; congr 1; omega
      · intro j hj
        rw [b5 j (by omega), put4_lo hj]
/-- the reference's end -/
theorem tw_goToEnd {rules : Nat} (hru : rules < 1000000) (hA : AB A) (hP : PG' (A 1)) (hN : NB (A 1)) (hW : W7 (A 1) (A 5)) :
    ∃ v' g', f_X13_goToEnd (some m) (I rules) (TW m v A h) = some (TW m v' (aset (aset A 5 (goE (A 1) rules (A 5)).2) 6 g') h) ∧ VK v v' ∧ v' 13 = I (goE (A 1) rules (A 5)).1.length ∧ HS g' 0 (goE (A 1) rules (A 5)).1 ∧ SB g' := by
  have hn := nc_le hP
  have hm := mu_le (A 1) (A 5)
  obtain ⟨v', g', b1, b2, b3, b4, b5, b6⟩ := tw_end5 (m := m) (h := h) (A := A) hru (hA 1) hP hN 151 FU 0 (vup v 13 (I 0)) (A 5) (A 6) (by omega) (by rw [FU_eq]; omega) (by omega) (vup_eq _ _) hW (hA 5) (hA 6)
  refine ⟨v', g', ?_, VK.trans vup13_VK b2, by rw [b3, Nat.zero_add]; rfl, b4, b6⟩
  simp (disch := first | omega | assumption) only [tw_rcv, tw_r1, tw_r2, tw_r3, tw_r5, tw_r7, tw_r12, tw_r14, tw_r15, tw_r16, tw_r17, tw_r18, Option.bind_some, lit_I, I_add, I_mul, I_le, I_lt, I_eq, if_neg, if_pos, if_true, if_false, I_10, I_01, bit_T, bit_F, bit_F', bit_0, bit_1, gb_bit, tw_s, tw_rw, tw_cells, tw_blockOf, tw_numberOf, aset_eq, aset_ne, aset_aset, Bool.false_eq_true, not_true_eq_false, not_false_eq_true, f_X13_goToEnd, tw_pf (k := 13) rfl]
  rw [aset_self, show aset A 6 (A 6) = A from aset_self] at b1
  exact b1
end TWe
