/-! PLAIN LAW: the reference's looks: the order, what is printed -/
set_option maxRecDepth 100000
/-- a list laid over a row -/
def ordF (g : Nat → Nat) (l : List Nat) : Nat → Nat := fun k => match l[k]? with | some x => x | none => g k
theorem ordF_nil {g : Nat → Nat} : ordF g [] = g := rfl
theorem ordF_snoc {g : Nat → Nat} {l : List Nat} {x : Nat} : nup (ordF g l) l.length x = ordF g (l ++ [x]) := by
  funext k
  unfold nup ordF
  by_cases e : k = l.length
  · subst e; simp
  · rw [if_neg e]
    rcases Nat.lt_or_ge k l.length with h | h
    · rw [List.getElem?_append_left h]
    · rw [List.getElem?_append_right h, List.getElem?_eq_none_iff.mpr h, List.getElem?_eq_none_iff.mpr (by simp; omega)]
theorem ordF_at {g : Nat → Nat} {l : List Nat} {k x : Nat} (h : l[k]? = some x) : ordF g l k = x := by unfold ordF; rw [h]
theorem ordF_SB {g : Nat → Nat} {l : List Nat} (hg : SB g) (hl : ∀ x, x ∈ l → x < 1000000) : SB (ordF g l) := by
  intro k
  unfold ordF
  cases h : l[k]? with
  | none => exact hg k
  | some x => exact hl x (List.mem_of_getElem? h)
theorem sumTo_upd {f f' : Nat → Nat} {n c : Nat} (hc : c < n) (he : ∀ i, i ≠ c → f' i = f i) : sumTo f' n + f c = sumTo f n + f' c := by
  induction n with
  | zero => omega
  | succ n ih =>
    simp only [sumTo]
    by_cases e : c = n
    · subst e
      rw [sumTo_congr (n := c) (f := f') (g := f) (fun i hi => he i (by omega))]; omega
    · have := ih (by omega)
      rw [he n (fun q => e q.symm)]; omega
theorem pc_bits (a : Nat) : pc a = sumTo (fun k => bit (a.testBit k = true)) 31 := sumTo_congr (fun k _ => shr1_bit a k)
theorem pc_str {a n : Nat} (hn : n < 31) (hb : a.testBit n = true) : pc (andn a (1 <<< n)) + 1 = pc a := by
  rw [pc_bits, pc_bits]
  have := sumTo_upd (f := fun k => bit (a.testBit k = true)) (f' := fun k => bit ((andn a (1 <<< n)).testBit k = true)) hn (fun i hi => bit_congr (by rw [andn_tb, sh1_tb]; simp [hi]))
  simp only [hb] at this
  have e : (andn a (1 <<< n)).testBit n = false := by rw [andn_tb, sh1_tb]; simp
  rw [e, bit_F] at this
  rw [bit_T] at this
  exact this
theorem pc_zero {a : Nat} (ha : a < 128) (h : pc a = 0) : a = 0 := by
  rcases Nat.eq_zero_or_pos a with q | q
  · exact q
  · obtain ⟨i, h1, h2⟩ := tb_ex (a := a) (by omega) (by omega)
    have := pc_str h1 h2
    omega
theorem sgL_len (w : Nat → Nat) : ∀ n, (sgL w n).length = sumTo (fun c => if pc (w c) = 1 then 1 else 0) n := by
  intro n
  induction n with
  | zero => rfl
  | succ n ih => simp only [sgL, sumTo, List.length_append, ih]; split <;> rfl
theorem brk_of {s w : Nat → Nat} {c : Nat} (hc : c < nc s) (h : w c = 0) : brk s w = true := by
  unfold brk; rw [anyB_iff]; exact ⟨c, hc, by simp [h]⟩
theorem rnk_len {s : Nat → Nat} {rules : Nat} : ∀ k w, W7 s w → (rnk w (goN s rules k w).1).length + sgl s w ≤ nc s := by
  intro k
  induction k with
  | zero => intro w _; simp [goN, rnk]; exact sgl_le
  | succ k ih =>
    intro w hW
    cases hf : findS s w rules with
    | none => simp [goN, hf, rnk]; exact sgl_le
    | some t =>
      obtain ⟨h0, h1, h2, h3, h4, h5, h6, h7⟩ := findS_some hf
      have hi := ih (strW w t.2.1 t.2.2.1) (strW_W7 hW)
      have hp : pc (strW w t.2.1 t.2.2.1 t.2.1) + 1 = pc (w t.2.1) := by
        unfold strW; rw [nup_eq]; exact pc_str (by omega) h6
      have hu := sumTo_upd (f := fun c => if pc (w c) = 1 then 1 else 0) (f' := fun c => if pc (strW w t.2.1 t.2.2.1 c) = 1 then 1 else 0) h3 (fun i hi => by unfold strW; rw [nup_ne hi])
      have hs := sgl_le (s := s) (w := w)
      unfold sgl at hi hs ⊢
      simp only [goN, hf, rnk, List.length_append]
      by_cases q : pc (strW w t.2.1 t.2.2.1 t.2.1) = 1
      · rw [if_pos q] at hu ⊢
        rw [if_neg (by omega)] at hu
        simp only [List.length_cons, List.length_nil]
        omega
      · rw [if_neg q] at hu ⊢
        simp only [List.length_nil]
        by_cases q2 : pc (w t.2.1) = 1
        · have hz : strW w t.2.1 t.2.2.1 t.2.1 = 0 := pc_zero (strW_W7 (n := t.2.2.1) (c := t.2.1) hW _ h3) (by omega)
          have hb := brk_of h3 hz
          have hn : goN s rules k (strW w t.2.1 t.2.2.1) = ([], strW w t.2.1 t.2.2.1) := by
            cases k with
            | zero => rfl
            | succ k => simp only [goN]; rw [show findS s (strW w t.2.1 t.2.2.1) rules = none by unfold findS; rw [if_pos hb]]
          rw [hn]
          simp only [rnk, List.length_nil]; omega
        · rw [if_neg q2] at hu; omega
theorem rnkL_len {s : Nat → Nat} (hN : NB s) : (rnkL s).length ≤ nc s := by
  have := rnk_len (s := s) (rules := s 2) 151 (fb s) (fb_W7 hN)
  unfold rnkL endF goE
  rw [List.length_append, sgL_len]
  unfold sgl at this
  omega
theorem rnk_congr {n : Nat} : ∀ (l : List SP4) (w w' : Nat → Nat), (∀ t, t ∈ l → t.2.1 < n) → EqN n w w' → rnk w l = rnk w' l := by
  intro l
  induction l with
  | nil => intro w w' _ _; rfl
  | cons t l ih =>
    intro w w' hl hE
    have ht := hl t (by simp)
    have hE' : EqN n (strW w t.2.1 t.2.2.1) (strW w' t.2.1 t.2.2.1) := by
      intro d hd
      by_cases e : d = t.2.1
      · subst e; simp only [strW, nup_eq, hE _ hd]
      · simp only [strW, nup_ne e]; exact hE d hd
    simp only [rnk]
    rw [hE' _ ht, ih _ _ (fun u hu => hl u (by simp [hu])) hE']
theorem rnk_mem {n : Nat} : ∀ (l : List SP4) (w : Nat → Nat), (∀ t, t ∈ l → t.2.1 < n) → ∀ x, x ∈ rnk w l → x < n := by
  intro l
  induction l with
  | nil => intro w _ x hx; cases hx
  | cons t l ih =>
    intro w hl x hx
    simp only [rnk, List.mem_append] at hx
    rcases hx with hx | hx
    · split at hx
      · rw [List.mem_singleton] at hx; rw [hx]; exact hl t (by simp)
      · cases hx
    · exact ih _ (fun u hu => hl u (by simp [hu])) x hx
theorem sgL_mem {w : Nat → Nat} : ∀ n x, x ∈ sgL w n → x < n := by
  intro n
  induction n with
  | zero => intro x h; cases h
  | succ n ih =>
    intro x h
    simp only [sgL, List.mem_append] at h
    rcases h with h | h
    · have := ih x h; omega
    · split at h
      · rw [List.mem_singleton] at h; omega
      · cases h
theorem sgL_congr {w w' : Nat → Nat} : ∀ n, EqN n w w' → sgL w n = sgL w' n := by
  intro n
  induction n with
  | zero => intro _; rfl
  | succ n ih => intro h; simp only [sgL]; rw [ih (fun c hc => h c (by omega)), h n (by omega)]
section TW67
variable {m : Nat} {v : Nat → Int32} {A : Nat → Nat → Nat} {h : PH} {g : GS}
theorem tw_r9' {j : Nat} (hj : j < 25) : ald 0 (some (m + 9)) (I j) (TW m v A h) = some (I (A 9 j)) := tw_ald (o := 9) (by decide) hj
theorem tw_w9 {j x : Nat} (hj : j < 25) : asi 0 (some (m + 9)) (I j) (I x) (TW m v A h) = some (TW m v (aset A 9 (nup (A 9) j x)) h) := tw_w (o := 9) (by decide) hj
theorem tw_rank62 {pl : Nat} {G : Nat → Nat} {l : List SP4} (hpl : pl < 2147483648) (h13 : v 13 = I l.length) (hH : HS (A 6) 0 l) (hl : l.length ≤ 150) (hmem : ∀ t, t ∈ l → t.2.1 < 25 ∧ t.2.2.1 ≤ 6) :
    ∀ (l2 l1 : List SP4) (f : Nat) (w : Nat → Nat) (lst : List Nat), l = l1 ++ l2 → l2.length < f → SB w → (lst ++ rnk w l2).length ≤ 25 →
    ∃ w', f_X13_rank_L62 f (some m) (I pl) (I lst.length) (I l1.length) (TW m v (aset (aset A 5 w) 9 (ordF G lst)) h) = some ((match (lst ++ rnk w l2)[pl]? with | some c => I c | none => -99), TW m v (aset (aset A 5 w') 9 (ordF G (lst ++ rnk w l2))) h) ∧ SB w' := by
  have a6 : ∀ w x, (aset (aset A 5 w) 9 x) 6 = A 6 := fun w x => by rw [aset_ne (by decide), aset_ne (by decide)]
  have a5 : ∀ w x, (aset (aset A 5 w) 9 x) 5 = w := fun w x => by rw [aset_ne (by decide), aset_eq]
  have ea : ∀ w x q, aset (aset (aset A 5 w) 9 x) 5 q = aset (aset A 5 q) 9 x := fun w x q => by rw [aset_comm (by decide), aset_aset]
  intro l2
  induction l2 with
  | nil =>
    intro l1 f w lst hl12 hf hw hb
    obtain ⟨f, rfl⟩ : ∃ f', f = f' + 1 := ⟨f - 1, by omega⟩
    simp only [rnk, List.append_nil] at hb hl12 ⊢
    subst hl12
    refine ⟨w, ?_, hw⟩
    by_cases q : lst.length ≤ pl
    · have e : lst[pl]? = none := List.getElem?_eq_none_iff.mpr q
      simp (disch := first | omega | assumption) only [tw_rcv, tw_r1, tw_r2, tw_r3, tw_r5, tw_r7, tw_r12, tw_r14, tw_r15, tw_r16, tw_r17, tw_r18, Option.bind_some, lit_I, I_add, I_mul, I_le, I_lt, I_eq, if_neg, if_pos, if_true, if_false, I_10, I_01, bit_T, bit_F, bit_F', bit_0, bit_1, gb_bit, tw_s, tw_rw, tw_cells, tw_blockOf, tw_numberOf, aset_eq, aset_ne, aset_aset, Bool.false_eq_true, not_true_eq_false, not_false_eq_true, f_X13_rank_L62, tw_int (k := 13) rfl, h13, e]
    · have e : lst[pl]? = some lst[pl] := List.getElem?_eq_getElem (by omega)
      have e2 := ordF_at (g := G) e
      simp (disch := first | omega | assumption) only [tw_rcv, tw_r1, tw_r2, tw_r3, tw_r5, tw_r7, tw_r12, tw_r14, tw_r15, tw_r16, tw_r17, tw_r18, Option.bind_some, lit_I, I_add, I_mul, I_le, I_lt, I_eq, if_neg, if_pos, if_true, if_false, I_10, I_01, bit_T, bit_F, bit_F', bit_0, bit_1, gb_bit, tw_s, tw_rw, tw_cells, tw_blockOf, tw_numberOf, aset_eq, aset_ne, aset_aset, Bool.false_eq_true, not_true_eq_false, not_false_eq_true, f_X13_rank_L62, tw_int (k := 13) rfl, h13, e, tw_r9', e2]
  | cons t l2 ih =>
    intro l1 f w lst hl12 hf hw hb
    obtain ⟨f, rfl⟩ : ∃ f', f = f' + 1 := ⟨f - 1, by omega⟩
    have hk : l[l1.length]? = some t := by rw [hl12]; simp
    have hlt : l1.length < l.length := by rw [hl12]; simp
    have h61 := hH _ _ hk 1 (by decide)
    have h62 := hH _ _ hk 2 (by decide)
    simp only [Nat.zero_add, prt] at h61 h62
    obtain ⟨ht1, ht2⟩ := hmem t (by rw [hl12]; simp)
    have hwt := hw t.2.1
    have han := andn_le (w t.2.1) (1 <<< t.2.2.1)
    have e5 : nup w t.2.1 (andn (w t.2.1) (1 <<< t.2.2.1)) = strW w t.2.1 t.2.2.1 := rfl
    have e6 : strW w t.2.1 t.2.2.1 t.2.1 = andn (w t.2.1) (1 <<< t.2.2.1) := by unfold strW; rw [nup_eq]
    have hpl1 := pc_le (andn (w t.2.1) (1 <<< t.2.2.1))
    have hl12' : l = (l1 ++ [t]) ++ l2 := by rw [hl12]; simp
    by_cases q : pc (andn (w t.2.1) (1 <<< t.2.2.1)) = 1
    · have er : rnk w (t :: l2) = [t.2.1] ++ rnk (strW w t.2.1 t.2.2.1) l2 := by simp only [rnk]; rw [e6, if_pos q]
      rw [er, ← List.append_assoc] at hb ⊢
      obtain ⟨w', b1, b2⟩ := ih (l1 ++ [t]) f (strW w t.2.1 t.2.2.1) (lst ++ [t.2.1]) hl12' (by simp at hf; omega) (strW_SB hw) hb
      refine ⟨w', ?_, b2⟩
      rw [← b1]
      have hll : lst.length < 25 := by simp at hb; omega
      have e7 := ordF_snoc (g := G) (l := lst) (x := t.2.1)
      simp (disch := first | omega | assumption) only [tw_rcv, tw_r1, tw_r2, tw_r3, tw_r5, tw_r7, tw_r12, tw_r14, tw_r15, tw_r16, tw_r17, tw_r18, Option.bind_some, lit_I, I_add, I_mul, I_le, I_lt, I_eq, if_neg, if_pos, if_true, if_false, I_10, I_01, bit_T, bit_F, bit_F', bit_0, bit_1, gb_bit, tw_s, tw_rw, tw_cells, tw_blockOf, tw_numberOf, aset_eq, aset_ne, aset_aset, Bool.false_eq_true, not_true_eq_false, not_false_eq_true, f_X13_rank_L62, tw_int (k := 13) rfl, h13, tw_r6', a6, h61, h62, a5, I_andnI, I_shlM, I_and, tw_ww, e5, ea, e6, tw_ones, q, tw_w9, e7, List.length_append, List.length_cons, List.length_nil, Nat.zero_add]
    · have er : rnk w (t :: l2) = rnk (strW w t.2.1 t.2.2.1) l2 := by simp only [rnk]; rw [e6, if_neg q]; rfl
      rw [er] at hb ⊢
      obtain ⟨w', b1, b2⟩ := ih (l1 ++ [t]) f (strW w t.2.1 t.2.2.1) lst hl12' (by simp at hf; omega) (strW_SB hw) hb
      refine ⟨w', ?_, b2⟩
      rw [← b1]
      simp (disch := first | omega | assumption) only [tw_rcv, tw_r1, tw_r2, tw_r3, tw_r5, tw_r7, tw_r12, tw_r14, tw_r15, tw_r16, tw_r17, tw_r18, Option.bind_some, lit_I, I_add, I_mul, I_le, I_lt, I_eq, if_neg, if_pos, if_true, if_false, I_10, I_01, bit_T, bit_F, bit_F', bit_0, bit_1, gb_bit, tw_s, tw_rw, tw_cells, tw_blockOf, tw_numberOf, aset_eq, aset_ne, aset_aset, Bool.false_eq_true, not_true_eq_false, not_false_eq_true, f_X13_rank_L62, tw_int (k := 13) rfl, h13, tw_r6', a6, h61, h62, a5, I_andnI, I_shlM, I_and, tw_ww, e5, ea, e6, tw_ones, q, List.length_append, List.length_cons, List.length_nil, Nat.zero_add]
theorem tw_rank {x : Int32} (hT : TI v A g) (hI : RInv g.1) : ∃ v' A', f_X13_rank (some m) x (TW m v A h) = some (r_rank g x, TW m v' A' h) ∧ TI v' A' g := by
  have hP := hI.1.1.1
  have hn := nc_le hP
  have hT0 := TI_v0 (x := I 0) hT
  unfold r_rank
  by_cases h0 : (0 : Int32) ≤ x
  · obtain ⟨ex, hx⟩ := na_pos h0
    generalize na x = pl at ex hx ⊢
    subst ex
    rw [if_pos h0]
    obtain ⟨v', A', e1, e2, -, e3, e4, e5⟩ := tw_endT (m := m) (h := h) hT0 hI
    have s2 : A' 1 = g.1 := e2.2.1
    have hN2 : NB (A' 1) := by rw [s2]; exact hI.1.1.NB
    have hP2 : PG' (A' 1) := by rw [s2]; exact hP
    have hlf := tw_layFirst (m := m) (v := v') (h := h) (A := A') (e2.1 1) hP2 hN2
    rw [s2] at hlf
    have hW7 := fb_W7 hI.1.1.NB
    have hwS : SB (wTo (fb g.1) (A' 5) (nc g.1)) := wTo_SB hW7 (e2.1 5)
    generalize hw : wTo (fb g.1) (A' 5) (nc g.1) = w at hlf hwS
    have hwE : EqN (nc g.1) w (fb g.1) := by rw [← hw]; exact wTo_Eq
    have hlen := goE_len (s := g.1) (w := fb g.1) (rules := g.1 2) hP
    have hmem : ∀ t, t ∈ (endF g.1 (g.1 2)).1 → _ := fun t => goN_mem (s := g.1) (rules := g.1 2) 151 (fb g.1) t
    have hrl := rnkL_len (s := g.1) hI.1.1.NB
    have erk : rnkL g.1 = sgL w (nc g.1) ++ rnk w (endF g.1 (g.1 2)).1 := by
      unfold rnkL
      rw [sgL_congr _ hwE, rnk_congr (n := nc g.1) _ _ _ (fun t ht => (hmem t ht hW7 hP).2.2.1) hwE]
    rw [erk] at hrl ⊢
    generalize hl : (endF g.1 (g.1 2)).1 = l at e3 e4 hrl hmem ⊢
    have hl' : (goE g.1 (g.1 2) (fb g.1)).1 = l := hl
    rw [hl'] at hlen
    obtain ⟨w', c1, c2⟩ := tw_rank62 (m := m) (v := v') (h := h) (A := A') (pl := pl) (G := A' 9) (l := l) hx e3 e4 hlen (fun t ht => by have := hmem t ht hW7 hP; omega) l [] FU w (sgL w (nc g.1)) rfl (by rw [FU_eq]; omega) hwS (by omega)
    have a5 : ∀ x, (aset (aset A' 5 w) 9 x) 5 = w := fun x => by rw [aset_ne (by decide), aset_eq]
    have key := loop_FU (fun n (p : Nat × Nat × (Nat → Nat)) => f_X13_rank_L23 n (some m) (I pl) (I p.1) (I p.2.1) (TW m v' (aset (aset A' 5 w) 9 p.2.2) h)) (fun j => ((sgL w j).length, j, ordF (A' 9) (sgL w j))) (nc g.1) (f_X13_rank_L62 FU (some m) (I pl) (I (sgL w (nc g.1)).length) (I 0) (TW m v' (aset (aset A' 5 w) 9 (ordF (A' 9) (sgL w (nc g.1)))) h)) (by omega) (fun n j hj => ?_) (fun n => ?_)
    · have eself : aset (aset A' 5 w) 9 (A' 9) = aset A' 5 w := by
        have : A' 9 = (aset A' 5 w) 9 := (aset_ne (by decide)).symm
        rw [this]; exact aset_self
      simp only [sgL, List.length_nil, ordF_nil, eself] at key
      refine ⟨v', aset (aset A' 5 w') 9 (ordF (A' 9) (sgL w (nc g.1) ++ rnk w l)), ?_, ?_⟩
      · simp (disch := first | omega | assumption) only [f_X13_rank, lit_I, tw_p0, Option.bind_some, show (I 0 ≤ I pl) from h0, if_true, tw_rcv, e1, hlf]
        exact key.trans c1
      · refine TI_o (TI_o e2 c2 (by decide) (by decide) (by decide)) (ordF_SB (e2.1 9) (fun x hx => ?_)) (by decide) (by decide) (by decide)
        rw [List.mem_append] at hx
        rcases hx with hx | hx
        · have := sgL_mem _ _ hx; omega
        · have := rnk_mem (n := nc g.1) l w (fun t ht => (hmem t ht hW7 hP).2.2.1) x hx; omega
    · have hsj : (sgL w j).length ≤ j := by
        rw [sgL_len]
        have : ∀ n, sumTo (fun c => if pc (w c) = 1 then 1 else 0) n ≤ n := by
          intro n
          induction n with
          | zero => exact Nat.le_refl _
          | succ n ih => simp only [sumTo]; split <;> omega
        exact this j
      have hwj := hwS j
      have hplj := pc_le (w j)
      by_cases q : pc (w j) = 1
      · have e7 := ordF_snoc (g := A' 9) (l := sgL w j) (x := j)
        simp (disch := first | omega | assumption) only [tw_rcv, tw_r1, tw_r2, tw_r3, tw_r5, tw_r7, tw_r12, tw_r14, tw_r15, tw_r16, tw_r17, tw_r18, Option.bind_some, lit_I, I_add, I_mul, I_le, I_lt, I_eq, if_neg, if_pos, if_true, if_false, I_10, I_01, bit_T, bit_F, bit_F', bit_0, bit_1, gb_bit, tw_s, tw_rw, tw_cells, tw_blockOf, tw_numberOf, aset_eq, aset_ne, aset_aset, Bool.false_eq_true, not_true_eq_false, not_false_eq_true, f_X13_rank_L23, s2, a5, tw_ones, q, tw_w9, e7, sgL, List.length_append, List.length_cons, List.length_nil]
      · simp (disch := first | omega | assumption) only [tw_rcv, tw_r1, tw_r2, tw_r3, tw_r5, tw_r7, tw_r12, tw_r14, tw_r15, tw_r16, tw_r17, tw_r18, Option.bind_some, lit_I, I_add, I_mul, I_le, I_lt, I_eq, if_neg, if_pos, if_true, if_false, I_10, I_01, bit_T, bit_F, bit_F', bit_0, bit_1, gb_bit, tw_s, tw_rw, tw_cells, tw_blockOf, tw_numberOf, aset_eq, aset_ne, aset_aset, Bool.false_eq_true, not_true_eq_false, not_false_eq_true, f_X13_rank_L23, s2, a5, tw_ones, q, sgL, List.append_nil]
    · simp (disch := first | omega | assumption) only [tw_rcv, tw_r1, tw_r2, tw_r3, tw_r5, tw_r7, tw_r12, tw_r14, tw_r15, tw_r16, tw_r17, tw_r18, Option.bind_some, lit_I, I_add, I_mul, I_le, I_lt, I_eq, if_neg, if_pos, if_true, if_false, I_10, I_01, bit_T, bit_F, bit_F', bit_0, bit_1, gb_bit, tw_s, tw_rw, tw_cells, tw_blockOf, tw_numberOf, aset_eq, aset_ne, aset_aset, Bool.false_eq_true, not_true_eq_false, not_false_eq_true, f_X13_rank_L23, s2]
  · rw [if_neg h0]
    refine ⟨_, _, ?_, hT0⟩
    simp (disch := first | omega | assumption) only [f_X13_rank, lit_I, tw_p0, Option.bind_some, show ¬ (I 0 ≤ x) from h0, if_false]
/-! what is printed -/
def pS (s : Nat → Nat) (i : Nat) : List Nat := if s (83 + i) = 0 then [45] else (if 9 < lsum s i then [48 + lsum s i / 10] else []) ++ [48 + lsum s i % 10]
def pRow (s : Nat → Nat) (row : Nat) : Nat → List Nat
  | 0 => []
  | k + 1 => pRow s row k ++ [if s (58 + (s 1 * row + k)) = 1 then 48 + s (33 + (s 1 * row + k)) else 46]
def pEnd (s : Nat → Nat) : Nat → List Nat
  | 0 => []
  | k + 1 => pEnd s k ++ pS s (s 0 + k) ++ (if s 1 - 1 ≤ k then [] else [32])
def pLine (s : Nat → Nat) (row : Nat) : List Nat := if row < s 0 then pRow s row (s 1) ++ [32] ++ pS s row else pEnd s (s 1)
def r_printed (g : GS) (x y : Int32) : Int32 :=
  if bt x 0 (g.1 0) = true then (if I 0 ≤ y then (match (pLine g.1 (na x))[na y]? with | some c => I c | none => -99) else -1) else -1
theorem pS_len (s : Nat → Nat) (i : Nat) : (pS s i).length ≤ 2 := by
  unfold pS; split
  · decide
  · split <;> simp
theorem pRow_len (s : Nat → Nat) (row : Nat) : ∀ k, (pRow s row k).length = k := by
  intro k; induction k with
  | zero => rfl
  | succ k ih => simp [pRow, ih]
theorem pEnd_len (s : Nat → Nat) : ∀ k, (pEnd s k).length ≤ 3 * k := by
  intro k; induction k with
  | zero => exact Nat.le_refl _
  | succ k ih =>
    have := pS_len s (s 0 + k)
    simp only [pEnd, List.length_append]
    split <;> simp <;> omega
theorem pS_mem {s : Nat → Nat} {i : Nat} (h : lsum s i ≤ 30) : ∀ x, x ∈ pS s i → x < 1000000 := by
  intro x hx
  unfold pS at hx
  have h1 : lsum s i / 10 ≤ 30 := Nat.le_trans (Nat.div_le_self _ _) h
  have h2 : lsum s i % 10 < 10 := Nat.mod_lt _ (by decide)
  split at hx
  · simp at hx; omega
  · split at hx
    · simp at hx; omega
    · simp at hx; omega
section TW68
variable {m : Nat} {v : Nat → Int32} {A : Nat → Nat → Nat} {h : PH} {g : GS}
theorem tw_r11' {j : Nat} (hj : j < 40) : ald 0 (some (m + 11)) (I j) (TW m v A h) = some (I (A 11 j)) := tw_ald (o := 11) (by decide) hj
theorem tw_w11 {j x : Nat} (hj : j < 40) : asi 0 (some (m + 11)) (I j) (I x) (TW m v A h) = some (TW m v (aset A 11 (nup (A 11) j x)) h) := tw_w (o := 11) (by decide) hj
/-- the state with a line begun -/
def LN (v : Nat → Int32) (A : Nat → Nat → Nat) (m : Nat) (h : PH) (l : List Nat) : PH := TW m (vup v 19 (I l.length)) (aset A 11 (ordF (A 11) l)) h
theorem tw_print {l : List Nat} {x : Nat} (hl : l.length < 40) : f_X13_print (some m) (I x) (LN v A m h l) = some (LN v A m h (l ++ [x])) := by
  have e7 := ordF_snoc (g := A 11) (l := l) (x := x)
  unfold LN
  simp (disch := first | omega | assumption) only [tw_rcv, tw_r1, tw_r2, tw_r3, tw_r5, tw_r7, tw_r12, tw_r14, tw_r15, tw_r16, tw_r17, tw_r18, Option.bind_some, lit_I, I_add, I_mul, I_le, I_lt, I_eq, if_neg, if_pos, if_true, if_false, I_10, I_01, bit_T, bit_F, bit_F', bit_0, bit_1, gb_bit, tw_s, tw_rw, tw_cells, tw_blockOf, tw_numberOf, aset_eq, aset_ne, aset_aset, Bool.false_eq_true, not_true_eq_false, not_false_eq_true, f_X13_print, tw_int (k := 19) rfl, vup_eq, tw_w11, e7, tw_pf (k := 19) rfl, vup_vup, List.length_append, List.length_cons, List.length_nil]
theorem tw_printSum {l : List Nat} {i : Nat} (hl : l.length < 38) (hi : i < A 1 0 + A 1 1) (hA : SB (A 1)) (hP : PG' (A 1)) (hN : NB (A 1)) : f_X13_printSum (some m) (I i) (LN v A m h l) = some (LN v A m h (l ++ pS (A 1) i)) := by
  have h30 := lsum_30 hi hP hN
  have a1 : ∀ x, (aset A 11 x) 1 = A 1 := fun x => aset_ne (by decide)
  have hb := hA (83 + i)
  have hPP := hP
  obtain ⟨p1, p2, p3, p4⟩ := hPP
  have hsum : ∀ l, f_X13_sumOf (some m) (I i) (LN v A m h l) = some (I (lsum (A 1) i), LN v A m h l) := fun l => by
    have := tw_sumOf (m := m) (v := vup v 19 (I l.length)) (h := h) (A := aset A 11 (ordF (A 11) l)) (i := i) (by rw [a1]; exact hi) (by rw [a1]; exact hA) (by rw [a1]; exact hP)
    rw [a1] at this; exact this
  have hrc : ∀ l, rcv 11 (some m) (LN v A m h l) = some () := fun l => tw_rcv
  have hr1 : gfr 11 1 (some m) (LN v A m h l) = some (some (m + 1)) := tw_r1
  have hrd : ald 0 (some (m + 1)) (I (83 + i)) (LN v A m h l) = some (I (A 1 (83 + i))) := by
    unfold LN; rw [tw_s (by omega), a1]
  have h10 : nz (I 10) = some () := nz_I (by decide) (by decide)
  have e1 : I (lsum (A 1) i) / I 10 = I (lsum (A 1) i / 10) := I_div (by omega) (by decide)
  have e2 : I (lsum (A 1) i) - I (lsum (A 1) i / 10) * I 10 = I (lsum (A 1) i % 10) := by rw [← e1]; exact I_rem (by omega) (by decide)
  by_cases q : A 1 (83 + i) = 0
  · have ep : pS (A 1) i = [45] := by unfold pS; rw [if_pos q]
    simp (disch := first | omega | assumption) only [f_X13_printSum, lit_I, hr1, Option.bind_some, I_add, hrd, q, if_true, hrc, tw_print, ep]
  · by_cases q2 : 9 < lsum (A 1) i
    · have ep : pS (A 1) i = [48 + lsum (A 1) i / 10] ++ [48 + lsum (A 1) i % 10] := by unfold pS; rw [if_neg q, if_pos q2]
      have hl2 : (l ++ [48 + lsum (A 1) i / 10]).length < 40 := by simp; omega
      simp (disch := first | omega | assumption) only [f_X13_printSum, f_X13_printSum_B44, lit_I, hr1, Option.bind_some, I_add, hrd, I_eq, if_neg, hrc, hsum, I_le, h10, e1, e2, tw_print, ep, List.append_assoc]
    · have ep : pS (A 1) i = [48 + lsum (A 1) i % 10] := by unfold pS; rw [if_neg q, if_neg q2]; rfl
      simp (disch := first | omega | assumption) only [f_X13_printSum, f_X13_printSum_B44, lit_I, hr1, Option.bind_some, I_add, hrd, I_eq, if_neg, if_pos, hrc, hsum, I_le, h10, e1, e2, tw_print, ep]
theorem tw_pr151 {l : List Nat} {y : Nat} (hl : l.length ≤ 40) (hy : y < 2147483648) : f_X13_printed_B151 (some m) (I y) (LN v A m h l) = some ((match l[y]? with | some c => I c | none => -99), LN v A m h l) := by
  unfold LN
  by_cases q : l.length ≤ y
  · have e : l[y]? = none := List.getElem?_eq_none_iff.mpr q
    simp (disch := first | omega | assumption) only [tw_rcv, tw_r1, tw_r2, tw_r3, tw_r5, tw_r7, tw_r12, tw_r14, tw_r15, tw_r16, tw_r17, tw_r18, Option.bind_some, lit_I, I_add, I_mul, I_le, I_lt, I_eq, if_neg, if_pos, if_true, if_false, I_10, I_01, bit_T, bit_F, bit_F', bit_0, bit_1, gb_bit, tw_s, tw_rw, tw_cells, tw_blockOf, tw_numberOf, aset_eq, aset_ne, aset_aset, Bool.false_eq_true, not_true_eq_false, not_false_eq_true, f_X13_printed_B151, tw_int (k := 19) rfl, vup_eq, e]
  · have e : l[y]? = some l[y] := List.getElem?_eq_getElem (by omega)
    have e2 := ordF_at (g := A 11) e
    simp (disch := first | omega | assumption) only [tw_rcv, tw_r1, tw_r2, tw_r3, tw_r5, tw_r7, tw_r12, tw_r14, tw_r15, tw_r16, tw_r17, tw_r18, Option.bind_some, lit_I, I_add, I_mul, I_le, I_lt, I_eq, if_neg, if_pos, if_true, if_false, I_10, I_01, bit_T, bit_F, bit_F', bit_0, bit_1, gb_bit, tw_s, tw_rw, tw_cells, tw_blockOf, tw_numberOf, aset_eq, aset_ne, aset_aset, Bool.false_eq_true, not_true_eq_false, not_false_eq_true, f_X13_printed_B151, tw_int (k := 19) rfl, vup_eq, e, tw_r11', e2]
theorem tw_printed {x y : Int32} (hT : TI v A g) (hI : RInv g.1) : ∃ v' A', f_X13_printed (some m) x y (TW m v A h) = some (r_printed g x y, TW m v' A' h) ∧ TI v' A' g := by
  have hQ := hI.1.1
  have hP := hQ.1
  have hn := nc_le hP
  have hT0 := TI_v0 (x := I 0) hT
  have s1 : A 1 = g.1 := hT.2.1
  have hPP := hP
  obtain ⟨p1, p2, p3, p4⟩ := hPP
  unfold r_printed
  cases h1 : bt x 0 (g.1 0) with
  | false =>
    refine ⟨_, _, ?_, hT0⟩
    simp (disch := first | omega | assumption) only [f_X13_printed, lit_I, tw_p0, tw_r1, Option.bind_some, tw_s, s1, inZ, h1, bit_0, Bool.false_eq_true, not_false_eq_true, if_true, if_false]
  | true =>
  obtain ⟨row, rfl, hna, -, hx⟩ := bt_ex (by decide) (by omega) h1
  simp only [hna]
  by_cases h0 : I 0 ≤ y
  · obtain ⟨ey, hy⟩ := na_pos h0
    generalize na y = k at ey hy ⊢
    subst ey
    have e0 : TW m (vup (vup v 0 (I 0)) 19 (I 0)) A h = LN (vup v 0 (I 0)) A m h [] := by
      unfold LN; rw [ordF_nil, aset_self]; rfl
    have hfin : ∀ l, (∀ x, x ∈ l → x < 1000000) → TI (vup (vup v 0 (I 0)) 19 (I l.length)) (aset A 11 (ordF (A 11) l)) g := fun l hl =>
      TI_VK (TI_o hT0 (ordF_SB (hT.1 11) hl) (by decide) (by decide) (by decide)) (vup_ne _ (by decide)) (vup_ne _ (by decide))
    have hA1 : SB (A 1) := hT.1 1
    have hP1 : PG' (A 1) := by rw [s1]; exact hP
    have hN1 : NB (A 1) := by rw [s1]; exact hQ.NB
    have hs := TI_SB hT
    have a1 : ∀ x, (aset A 11 x) 1 = g.1 := fun x => by rw [aset_ne (by decide)]; exact s1
    have hr1 : ∀ l, gfr 11 1 (some m) (LN (vup v 0 (I 0)) A m h l) = some (some (m + 1)) := fun l => tw_r1
    have hrc : ∀ l, rcv 11 (some m) (LN (vup v 0 (I 0)) A m h l) = some () := fun l => tw_rcv
    have hrd : ∀ l j, j < 356 → ald 0 (some (m + 1)) (I j) (LN (vup v 0 (I 0)) A m h l) = some (I (g.1 j)) := fun l j hj => by
      unfold LN; rw [tw_s hj, a1]
    have hnum : ∀ l c, c < 25 → f_X13_numberOf (some m) (I c) (LN (vup v 0 (I 0)) A m h l) = some (I (g.1 (33 + c)), LN (vup v 0 (I 0)) A m h l) := fun l c hc => by
      unfold LN; rw [tw_numberOf hc, a1]
    have hps : ∀ l i, l.length < 38 → i < g.1 0 + g.1 1 → f_X13_printSum (some m) (I i) (LN (vup v 0 (I 0)) A m h l) = some (LN (vup v 0 (I 0)) A m h (l ++ pS g.1 i)) := fun l i hl hi => by
      have := tw_printSum (m := m) (v := vup v 0 (I 0)) (A := A) (h := h) (l := l) (i := i) hl (by rw [s1]; exact hi) hA1 hP1 hN1
      rw [s1] at this; exact this
    by_cases hrow : row < g.1 0
    · -- a row of cells
      have hlen : (pLine g.1 row).length ≤ 8 := by
        unfold pLine; rw [if_pos hrow]
        have h1 := pRow_len g.1 row (g.1 1)
        have h2 := pS_len g.1 row
        simp only [List.length_append, List.length_cons, List.length_nil]; omega
      have hcell : ∀ j, j < g.1 1 → g.1 1 * row + j < nc g.1 := fun j hj => by
        have : g.1 1 * (row + 1) ≤ g.1 1 * g.1 0 := Nat.mul_le_mul_left _ hrow
        rw [Nat.mul_add, Nat.mul_one] at this
        have e : nc g.1 = g.1 1 * g.1 0 := Nat.mul_comm _ _
        omega
      have key := loop_FU (fun n (p : Nat × List Nat) => f_X13_printed_L32 n (some m) (I row) (I k) (I p.1) (LN (vup v 0 (I 0)) A m h p.2)) (fun j => (j, pRow g.1 row j)) (g.1 1) (some ((match (pLine g.1 row)[k]? with | some c => I c | none => -99), LN (vup v 0 (I 0)) A m h (pLine g.1 row))) (by omega) (fun n j hj => ?_) (fun n => ?_)
      · refine ⟨vup (vup v 0 (I 0)) 19 (I (pLine g.1 row).length), aset A 11 (ordF (A 11) (pLine g.1 row)), ?_, hfin _ ?_⟩
        · simp (disch := first | omega | assumption) only [f_X13_printed, lit_I, tw_p0, tw_r1, Option.bind_some, tw_s, s1, inZ, h1, bit_0, not_true_eq_false, if_true, if_false, h0, tw_pf (k := 19) rfl, e0]
          exact key
        · intro x hx
          unfold pLine at hx
          rw [if_pos hrow, List.mem_append, List.mem_append] at hx
          rcases hx with (hx | hx) | hx
          · revert hx
            have : ∀ j, j ≤ g.1 1 → ∀ x, x ∈ pRow g.1 row j → x < 1000000 := by
              intro j
              induction j with
              | zero => intro _ x hx; cases hx
              | succ j ih =>
                intro hj x hx
                simp only [pRow, List.mem_append, List.mem_singleton] at hx
                rcases hx with hx | hx
                · exact ih (by omega) x hx
                · have := (hQ.NB _ (hcell j (by omega))).1
                  rw [hx]; split <;> omega
            exact this _ (Nat.le_refl _) x
          · simp at hx; omega
          · exact pS_mem (lsum_30 (by omega) hP hQ.NB) x hx
      · have hc := hcell j hj
        have hlj := pRow_len g.1 row j
        have hb := hs (58 + (g.1 1 * row + j))
        by_cases q : g.1 (58 + (g.1 1 * row + j)) = 1
        · simp (disch := first | omega | assumption) only [f_X13_printed_L32, f_X13_printed_B93, lit_I, hr1, hrd, Option.bind_some, I_le, if_neg, I_mul, I_add, q, if_true, hrc, hnum, tw_print, pRow]
        · simp (disch := first | omega | assumption) only [f_X13_printed_L32, f_X13_printed_B93, lit_I, hr1, hrd, Option.bind_some, I_le, I_eq, if_neg, I_mul, I_add, hrc, hnum, tw_print, pRow]
      · have hlj := pRow_len g.1 row (g.1 1)
        have hl2 : (pRow g.1 row (g.1 1) ++ [32]).length < 38 := by simp; omega
        have ep : pLine g.1 row = pRow g.1 row (g.1 1) ++ [32] ++ pS g.1 row := by unfold pLine; rw [if_pos hrow]
        have h151 := tw_pr151 (m := m) (v := vup v 0 (I 0)) (A := A) (h := h) (l := pLine g.1 row) (y := k) (by omega) hy
        simp (disch := first | omega | assumption) only [f_X13_printed_L32, lit_I, hr1, hrd, Option.bind_some, I_le, if_pos, if_neg, hrc, tw_print]
        rw [hps _ row hl2 (by omega), ← ep]
        simp (disch := first | omega | assumption) only [Option.bind_some, h151, lit_I]
    · -- the row of sums
      have hre : row = g.1 0 := by omega
      subst hre
      have hlen : (pLine g.1 (g.1 0)).length ≤ 15 := by
        unfold pLine; rw [if_neg hrow]
        have h1 := pEnd_len g.1 (g.1 1); omega
      have ep : pLine g.1 (g.1 0) = pEnd g.1 (g.1 1) := by unfold pLine; rw [if_neg hrow]
      have key := loop_FU (fun n (p : Nat × List Nat) => f_X13_printed_L32 n (some m) (I (g.1 0)) (I k) (I p.1) (LN (vup v 0 (I 0)) A m h p.2)) (fun j => (j, pEnd g.1 j)) (g.1 1) (some ((match (pLine g.1 (g.1 0))[k]? with | some c => I c | none => -99), LN (vup v 0 (I 0)) A m h (pLine g.1 (g.1 0)))) (by omega) (fun n j hj => ?_) (fun n => ?_)
      · refine ⟨vup (vup v 0 (I 0)) 19 (I (pLine g.1 (g.1 0)).length), aset A 11 (ordF (A 11) (pLine g.1 (g.1 0))), ?_, hfin _ ?_⟩
        · simp (disch := first | omega | assumption) only [f_X13_printed, lit_I, tw_p0, tw_r1, Option.bind_some, tw_s, s1, inZ, h1, bit_0, not_true_eq_false, if_true, if_false, h0, tw_pf (k := 19) rfl, e0]
          exact key
        · rw [ep]
          have : ∀ j, j ≤ g.1 1 → ∀ x, x ∈ pEnd g.1 j → x < 1000000 := by
            intro j
            induction j with
            | zero => intro _ x hx; cases hx
            | succ j ih =>
              intro hj x hx
              simp only [pEnd, List.mem_append] at hx
              rcases hx with (hx | hx) | hx
              · exact ih (by omega) x hx
              · exact pS_mem (lsum_30 (by omega) hP hQ.NB) x hx
              · split at hx
                · cases hx
                · simp at hx; omega
          exact this _ (Nat.le_refl _)
      · have hlj := pEnd_len g.1 j
        have hl1 : (pEnd g.1 j).length < 38 := by omega
        have hps' := hps (pEnd g.1 j) (g.1 0 + j) hl1 (by omega)
        have hl2 : (pEnd g.1 j ++ pS g.1 (g.1 0 + j)).length < 40 := by have := pS_len g.1 (g.1 0 + j); simp; omega
        have hpr := tw_print (m := m) (v := vup v 0 (I 0)) (A := A) (h := h) (l := pEnd g.1 j ++ pS g.1 (g.1 0 + j)) (x := 32) hl2
        by_cases q : g.1 1 - 1 ≤ j
        · simp (disch := first | omega | assumption) only [f_X13_printed_L32, lit_I, hr1, hrd, Option.bind_some, I_le, if_neg, if_pos, I_add, I_sub, hrc, hps', pEnd, List.append_nil]
        · simp (disch := first | omega | assumption) only [f_X13_printed_L32, lit_I, hr1, hrd, Option.bind_some, I_le, if_neg, if_pos, I_add, I_sub, hrc, hps', hpr, pEnd]
      · have h151 := tw_pr151 (m := m) (v := vup v 0 (I 0)) (A := A) (h := h) (l := pLine g.1 (g.1 0)) (y := k) (by omega) hy
        rw [ep] at h151 ⊢
        simp (disch := first | omega | assumption) only [f_X13_printed_L32, lit_I, hr1, hrd, Option.bind_some, I_le, if_pos, h151]
  · refine ⟨_, _, ?_, hT0⟩
    rw [if_neg h0]
    simp (disch := first | omega | assumption) only [f_X13_printed, lit_I, tw_p0, tw_r1, Option.bind_some, tw_s, s1, inZ, h1, bit_0, not_true_eq_false, if_true, if_false, h0]
end TW68
end TW67
