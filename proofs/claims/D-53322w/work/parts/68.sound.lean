/-! PLAIN LAW: the rules strike no number of a full answer -/
set_option maxRecDepth 100000
def Full (s : Nat → Nat) : Prop := ∀ c, c < nc s → s (33 + c) ≠ 0
/-- the answer is among the possible numbers, and these fit the blocks -/
def Tr (s w : Nat → Nat) : Prop := ∀ c, c < nc s → (w c).testBit (s (33 + c)) = true ∧ w c < 128 ∧ ∀ k, (w c).testBit k = true → 1 ≤ k ∧ k ≤ bsz s (s (8 + c))
theorem sumTo_add {f g : Nat → Nat} : ∀ n, sumTo (fun i => f i + g i) n = sumTo f n + sumTo g n := by
  intro n
  induction n with
  | zero => rfl
  | succ n ih => simp only [sumTo, ih]; omega
theorem sumTo_swap {f : Nat → Nat → Nat} : ∀ n m, sumTo (fun i => sumTo (fun j => f i j) m) n = sumTo (fun j => sumTo (fun i => f i j) n) m := by
  intro n
  induction n with
  | zero =>
    intro m
    induction m with
    | zero => rfl
    | succ m ih => simp only [sumTo]; simp only [sumTo] at ih; omega
  | succ n ih => intro m; simp only [sumTo]; rw [ih m, ← sumTo_add]
theorem sumTo_one {P : Nat → Prop} [DecidablePred P] {n k : Nat} (hk : k < n) (hP : P k) (hu : ∀ i, i < n → P i → i = k) : sumTo (fun i => if P i then 1 else 0) n = 1 := by
  have h0 : sumTo (fun _ => 0) n = 0 := by
    have : ∀ n, sumTo (fun _ => 0) n = 0 := fun n => by induction n with | zero => rfl | succ n ih => simp [sumTo, ih]
    exact this n
  have h1 := sumTo_upd (f := fun _ => 0) (f' := fun i => if i = k then 1 else 0) hk (fun i hi => if_neg hi)
  rw [h0] at h1
  simp only [if_true] at h1
  rw [sumTo_congr (g := fun i => if i = k then 1 else 0) (fun i hi => ?_)]
  · omega
  · by_cases q : i = k
    · subst q; rw [if_pos hP, if_pos rfl]
    · rw [if_neg (fun h => q (hu i hi h)), if_neg q]
theorem sumTo_le1 {P : Nat → Prop} [DecidablePred P] : ∀ {n}, (∀ i j, i < n → j < n → P i → P j → i = j) → sumTo (fun i => if P i then 1 else 0) n ≤ 1 := by
  intro n
  induction n with
  | zero => intro _; exact Nat.zero_le _
  | succ n ih =>
    intro hu
    simp only [sumTo]
    by_cases q : P n
    · have h0 : sumTo (fun i => if P i then 1 else 0) n = sumTo (fun _ => 0) n := sumTo_congr (fun i hi => if_neg (fun h => by have := hu i n (by omega) (by omega) h q; omega))
      have : ∀ n, sumTo (fun _ => 0) n = 0 := fun n => by induction n with | zero => rfl | succ n ih => simp [sumTo, ih]
      rw [h0, this, if_pos q]; omega
    · rw [if_neg q]
      have := ih (fun i j hi hj => hu i j (by omega) (by omega)); omega
/-- each number up to the block's size stands in the block -/
theorem full_onto {s : Nat → Nat} (hQ : QInv s) (hF : Full s) {c k : Nat} (hc : c < nc s) (h1 : 1 ≤ k) (h2 : k ≤ bsz s (s (8 + c))) : ∃ d, d < nc s ∧ s (8 + d) = s (8 + c) ∧ s (33 + d) = k := by
  obtain ⟨hP, -, h4, h5, -⟩ := hQ
  refine Classical.byContradiction (fun hno => ?_)
  have hb : bsz s (s (8 + c)) = sumTo (fun d => sumTo (fun v => if s (8 + d) = s (8 + c) ∧ s (33 + d) = v + 1 then 1 else 0) (bsz s (s (8 + c)))) (nc s) := by
    unfold bsz
    refine sumTo_congr (fun d hd => ?_)
    by_cases q : s (8 + d) = s (8 + c)
    · rw [if_pos q]
      have h7 := h4 d hd
      have h8 := hF d hd
      rw [q] at h7
      have := sumTo_one (P := fun v => s (8 + d) = s (8 + c) ∧ s (33 + d) = v + 1) (n := bsz s (s (8 + c))) (k := s (33 + d) - 1) (by omega) ⟨q, by omega⟩ (fun i _ h => by have := h.2; omega)
      unfold bsz at this
      exact this.symm
    · rw [if_neg q]
      have : ∀ n, sumTo (fun v => if s (8 + d) = s (8 + c) ∧ s (33 + d) = v + 1 then 1 else 0) n = 0 := by
        intro n
        induction n with
        | zero => rfl
        | succ n ih => simp only [sumTo, ih]; rw [if_neg (fun h => q h.1)]
      rw [this]
  rw [sumTo_swap] at hb
  have hle : sumTo (fun v => sumTo (fun d => if s (8 + d) = s (8 + c) ∧ s (33 + d) = v + 1 then 1 else 0) (nc s)) (bsz s (s (8 + c))) < sumTo (fun _ => 1) (bsz s (s (8 + c))) := by
    refine sumTo_slt (j := k - 1) (fun v hv => ?_) (by omega) ?_
    · refine sumTo_le1 (fun i j hi hj p q => ?_)
      refine Classical.byContradiction (fun hij => ?_)
      have := h5 i j hi hj hij (p.1.trans q.1.symm) (p.2.trans q.2.symm)
      exact hF i hi this
    · have : ∀ n, n ≤ nc s → sumTo (fun d => if s (8 + d) = s (8 + c) ∧ s (33 + d) = k - 1 + 1 then 1 else 0) n = 0 := by
        intro n
        induction n with
        | zero => intro _; rfl
        | succ n ih =>
          intro hn
          simp only [sumTo, ih (by omega)]
          rw [if_neg (fun h => hno ⟨n, by omega, h.1, by have := h.2; omega⟩)]
      rw [this _ (Nat.le_refl _)]; decide
  have hone : ∀ n, sumTo (fun _ => 1) n = n := fun n => by induction n with | zero => rfl | succ n ih => simp [sumTo, ih]
  rw [hone] at hle
  omega
/-! a cell's place in its lines -/
def lcOK (R C c : Nat) : Bool := !(decide (2 ≤ R) && decide (2 ≤ C) && decide (c < R * C)) || (allB (fun k => (C * (c / C) + k == c) == (k == c % C)) C && allB (fun k => (C * k + (R + c % C - R) == c) == (k == c / C)) R)
theorem lcOK_dec : ∀ R, R < 6 → ∀ C, C < 6 → ∀ c, c < 25 → lcOK R C c = true := by decide +kernel
theorem lc_row {s : Nat → Nat} (hP : PG' s) {c i : Nat} (hc : c < nc s) (hi' : i = dv c (s 1) ∨ i = s 0 + md c (s 1)) : ∃ k, k < ln s i ∧ ∀ j, j < ln s i → (lc s i j = c ↔ j = k) := by
  have hn := nc_le hP
  have hd := dv_lt hP hc
  have hPP := hP
  obtain ⟨a1, a2, a3, a4⟩ := hPP
  have h := lcOK_dec (s 0) (by omega) (s 1) (by omega) c (by omega)
  have hc' : c < s 0 * s 1 := hc
  simp only [lcOK, a1, a3, hc', decide_true, Bool.and_self, Bool.not_true, Bool.false_or, Bool.and_eq_true, allB_iff] at h
  rcases hi' with rfl | rfl
  · have e1 : ln s (dv c (s 1)) = s 1 := by unfold ln; rw [if_pos hd.1]
    refine ⟨md c (s 1), by rw [e1]; exact hd.2, fun j hj => ?_⟩
    rw [e1] at hj
    have := h.1 j hj
    have e2 : lc s (dv c (s 1)) j = s 1 * (c / s 1) + j := by unfold lc; rw [if_pos hd.1]; rfl
    rw [e2]
    have h3 := beq_iff_eq.mp this
    exact (Bool.eq_iff_iff.mp h3 |> fun q => by simpa [dv, md] using q)
  · have e1 : ln s (s 0 + md c (s 1)) = s 0 := by unfold ln; rw [if_neg (by omega)]
    refine ⟨dv c (s 1), by rw [e1]; exact hd.1, fun j hj => ?_⟩
    rw [e1] at hj
    have := h.2 j hj
    have e2 : lc s (s 0 + md c (s 1)) j = s 1 * j + (s 0 + c % s 1 - s 0) := by unfold lc; rw [if_neg (by omega)]; rfl
    rw [e2]
    have h3 := beq_iff_eq.mp this
    exact (Bool.eq_iff_iff.mp h3 |> fun q => by simpa [dv, md] using q)
/-- the sum of a line less a cell's number -/
def restS (s : Nat → Nat) (i c : Nat) : Nat → Nat := sumTo (fun k => if lc s i k = c then 0 else s (33 + lc s i k))
theorem lsum_rest {s : Nat → Nat} (hP : PG' s) {c i : Nat} (hc : c < nc s) (hi' : i = dv c (s 1) ∨ i = s 0 + md c (s 1)) : lsum s i = restS s i c (ln s i) + s (33 + c) := by
  obtain ⟨k, hk, hu⟩ := lc_row hP hc hi'
  unfold lsum restS
  have := sumTo_upd (f := fun k => if lc s i k = c then 0 else s (33 + lc s i k)) (f' := fun j => if j = k then s (33 + lc s i j) else if lc s i j = c then 0 else s (33 + lc s i j)) hk (fun j hj => if_neg hj)
  have hkc : lc s i k = c := (hu k hk).mpr rfl
  simp only [if_true, hkc] at this
  rw [Nat.add_zero] at this
  rw [← this]
  refine sumTo_congr (fun j hj => ?_)
  by_cases q : j = k
  · subst q; rw [if_pos rfl]
  · rw [if_neg q, if_neg (fun h => q ((hu j hj).mp h))]
theorem addS_tb {w sums a n : Nat} (ha : sums.testBit a = true) (hn : 1 ≤ n) (hn6 : n ≤ 6) (hw : w.testBit n = true) : (addS w sums).testBit (a + n) = true := by
  have key : ∀ m, n - 1 < m → (orTo (fun n => if w.testBit (n + 1) = true then sums <<< (n + 1) else 0) m).testBit (a + n) = true := by
    intro m
    induction m with
    | zero => intro h; omega
    | succ m ih =>
      intro h
      simp only [orTo, Nat.testBit_or, Bool.or_eq_true]
      by_cases q : n - 1 = m
      · right
        have e : m + 1 = n := by omega
        rw [e, hw, if_pos rfl, Nat.testBit_shiftLeft]
        simp [ha]
      · left; exact ih (by omega)
  exact key 6 (by omega)
theorem lsums_rest {s w : Nat → Nat} (hP : PG' s) (hT : Tr s w) {c i : Nat} (hi' : i < s 0 + s 1) (hN : NB s) : ∀ k, k ≤ ln s i → (lsums s w i (some c) k).testBit (restS s i c k) = true := by
  intro k
  induction k with
  | zero => intro _; show (1 : Nat).testBit 0 = true; decide
  | succ k ih =>
    intro hk
    have h1 := ih (by omega)
    have h2 := lc_lt hP hi' (show k < ln s i by omega)
    have e : restS s i c (k + 1) = restS s i c k + (if lc s i k = c then 0 else s (33 + lc s i k)) := rfl
    rw [e]
    simp only [lsums]
    by_cases q : lc s i k = c
    · rw [if_pos (by rw [q]), if_pos q]; exact h1
    · rw [if_neg (fun h => q (Option.some.inj h).symm), if_neg q]
      have h3 := hT _ h2
      exact addS_tb h1 (h3.2.2 _ h3.1).1 (hN _ h2).1 h3.1
theorem lo_le {a k : Nat} (h0 : a < 2147483648) (hk : a.testBit k = true) : lo a ≤ k := by
  have hne : a ≠ 0 := by rintro rfl; simp at hk
  have := (lo_spec hne h0).2.2
  rcases Nat.lt_or_ge k (lo a) with h | h
  · rw [this k h] at hk; cases hk
  · exact h
theorem hi_ge {a k : Nat} (h0 : a < 2147483648) (hk : a.testBit k = true) : k ≤ hi a := by
  have hne : a ≠ 0 := by rintro rfl; simp at hk
  have := (hi_spec hne h0).2.2
  rcases Nat.lt_or_ge (hi a) k with h | h
  · rw [this k h] at hk; cases hk
  · exact h
theorem lineP_sound {s w : Nat → Nat} (hQ : QInv s) (hT : Tr s w) {r c i : Nat} (hc : c < nc s) (hi' : i = dv c (s 1) ∨ i = s 0 + md c (s 1)) : lineP s w r c (s (33 + c)) i = false := by
  have hP := hQ.1
  have hd := dv_lt hP hc
  have hil : i < s 0 + s 1 := by omega
  have hsum := lsum_rest hP hc hi'
  have hlow : lows s w i c (ln s i) ≤ restS s i c (ln s i) := sumTo_le (fun k hk => by
    have h2 := lc_lt hP hil hk
    have h3 := hT _ h2
    split
    · exact Nat.le_refl _
    · exact lo_le (by omega) h3.1)
  have hhigh : restS s i c (ln s i) ≤ highs s w i c (ln s i) := sumTo_le (fun k hk => by
    have h2 := lc_lt hP hil hk
    have h3 := hT _ h2
    split
    · exact Nat.le_refl _
    · exact hi_ge (by omega) h3.1)
  have hb : beyond s w i c (s (33 + c)) = false := by
    unfold beyond
    rw [hsum]
    simp only [Bool.or_eq_false_iff, decide_eq_false_iff_not]
    omega
  have hm : missed s w i c (s (33 + c)) = false := by
    unfold missed
    rw [hsum, Nat.add_sub_cancel, lsums_rest hP hT hil hQ.NB _ (Nat.le_refl _)]
    simp
  unfold lineP
  rw [hb, hm]
  simp
theorem pc2 {a x y n : Nat} (h2 : pc a = 2) (ha : a < 128) (hx : a.testBit x = true) (hy : a.testBit y = true) (hn : a.testBit n = true) (hxy : x ≠ y) : n = x ∨ n = y := by
  have hb : ∀ k, a.testBit k = true → k < 31 := fun k hk => by
    have h0 : a ≠ 0 := by rintro rfl; simp at hk
    have := hi_ge (by omega) hk
    have := hi_lt7 h0 ha
    omega
  refine Classical.byContradiction (fun h => ?_)
  have h1 := pc_str (hb x hx) hx
  have hy' : (andn a (1 <<< x)).testBit y = true := by rw [andn_tb, sh1_tb, hy]; simp; omega
  have h3 := pc_str (hb y hy) hy'
  have hn' : (andn (andn a (1 <<< x)) (1 <<< y)).testBit n = true := by rw [andn_tb, andn_tb, sh1_tb, sh1_tb, hn]; simp; omega
  have h4 := pc_str (hb n hn) hn'
  omega
theorem sole_sound {s w : Nat → Nat} (hQ : QInv s) (hF : Full s) (hT : Tr s w) {c : Nat} (hc : c < nc s) : sole s w c (s (33 + c)) = none := by
  unfold sole
  rw [firstI_none]
  intro d hd
  unfold soleP
  refine Bool.eq_false_iff.mpr (fun h => ?_)
  simp only [Bool.and_eq_true, Bool.not_eq_true', beq_eq_false_iff_ne, beq_iff_eq] at h
  have h1 := (hT d hd).1
  rw [h.2.2, sh1_tb] at h1
  simp at h1
  exact hF d hd (hQ.2.2.2.1 d c hd hc h.1 h.2.1 h1)
theorem only_sound {s w : Nat → Nat} (hQ : QInv s) (hF : Full s) (hT : Tr s w) {c : Nat} (hc : c < nc s) : only s w c (s (33 + c)) = none := by
  unfold only
  rw [if_pos]
  refine Classical.byContradiction (fun h0 => ?_)
  obtain ⟨k, hk⟩ := Nat.exists_testBit_of_ne_zero h0
  unfold onlyN at hk
  rw [andn_tb, andn_tb, sh1_tb] at hk
  simp only [Bool.and_eq_true, Bool.not_eq_true', decide_eq_false_iff_not] at hk
  obtain ⟨⟨h1, h2⟩, h3⟩ := hk
  have h4 := (hT c hc).2.2 k h1
  obtain ⟨d, d1, d2, d3⟩ := full_onto hQ hF hc h4.1 h4.2
  have hdc : d ≠ c := by rintro rfl; omega
  have h5 := (hT d d1).1
  rw [d3] at h5
  have : (els s w c (nc s)).testBit k = true := by
    unfold els
    have key : ∀ m, d < m → (orTo (fun d => if d ≠ c ∧ s (8 + d) = s (8 + c) then w d else 0) m).testBit k = true := by
      intro m
      induction m with
      | zero => intro h; omega
      | succ m ih =>
        intro h
        simp only [orTo, Nat.testBit_or, Bool.or_eq_true]
        by_cases q : d = m
        · subst q; right; rw [if_pos ⟨hdc, d2⟩]; exact h5
        · left; exact ih (by omega)
    exact key _ d1
  rw [this] at h2; cases h2
theorem pair_sound {s w : Nat → Nat} (hQ : QInv s) (hF : Full s) (hT : Tr s w) {c : Nat} (hc : c < nc s) : pairC s w c (s (33 + c)) = none := by
  unfold pairC
  rw [firstI_none]
  intro d hd
  refine Bool.eq_false_iff.mpr (fun h => ?_)
  unfold pairQ mayP at h
  simp only [Bool.and_eq_true, Bool.not_eq_true', beq_eq_false_iff_ne, beq_iff_eq] at h
  obtain ⟨⟨h1, h2, h3, h4⟩, h5⟩ := h
  obtain ⟨e, he⟩ := isSome_ex h5
  rw [firstFrom_some] at he
  obtain ⟨q1, q2, q3, -⟩ := he
  unfold pairE at q3
  simp only [Bool.and_eq_true, Bool.not_eq_true', beq_eq_false_iff_ne, beq_iff_eq] at q3
  have hel : e < nc s := by omega
  have td := (hT d hd).1
  have te := (hT e hel).1
  rw [q3.2.2] at te
  have hne : s (33 + d) ≠ s (33 + e) := fun q => hF d hd (hQ.2.2.2.1 d e hd hel (by omega) (h2.trans q3.2.1.symm) q)
  rcases pc2 h3 (hT d hd).2.1 td te h4 hne with q | q
  · exact hF c hc (hQ.2.2.2.1 c d hc hd (fun z => h1 z.symm) h2.symm q)
  · exact hF c hc (hQ.2.2.2.1 c e hc hel (fun z => q3.1 z.symm) q3.2.1.symm q)
theorem cause_sound {s w : Nat → Nat} (hQ : QInv s) (hF : Full s) (hT : Tr s w) {r c : Nat} (hc : c < nc s) : causeC s w r c (s (33 + c)) = none := by
  have hl : ∀ r, lineC s w r c (s (33 + c)) = none := fun r => by
    unfold lineC
    rw [lineP_sound hQ hT hc (Or.inl rfl), lineP_sound hQ hT hc (Or.inr rfl)]
    simp
  unfold causeC
  rw [sole_sound hQ hF hT hc, only_sound hQ hF hT hc, hl, hl, pair_sound hQ hF hT hc]
  simp
theorem Tr_str {s w : Nat → Nat} (hQ : QInv s) (hF : Full s) (hT : Tr s w) {r c n z : Nat} (hc : c < nc s) (hz : causeC s w r c n = some z) : Tr s (strW w c n) := by
  have hn : s (33 + c) ≠ n := fun q => by rw [← q, cause_sound hQ hF hT hc] at hz; cases hz
  intro d hd
  have h := hT d hd
  by_cases e : d = c
  · subst e
    unfold strW
    rw [nup_eq]
    refine ⟨by rw [andn_tb, sh1_tb, h.1]; simpa using hn, by have := andn_le (w d) (1 <<< n); omega, fun k hk => h.2.2 k ?_⟩
    rw [andn_tb] at hk
    simp only [Bool.and_eq_true] at hk
    exact hk.1
  · unfold strW; rw [nup_ne e]; exact h
theorem Tr_goN {s : Nat → Nat} {rules : Nat} (hQ : QInv s) (hF : Full s) : ∀ k w, Tr s w → Tr s (goN s rules k w).2 := by
  intro k
  induction k with
  | zero => intro w h; exact h
  | succ k ih =>
    intro w h
    cases hf : findS s w rules with
    | none => simp only [goN, hf]; exact h
    | some t =>
      obtain ⟨h0, h1, h2, h3, h4, h5, h6, h7⟩ := findS_some hf
      simp only [goN, hf]
      exact ih _ (Tr_str hQ hF h h3 h7)
theorem msk_tb {n k : Nat} : ((1 <<< (n + 1)) - 2).testBit k = decide (1 ≤ k ∧ k ≤ n) := by
  have e : (1 <<< (n + 1)) - 2 = 2 * (2 ^ n - 1) := by rw [Nat.one_shiftLeft, Nat.pow_succ]; omega
  rw [e]
  cases k with
  | zero => simp [Nat.testBit]
  | succ k =>
    rw [Nat.testBit_succ, Nat.mul_div_cancel_left _ (by decide), Nat.testBit_two_pow_sub_one]
    exact decide_eq_decide.mpr (by omega)
theorem Tr_fb {s : Nat → Nat} (hQ : QInv s) (hF : Full s) : Tr s (fb s) := by
  intro c hc
  have h7 := hQ.2.2.1 c hc
  have h8 := hF c hc
  refine ⟨?_, fb_W7 hQ.NB c hc, fun k hk => ?_⟩
  · unfold fb; split
    · rw [sh1_tb]; simp
    · rw [msk_tb]; simp; omega
  · unfold fb at hk; split at hk
    · rw [sh1_tb] at hk; simp at hk; omega
    · rw [msk_tb] at hk; simpa using hk
theorem Tr_brk {s w : Nat → Nat} (h : Tr s w) : brk s w = false := by
  refine Bool.eq_false_iff.mpr (fun q => ?_)
  unfold brk at q
  rw [anyB_iff] at q
  obtain ⟨c, hc, h0⟩ := q
  have := (h c hc).1
  simp at h0
  rw [h0] at this; simp at this
