/-! PLAIN LAW: the reference's calls: fill, reduce, support -/
set_option maxRecDepth 100000
/-- a number is free in a block with an empty cell -/
theorem free_ex {s : Nat → Nat} (hQ : QInv s) {c : Nat} (hc : c < nc s) (h0 : s (33 + c) = 0) : ∃ k, k < bsz s (s (8 + c)) ∧ taken s c (k + 1) = false := by
  obtain ⟨hP, -, h4, h5, -⟩ := hQ
  refine Classical.byContradiction (fun hno => ?_)
  have htk : ∀ k, k < bsz s (s (8 + c)) → ∃ d, d < nc s ∧ s (8 + d) = s (8 + c) ∧ s (33 + d) = k + 1 := fun k hk => by
    have h1 : taken s c (k + 1) = true := by
      cases hq : taken s c (k + 1) with
      | true => rfl
      | false => exact absurd ⟨k, hk, hq⟩ hno
    unfold taken at h1
    rw [anyB_iff] at h1
    obtain ⟨d, d1, d2⟩ := h1
    simp only [Bool.and_eq_true, Bool.not_eq_true', beq_eq_false_iff_ne, beq_iff_eq] at d2
    exact ⟨d, d1, d2.2.1, d2.2.2⟩
  have hone : ∀ n, sumTo (fun _ => 1) n = n := fun n => by induction n with | zero => rfl | succ n ih => simp [sumTo, ih]
  have hge : sumTo (fun _ => 1) (bsz s (s (8 + c))) ≤ sumTo (fun v => sumTo (fun d => if s (8 + d) = s (8 + c) ∧ s (33 + d) = v + 1 then 1 else 0) (nc s)) (bsz s (s (8 + c))) := sumTo_le (fun v hv => by
    obtain ⟨d, d1, d2, d3⟩ := htk v hv
    have : sumTo (fun _ => 0) (nc s) < sumTo (fun d => if s (8 + d) = s (8 + c) ∧ s (33 + d) = v + 1 then 1 else 0) (nc s) := sumTo_slt (j := d) (fun i hi => Nat.zero_le _) d1 (by rw [if_pos ⟨d2, d3⟩]; decide)
    omega)
  rw [← sumTo_swap, hone] at hge
  have hlt : sumTo (fun d => sumTo (fun v => if s (8 + d) = s (8 + c) ∧ s (33 + d) = v + 1 then 1 else 0) (bsz s (s (8 + c)))) (nc s) < sumTo (fun d => if s (8 + d) = s (8 + c) then 1 else 0) (nc s) := by
    refine sumTo_slt (j := c) (fun d hd => ?_) hc ?_
    · by_cases q : s (8 + d) = s (8 + c)
      · rw [if_pos q]; exact sumTo_le1 (fun i j hi hj p p' => by have := p.2; have := p'.2; omega)
      · have : ∀ n, sumTo (fun v => if s (8 + d) = s (8 + c) ∧ s (33 + d) = v + 1 then 1 else 0) n = 0 := by
          intro n
          induction n with
          | zero => rfl
          | succ n ih => simp only [sumTo, ih]; rw [if_neg (fun h => q h.1)]
        rw [this]; exact Nat.zero_le _
    · have : ∀ n, sumTo (fun v => if s (8 + c) = s (8 + c) ∧ s (33 + c) = v + 1 then 1 else 0) n = 0 := by
        intro n
        induction n with
        | zero => rfl
        | succ n ih => unfold sumTo; rw [ih, if_neg (fun h => by have := h.2; omega)]
      rw [this, if_pos rfl]; decide
  have e : bsz s (s (8 + c)) = sumTo (fun d => if s (8 + d) = s (8 + c) then 1 else 0) (nc s) := rfl
  omega
def lowF (s : Nat → Nat) (c : Nat) : Nat := (firstI (fun k => !(taken s c (k + 1))) 7).getD 0 + 1
theorem lowF_spec {s : Nat → Nat} (hQ : QInv s) {c : Nat} (hc : c < nc s) (h0 : s (33 + c) = 0) : lowF s c ≤ bsz s (s (8 + c)) ∧ taken s c (lowF s c) = false ∧ ∀ j, j + 1 < lowF s c → taken s c (j + 1) = true := by
  obtain ⟨k, k1, k2⟩ := free_ex hQ hc h0
  have h6 := (hQ.2.2.1 c hc).1
  unfold lowF
  cases hf : firstI (fun k => !(taken s c (k + 1))) 7 with
  | none =>
    rw [firstI_none] at hf
    have := hf k (by omega)
    rw [k2] at this; cases this
  | some j =>
    rw [firstI_some] at hf
    obtain ⟨j1, j2, j3⟩ := hf
    simp only [Option.getD_some]
    refine ⟨?_, by simpa using j2, fun i hi => by have := j3 i (by omega); simpa using this⟩
    rcases Nat.lt_or_ge k j with h | h
    · have := j3 k h; rw [k2] at this; cases this
    · omega
def flTo (s : Nat → Nat) : Nat → (Nat → Nat)
  | 0 => s
  | c + 1 => if flTo s c (33 + c) = 0 then nup (flTo s c) (33 + c) (lowF (flTo s c) c) else flTo s c
theorem flTo_ne {s : Nat → Nat} {k : Nat} : ∀ n, n ≤ 25 → (k < 33 ∨ 58 ≤ k ∨ 33 + n ≤ k) → flTo s n k = s k := by
  intro n
  induction n with
  | zero => intro _ _; rfl
  | succ n ih =>
    intro hn hk
    simp only [flTo]
    split
    · rw [nup_ne (by omega)]; exact ih (by omega) (by omega)
    · exact ih (by omega) (by omega)
theorem flTo_Q {s : Nat → Nat} (h : QInv s) : ∀ n, n ≤ nc s → QInv (flTo s n) ∧ nc (flTo s n) = nc s ∧ (SB s → SB (flTo s n)) := by
  have hn := nc_le h.1
  intro n
  induction n with
  | zero => intro _; exact ⟨h, rfl, id⟩
  | succ n ih =>
    intro hle
    obtain ⟨i1, i2, i3⟩ := ih (by omega)
    simp only [flTo]
    split
    · rename_i h0
      have hl := lowF_spec i1 (c := n) (by omega) h0
      have h6 := (i1.2.2.1 n (by omega)).1
      refine ⟨QInv_num i1 (by omega) hl.1 (fun q => by unfold lowF at q; omega) (fun _ => hl.2.1), ?_, fun hs => nup_SB (i3 hs) (by omega)⟩
      rw [← i2]; exact nc_of (nup_ne (by omega)) (nup_ne (by omega))
    · exact ⟨i1, i2, i3⟩
def o_fill (g : GS) : Int32 × GS := if nemp g.1 = 0 then (-2, g) else chg g (I (nemp g.1)) (sReset (flTo g.1 (nc g.1)))
/-! clues in an order -/
def wth (s : Nat → Nat) (kind i : Nat) : Nat := if kind = 0 then s (33 + i) else lsum s i
def insP (w : Nat → Nat) (l : List Nat) (x : Nat) : Nat → Nat
  | 0 => 0
  | p + 1 => if w (l.getD p 0) < w x then insP w l x p else p + 1
def insL (w : Nat → Nat) (way : Nat) (l : List Nat) (x : Nat) : List Nat := l.take (if way = 2 then insP w l x l.length else l.length) ++ x :: l.drop (if way = 2 then insP w l x l.length else l.length)
def clAll (s : Nat → Nat) (kind : Nat) : Nat := if kind = 0 then nc s else s 0 + s 1
def clIx (s : Nat → Nat) (kind way k : Nat) : Nat := if way = 1 then clAll s kind - 1 - k else k
def clTo (s : Nat → Nat) (kind way : Nat) : Nat → List Nat
  | 0 => []
  | k + 1 => if s (place kind (clIx s kind way k)) = 1 then insL (wth s kind) way (clTo s kind way k) (clIx s kind way k) else clTo s kind way k
def rdc (kind : Nat) : (Nat → Nat) → List Nat → Nat × (Nat → Nat)
  | s, [] => (0, s)
  | s, i :: l => if solv (nup s (place kind i) 0) (s 2) = true then ((rdc kind (nup s (place kind i) 0) l).1 + 1, (rdc kind (nup s (place kind i) 0) l).2) else rdc kind (nup s (place kind i) 1) l
def o_reduce (g : GS) (x y : Int32) : Int32 × GS :=
  if (bt x 0 1 && bt y 0 2) = true then
    (if solv g.1 (g.1 2) = true then chg g (I (rdc (na x) g.1 (clTo g.1 (na x) (na y) (clAll g.1 (na x)))).1) (sReset (rdc (na x) g.1 (clTo g.1 (na x) (na y) (clAll g.1 (na x)))).2) else (-2, g)) else (-1, g)
/-! support -/
def bstTo (w : Nat → Nat) : Nat → Nat
  | 0 => 0
  | n + 1 => if pc (w (bstTo w n)) < pc (w n) then n else bstTo w n
def supN : Nat → (Nat → Nat) → Nat × (Nat → Nat)
  | 0, s => (0, s)
  | k + 1, s => if solv s (s 2) = true then (0, s) else ((supN k (nup s (58 + bstTo (endF s (s 2)).2 (nc s)) 1)).1 + 1, (supN k (nup s (58 + bstTo (endF s (s 2)).2 (nc s)) 1)).2)
def o_support (g : GS) : Int32 × GS := if 0 < nemp g.1 ∨ solv g.1 (g.1 2) = true then (-2, g) else chg g (I (supN 26 g.1).1) (sReset (supN 26 g.1).2)
theorem bstTo_lt {w : Nat → Nat} : ∀ n, 0 < n → bstTo w n < n := by
  intro n
  induction n with
  | zero => intro h; omega
  | succ n ih =>
    intro _
    simp only [bstTo]
    split
    · omega
    · rcases Nat.eq_zero_or_pos n with q | q
      · subst q; exact Nat.zero_lt_one
      · have := ih q; omega
theorem bstTo_ge {w : Nat → Nat} : ∀ n c, c < n → pc (w c) ≤ pc (w (bstTo w n)) := by
  intro n
  induction n with
  | zero => intro c h; omega
  | succ n ih =>
    intro c h
    simp only [bstTo]
    rcases Nat.lt_succ_iff_lt_or_eq.mp h with q | q
    · have := ih c q
      split <;> omega
    · subst q
      split
      · exact Nat.le_refl _
      · omega
theorem bstTo_congr {w w' : Nat → Nat} : ∀ n, EqN n w w' → bstTo w n = bstTo w' n := by
  intro n
  induction n with
  | zero => intro _; rfl
  | succ n ih =>
    intro h
    have h1 := ih (fun c hc => h c (by omega))
    simp only [bstTo]
    rw [h1, h n (by omega)]
    have : w (bstTo w' n) = w' (bstTo w' n) := by
      rcases Nat.eq_zero_or_pos n with q | q
      · subst q; exact h 0 (by decide)
      · exact h _ (by have := bstTo_lt (w := w') n q; omega)
    rw [this]
theorem goN_sub {s : Nat → Nat} {rules : Nat} : ∀ k w c j, ((goN s rules k w).2 c).testBit j = true → (w c).testBit j = true := by
  intro k
  induction k with
  | zero => intro w c j h; exact h
  | succ k ih =>
    intro w c j h
    cases hf : findS s w rules with
    | none => simpa only [goN, hf] using h
    | some t =>
      simp only [goN, hf] at h
      have h1 := ih _ c j h
      by_cases e : c = t.2.1
      · subst e
        unfold strW at h1
        rw [nup_eq, andn_tb] at h1
        simp only [Bool.and_eq_true] at h1
        exact h1.1
      · unfold strW at h1
        rw [nup_ne e] at h1; exact h1
/-- an end that isn't solved, of a full answer: the best cell isn't given -/
theorem best_open {s : Nat → Nat} {rules : Nat} (hQ : QInv s) (hF : Full s) (hns : solv s rules = false) : bstTo (endF s rules).2 (nc s) < nc s ∧ s (58 + bstTo (endF s rules).2 (nc s)) = 0 := by
  have hn := nc_le hQ.1
  have hT : Tr s (endF s rules).2 := Tr_goN hQ hF _ _ (Tr_fb hQ hF)
  have hbl := bstTo_lt (w := (endF s rules).2) (nc s) (by omega)
  refine ⟨hbl, ?_⟩
  have hb := Tr_brk hT
  have hsg : sgl s (endF s rules).2 ≠ nc s := fun q => by
    unfold solv outc at hns
    rw [hb, if_neg (by decide), if_pos q] at hns
    cases hns
  have hex : ∃ c, c < nc s ∧ pc ((endF s rules).2 c) ≠ 1 := by
    refine Classical.byContradiction (fun hno => hsg ?_)
    unfold sgl
    have hone : ∀ n, sumTo (fun _ => 1) n = n := fun n => by induction n with | zero => rfl | succ n ih => simp [sumTo, ih]
    rw [sumTo_congr (g := fun _ => 1) (fun i hi => if_pos (Classical.byContradiction (fun q => hno ⟨i, hi, q⟩))), hone]
  obtain ⟨c, hc, h1⟩ := hex
  have h2 : pc ((endF s rules).2 c) ≠ 0 := fun q => by
    have := pc_zero (hT c hc).2.1 q
    have h3 := (hT c hc).1
    rw [this] at h3; simp at h3
  have h3 := bstTo_ge (w := (endF s rules).2) (nc s) c hc
  generalize bstTo (endF s rules).2 (nc s) = b at hbl h3
  have h4 := (hQ.2.2.1 b hbl).2.2.1
  refine Classical.byContradiction (fun hg => ?_)
  have hg1 : s (58 + b) = 1 := by omega
  have hfb : fb s b = 1 <<< s (33 + b) := by unfold fb; rw [if_pos hg1]
  have hsub : ∀ j, ((endF s rules).2 b).testBit j = true → j = s (33 + b) := fun j hj => by
    have := goN_sub (s := s) (rules := rules) 151 (fb s) b j hj
    rw [hfb, sh1_tb] at this
    simpa using this
  have h5 := pc_str (show s (33 + b) < 31 by have := (hQ.NB b hbl).1; omega) (hT b hbl).1
  have h6 : pc (andn ((endF s rules).2 b) (1 <<< s (33 + b))) = 0 := by
    have : andn ((endF s rules).2 b) (1 <<< s (33 + b)) = 0 := by
      apply Nat.eq_of_testBit_eq
      intro j
      rw [andn_tb, sh1_tb, Nat.zero_testBit]
      cases hj : ((endF s rules).2 b).testBit j with
      | false => rfl
      | true => rw [hsub j hj]; simp
    rw [this]; decide
  omega
theorem Full_of {s : Nat → Nat} (h : nemp s = 0) : Full s := by
  intro c hc h0
  have : sumTo (fun _ => 0) (nc s) < nemp s := sumTo_slt (j := c) (fun _ _ => Nat.zero_le _) hc (by rw [if_pos h0]; decide)
  omega
theorem ngiv_up {s : Nat → Nat} {b : Nat} (hP : PG' s) (hb : b < nc s) (h0 : s (58 + b) = 0) : ngiv (nup s (58 + b) 1) = ngiv s + 1 := by
  have hn := nc_le hP
  have e : nc (nup s (58 + b) 1) = nc s := nc_of (nup_ne (by omega)) (nup_ne (by omega))
  unfold ngiv
  rw [e]
  have := sumTo_upd (f := fun c => s (58 + c)) (f' := fun c => nup s (58 + b) 1 (58 + c)) hb (fun i hi => nup_ne (by omega))
  rw [h0, nup_eq] at this
  exact this
theorem ngiv_le {s : Nat → Nat} (hQ : QInv s) : ngiv s ≤ nc s := by
  have hone : ∀ n, sumTo (fun _ => 1) n = n := fun n => by induction n with | zero => rfl | succ n ih => simp [sumTo, ih]
  have : ngiv s ≤ sumTo (fun _ => 1) (nc s) := sumTo_le (fun c hc => (hQ.2.2.1 c hc).2.2.1)
  rw [hone] at this; exact this
section TW69
variable {m : Nat} {v : Nat → Int32} {A : Nat → Nat → Nat} {h : PH} {g : GS}
theorem tw_fill (hT : TI v A g) (hI : RInv g.1) : ∃ v' A', f_X13_fill (some m) (TW m v A h) = some ((o_fill g).1, TW m v' A' h) ∧ TI v' A' (o_fill g).2 := by
  have hQ := hI.1.1
  have hP := hQ.1
  have hn := nc_le hP
  have hT0 := TI_v0 (x := I 0) hT
  have s1 : A 1 = g.1 := hT.2.1
  have hs := TI_SB hT
  have hA1 : SB (A 1) := hT.1 1
  have hem := tw_emptyMany (m := m) (v := vup v 0 (I 0)) (h := h) hA1 (by rw [s1]; exact hP)
  rw [s1] at hem
  have hnl : nemp g.1 ≤ nc g.1 := by
    have hone : ∀ n, sumTo (fun _ => 1) n = n := fun n => by induction n with | zero => rfl | succ n ih => simp [sumTo, ih]
    have : nemp g.1 ≤ sumTo (fun _ => 1) (nc g.1) := sumTo_le (fun c hc => by split <;> omega)
    rw [hone] at this; exact this
  unfold o_fill
  by_cases h0 : nemp g.1 = 0
  · rw [if_pos h0]
    refine ⟨_, _, ?_, hT0⟩
    simp (disch := first | omega | assumption) only [tw_rcv, tw_r1, tw_r2, tw_r3, tw_r5, tw_r7, tw_r12, tw_r14, tw_r15, tw_r16, tw_r17, tw_r18, Option.bind_some, lit_I, I_add, I_mul, I_le, I_lt, I_eq, if_neg, if_pos, if_true, if_false, I_10, I_01, bit_T, bit_F, bit_F', bit_0, bit_1, gb_bit, tw_s, tw_rw, tw_cells, tw_blockOf, tw_numberOf, aset_eq, aset_ne, aset_aset, Bool.false_eq_true, not_true_eq_false, not_false_eq_true, f_X13_fill, tw_p0, hem, h0]
  · rw [if_neg h0]
    obtain ⟨v1, A1, a1, a2, -, -⟩ := tw_actT (m := m) (h := h) hT0
    have s2 : A1 1 = g.1 := a2.2.1
    have hfq := flTo_Q hQ (nc g.1) (Nat.le_refl _)
    obtain ⟨A3, c1, c2, -, -⟩ := tw_resetT (m := m) (h := h) (TI_set (s := flTo g.1 (nc g.1)) a2 (hfq.2.2 hs)) hfq.1
    refine ⟨v1, A3, ?_, c2⟩
    have key := loop_FU (fun n (p : Nat × (Nat → Nat)) => f_X13_fill_L23 n (some m) (I (nemp g.1)) (I p.1) (TW m v1 (aset A1 1 p.2) h)) (fun j => (j, flTo g.1 j)) (nc g.1) (some (I (nemp g.1), TW m v1 A3 h)) (by omega) (fun n j hj => ?_) (fun n => ?_)
    · have e0 : aset A1 1 (flTo g.1 0) = A1 := by show aset A1 1 g.1 = A1; rw [← s2]; exact aset_self
      simp only [e0] at key
      simp (disch := first | omega | assumption) only [tw_rcv, tw_r1, tw_r2, tw_r3, tw_r5, tw_r7, tw_r12, tw_r14, tw_r15, tw_r16, tw_r17, tw_r18, Option.bind_some, lit_I, I_add, I_mul, I_le, I_lt, I_eq, if_neg, if_pos, if_true, if_false, I_10, I_01, bit_T, bit_F, bit_F', bit_0, bit_1, gb_bit, tw_s, tw_rw, tw_cells, tw_blockOf, tw_numberOf, aset_eq, aset_ne, aset_aset, Bool.false_eq_true, not_true_eq_false, not_false_eq_true, f_X13_fill, tw_p0, hem, a1]
      exact key
    · obtain ⟨i1, i2, i3⟩ := flTo_Q hQ j (by omega)
      have hsj := i3 hs
      have hb := hsj (33 + j)
      by_cases q : flTo g.1 j (33 + j) = 0
      · have hl := lowF_spec i1 (c := j) (by omega) q
        have h6 := (i1.2.2.1 j (by omega)).1
        have e2 : flTo g.1 (j + 1) = nup (flTo g.1 j) (33 + j) (lowF (flTo g.1 j) j) := by simp only [flTo]; rw [if_pos q]
        have htk : ∀ k, k < 10 → f_X13_isTaken (some m) (I j) (I k) (TW m v1 (aset A1 1 (flTo g.1 j)) h) = some (I (bit (taken (flTo g.1 j) j k = true)), TW m v1 (aset A1 1 (flTo g.1 j)) h) := fun k hk => by
          have := tw_isTaken (m := m) (v := v1) (h := h) (A := aset A1 1 (flTo g.1 j)) (c := j) (n := k) (by omega) (by omega) (by rw [aset_eq]; exact hsj) (by rw [aset_eq]; exact i1.1)
          rw [aset_eq] at this; exact this
        have k41 := loop_FU (fun n' (p : Nat) => f_X13_fill_L41 (f_X13_fill_L23 n) n' (some m) (I (nemp g.1)) (I j) (I (p + 1)) (TW m v1 (aset A1 1 (flTo g.1 j)) h)) (fun i => i) (lowF (flTo g.1 j) j - 1) (f_X13_fill_L23 n (some m) (I (nemp g.1)) (I (j + 1)) (TW m v1 (aset A1 1 (flTo g.1 (j + 1))) h)) (by omega) (fun n' i hi => ?_) (fun n' => ?_)
        · simp (disch := first | omega | assumption) only [tw_rcv, tw_r1, tw_r2, tw_r3, tw_r5, tw_r7, tw_r12, tw_r14, tw_r15, tw_r16, tw_r17, tw_r18, Option.bind_some, lit_I, I_add, I_mul, I_le, I_lt, I_eq, if_neg, if_pos, if_true, if_false, I_10, I_01, bit_T, bit_F, bit_F', bit_0, bit_1, gb_bit, tw_s, tw_rw, tw_cells, tw_blockOf, tw_numberOf, aset_eq, aset_ne, aset_aset, Bool.false_eq_true, not_true_eq_false, not_false_eq_true, f_X13_fill_L23, i2, q]
          exact k41
        · have := hl.2.2 i (by omega)
          simp (disch := first | omega | assumption) only [tw_rcv, tw_r1, tw_r2, tw_r3, tw_r5, tw_r7, tw_r12, tw_r14, tw_r15, tw_r16, tw_r17, tw_r18, Option.bind_some, lit_I, I_add, I_mul, I_le, I_lt, I_eq, if_neg, if_pos, if_true, if_false, I_10, I_01, bit_T, bit_F, bit_F', bit_0, bit_1, gb_bit, tw_s, tw_rw, tw_cells, tw_blockOf, tw_numberOf, aset_eq, aset_ne, aset_aset, Bool.false_eq_true, not_true_eq_false, not_false_eq_true, f_X13_fill_L41, htk, this]
        · have e3 : lowF (flTo g.1 j) j - 1 + 1 = lowF (flTo g.1 j) j := by unfold lowF; omega
          rw [e3]
          simp (disch := first | omega | assumption) only [tw_rcv, tw_r1, tw_r2, tw_r3, tw_r5, tw_r7, tw_r12, tw_r14, tw_r15, tw_r16, tw_r17, tw_r18, Option.bind_some, lit_I, I_add, I_mul, I_le, I_lt, I_eq, if_neg, if_pos, if_true, if_false, I_10, I_01, bit_T, bit_F, bit_F', bit_0, bit_1, gb_bit, tw_s, tw_rw, tw_cells, tw_blockOf, tw_numberOf, aset_eq, aset_ne, aset_aset, Bool.false_eq_true, not_true_eq_false, not_false_eq_true, f_X13_fill_L41, htk, hl.2.1, tw_ws, e2]
      · have e2 : flTo g.1 (j + 1) = flTo g.1 j := by simp only [flTo]; rw [if_neg q]
        simp (disch := first | omega | assumption) only [tw_rcv, tw_r1, tw_r2, tw_r3, tw_r5, tw_r7, tw_r12, tw_r14, tw_r15, tw_r16, tw_r17, tw_r18, Option.bind_some, lit_I, I_add, I_mul, I_le, I_lt, I_eq, if_neg, if_pos, if_true, if_false, I_10, I_01, bit_T, bit_F, bit_F', bit_0, bit_1, gb_bit, tw_s, tw_rw, tw_cells, tw_blockOf, tw_numberOf, aset_eq, aset_ne, aset_aset, Bool.false_eq_true, not_true_eq_false, not_false_eq_true, f_X13_fill_L23, i2, q, e2]
    · simp (disch := first | omega | assumption) only [tw_rcv, tw_r1, tw_r2, tw_r3, tw_r5, tw_r7, tw_r12, tw_r14, tw_r15, tw_r16, tw_r17, tw_r18, Option.bind_some, lit_I, I_add, I_mul, I_le, I_lt, I_eq, if_neg, if_pos, if_true, if_false, I_10, I_01, bit_T, bit_F, bit_F', bit_0, bit_1, gb_bit, tw_s, tw_rw, tw_cells, tw_blockOf, tw_numberOf, aset_eq, aset_ne, aset_aset, Bool.false_eq_true, not_true_eq_false, not_false_eq_true, f_X13_fill_L23, hfq.2.1, c1]
theorem tw_best {r28 : Option Nat → Int32 → PH → Option (Int32 × PH)} {x1 : Int32} (hA : AB A) (hP : PG' (A 1)) : f_X13_support_L39 r28 FU (some m) x1 (I 0) (I 1) (TW m v A h) = r28 (some m) (x1 + I 1) (TW m v (aset A 1 (nup (A 1) (58 + bstTo (A 5) (nc (A 1))) 1)) h) := by
  have hn := nc_le hP
  have hbl := bstTo_lt (w := A 5) (nc (A 1)) (by omega)
  have hA5 : SB (A 5) := hA 5
  have e1 : bstTo (A 5) 1 = 0 := by simp [bstTo]
  have key := loop_up (fun n (p : Nat × Nat) => f_X13_support_L39 r28 n (some m) x1 (I p.1) (I p.2) (TW m v A h)) (fun j => (bstTo (A 5) j, j)) (nc (A 1)) (r28 (some m) (x1 + I 1) (TW m v (aset A 1 (nup (A 1) (58 + bstTo (A 5) (nc (A 1))) 1)) h)) (fun n j hj => ?_) (fun n => ?_) FU 1 (by omega) (by rw [FU_eq]; omega)
  · simp only [e1] at key
    exact key
  · have hb1 : bstTo (A 5) j < 25 := by
      rcases Nat.eq_zero_or_pos j with q | q
      · subst q; show 0 < 25; decide
      · have := bstTo_lt (w := A 5) j q; omega
    have h1 := hA5 j
    have h2 := hA5 (bstTo (A 5) j)
    have h3 := pc_le (A 5 j)
    have h4 := pc_le (A 5 (bstTo (A 5) j))
    by_cases q : pc (A 5 (bstTo (A 5) j)) < pc (A 5 j)
    · have e : bstTo (A 5) (j + 1) = j := by simp only [bstTo]; rw [if_pos q]
      simp (disch := first | omega | assumption) only [tw_rcv, tw_r1, tw_r2, tw_r3, tw_r5, tw_r7, tw_r12, tw_r14, tw_r15, tw_r16, tw_r17, tw_r18, Option.bind_some, lit_I, I_add, I_mul, I_le, I_lt, I_eq, if_neg, if_pos, if_true, if_false, I_10, I_01, bit_T, bit_F, bit_F', bit_0, bit_1, gb_bit, tw_s, tw_rw, tw_cells, tw_blockOf, tw_numberOf, aset_eq, aset_ne, aset_aset, Bool.false_eq_true, not_true_eq_false, not_false_eq_true, f_X13_support_L39, tw_ones, e]
    · have e : bstTo (A 5) (j + 1) = bstTo (A 5) j := by simp only [bstTo]; rw [if_neg q]
      simp (disch := first | omega | assumption) only [tw_rcv, tw_r1, tw_r2, tw_r3, tw_r5, tw_r7, tw_r12, tw_r14, tw_r15, tw_r16, tw_r17, tw_r18, Option.bind_some, lit_I, I_add, I_mul, I_le, I_lt, I_eq, if_neg, if_pos, if_true, if_false, I_10, I_01, bit_T, bit_F, bit_F', bit_0, bit_1, gb_bit, tw_s, tw_rw, tw_cells, tw_blockOf, tw_numberOf, aset_eq, aset_ne, aset_aset, Bool.false_eq_true, not_true_eq_false, not_false_eq_true, f_X13_support_L39, tw_ones, e]
  · simp (disch := first | omega | assumption) only [tw_rcv, tw_r1, tw_r2, tw_r3, tw_r5, tw_r7, tw_r12, tw_r14, tw_r15, tw_r16, tw_r17, tw_r18, Option.bind_some, lit_I, I_add, I_mul, I_le, I_lt, I_eq, if_neg, if_pos, if_true, if_false, I_10, I_01, bit_T, bit_F, bit_F', bit_0, bit_1, gb_bit, tw_s, tw_rw, tw_cells, tw_blockOf, tw_numberOf, aset_eq, aset_ne, aset_aset, Bool.false_eq_true, not_true_eq_false, not_false_eq_true, f_X13_support_L39, tw_ws]
theorem tw_sup28 : ∀ (k f n : Nat) (v : Nat → Int32) (A : Nat → Nat → Nat) (g : GS), nc g.1 < ngiv g.1 + k → k < f → TI v A g → QInv g.1 → Full g.1 →
    ∃ v' A', f_X13_support_L28 f (some m) (I n) (TW m v A h) = some (I (n + (supN k g.1).1), TW m v' A' h) ∧ TI v' A' (sReset (supN k g.1).2, g.2) ∧ QInv (supN k g.1).2 := by
  intro k
  induction k with
  | zero => intro f n v A g h1 _ hT hQ; have := ngiv_le hQ; omega
  | succ k ih =>
    intro f n v A g h1 hf hT hQ hF
    obtain ⟨f, rfl⟩ : ∃ f', f = f' + 1 := ⟨f - 1, by omega⟩
    have s1 : A 1 = g.1 := hT.2.1
    have hn := nc_le hQ.1
    obtain ⟨v2, A2, a1, a2, a3, -⟩ := tw_solvaT (m := m) (h := h) hT hQ
    have s2 : A2 1 = g.1 := a2.2.1
    cases h4 : solv g.1 (g.1 2) with
    | true =>
      obtain ⟨A3, c1, c2, -, -⟩ := tw_resetT (m := m) (h := h) a2 hQ
      refine ⟨v2, A3, ?_, ?_, ?_⟩
      · simp (disch := first | omega | assumption) only [tw_rcv, tw_r1, tw_r2, tw_r3, tw_r5, tw_r7, tw_r12, tw_r14, tw_r15, tw_r16, tw_r17, tw_r18, Option.bind_some, lit_I, I_add, I_mul, I_le, I_lt, I_eq, if_neg, if_pos, if_true, if_false, I_10, I_01, bit_T, bit_F, bit_F', bit_0, bit_1, gb_bit, tw_s, tw_rw, tw_cells, tw_blockOf, tw_numberOf, aset_eq, aset_ne, aset_aset, Bool.false_eq_true, not_true_eq_false, not_false_eq_true, f_X13_support_L28, a1, h4, c1, supN, Nat.add_zero]
      · simp only [supN, h4, if_true]; exact c2
      · simp only [supN, h4, if_true]; exact hQ
    | false =>
      obtain ⟨hb1, hb2⟩ := best_open hQ hF h4
      have hbe : bstTo (A2 5) (nc g.1) = bstTo (endF g.1 (g.1 2)).2 (nc g.1) := bstTo_congr _ a3
      have hbst := tw_best (m := m) (v := v2) (h := h) (A := A2) (r28 := f_X13_support_L28 f) (x1 := I n) a2.1 (by rw [s2]; exact hQ.1)
      rw [s2, hbe] at hbst
      generalize hb : bstTo (endF g.1 (g.1 2)).2 (nc g.1) = b at hb1 hb2 hbst
      have hs := TI_SB hT
      have t3 := TI_set (s := nup g.1 (58 + b) 1) a2 (nup_SB hs (by decide))
      have hQ3 : QInv (nup g.1 (58 + b) 1) := QInv_give hQ hb1 (Nat.le_refl _) (fun _ => hF b hb1)
      have e3 : nc (nup g.1 (58 + b) 1) = nc g.1 := nc_of (nup_ne (by omega)) (nup_ne (by omega))
      have hF3 : Full (nup g.1 (58 + b) 1) := fun c hc => by
        rw [e3] at hc
        rw [nup_ne (by omega)]; exact hF c hc
      have hng := ngiv_up hQ.1 hb1 hb2
      obtain ⟨v', A', d1, d2, d3⟩ := ih f (n + 1) v2 _ (nup g.1 (58 + b) 1, g.2) (by simp only [e3, hng]; omega) (by omega) t3 hQ3 hF3
      refine ⟨v', A', ?_, ?_, ?_⟩
      · simp (disch := first | omega | assumption) only [tw_rcv, tw_r1, tw_r2, tw_r3, tw_r5, tw_r7, tw_r12, tw_r14, tw_r15, tw_r16, tw_r17, tw_r18, Option.bind_some, lit_I, I_add, I_mul, I_le, I_lt, I_eq, if_neg, if_pos, if_true, if_false, I_10, I_01, bit_T, bit_F, bit_F', bit_0, bit_1, gb_bit, tw_s, tw_rw, tw_cells, tw_blockOf, tw_numberOf, aset_eq, aset_ne, aset_aset, Bool.false_eq_true, not_true_eq_false, not_false_eq_true, f_X13_support_L28, a1, h4, hbst, supN, hb]
        simp only at d1
        rw [d1]; congr 2; congr 1; omega
      · simp only [supN, h4, Bool.false_eq_true, if_false, hb]; exact d2
      · simp only [supN, h4, Bool.false_eq_true, if_false, hb]; exact d3
theorem tw_support (hT : TI v A g) (hI : RInv g.1) : ∃ v' A', f_X13_support (some m) (TW m v A h) = some ((o_support g).1, TW m v' A' h) ∧ TI v' A' (o_support g).2 := by
  have hQ := hI.1.1
  have hP := hQ.1
  have hn := nc_le hP
  have hT0 := TI_v0 (x := I 0) hT
  have s1 : A 1 = g.1 := hT.2.1
  have hA1 : SB (A 1) := hT.1 1
  have hem := tw_emptyMany (m := m) (v := vup v 0 (I 0)) (h := h) hA1 (by rw [s1]; exact hP)
  rw [s1] at hem
  have hnl : nemp g.1 ≤ nc g.1 := by
    have hone : ∀ n, sumTo (fun _ => 1) n = n := fun n => by induction n with | zero => rfl | succ n ih => simp [sumTo, ih]
    have : nemp g.1 ≤ sumTo (fun _ => 1) (nc g.1) := sumTo_le (fun c hc => by split <;> omega)
    rw [hone] at this; exact this
  unfold o_support
  by_cases h0 : 0 < nemp g.1
  · rw [if_pos (Or.inl h0)]
    refine ⟨_, _, ?_, hT0⟩
    simp (disch := first | omega | assumption) only [tw_rcv, tw_r1, tw_r2, tw_r3, tw_r5, tw_r7, tw_r12, tw_r14, tw_r15, tw_r16, tw_r17, tw_r18, Option.bind_some, lit_I, I_add, I_mul, I_le, I_lt, I_eq, if_neg, if_pos, if_true, if_false, I_10, I_01, bit_T, bit_F, bit_F', bit_0, bit_1, gb_bit, tw_s, tw_rw, tw_cells, tw_blockOf, tw_numberOf, aset_eq, aset_ne, aset_aset, Bool.false_eq_true, not_true_eq_false, not_false_eq_true, f_X13_support, tw_p0, hem]
  · have h0' : nemp g.1 = 0 := by omega
    obtain ⟨v2, A2, a1, a2, a3, -⟩ := tw_solvaT (m := m) (h := h) hT0 hQ
    cases h4 : solv g.1 (g.1 2) with
    | true =>
      rw [if_pos (Or.inr rfl)]
      refine ⟨_, _, ?_, a2⟩
      simp (disch := first | omega | assumption) only [tw_rcv, tw_r1, tw_r2, tw_r3, tw_r5, tw_r7, tw_r12, tw_r14, tw_r15, tw_r16, tw_r17, tw_r18, Option.bind_some, lit_I, I_add, I_mul, I_le, I_lt, I_eq, if_neg, if_pos, if_true, if_false, I_10, I_01, bit_T, bit_F, bit_F', bit_0, bit_1, gb_bit, tw_s, tw_rw, tw_cells, tw_blockOf, tw_numberOf, aset_eq, aset_ne, aset_aset, Bool.false_eq_true, not_true_eq_false, not_false_eq_true, f_X13_support, tw_p0, hem, h0', a1, h4]
    | false =>
      have hno : ¬ (0 < nemp g.1 ∨ false = true) := by
        intro q
        rcases q with q | q
        · exact h0 q
        · cases q
      rw [if_neg hno]
      obtain ⟨v3, A3, b1, b2, -, -⟩ := tw_actT (m := m) (h := h) a2
      obtain ⟨v', A', d1, d2, d3⟩ := tw_sup28 (m := m) (h := h) 26 FU 0 v3 A3 _ (by simp only; omega) (by rw [FU_eq]; omega) b2 hQ (Full_of h0')
      simp only [Nat.zero_add] at d1
      refine ⟨v', A', ?_, d2⟩
      simp (disch := first | omega | assumption) only [tw_rcv, tw_r1, tw_r2, tw_r3, tw_r5, tw_r7, tw_r12, tw_r14, tw_r15, tw_r16, tw_r17, tw_r18, Option.bind_some, lit_I, I_add, I_mul, I_le, I_lt, I_eq, if_neg, if_pos, if_true, if_false, I_10, I_01, bit_T, bit_F, bit_F', bit_0, bit_1, gb_bit, tw_s, tw_rw, tw_cells, tw_blockOf, tw_numberOf, aset_eq, aset_ne, aset_aset, Bool.false_eq_true, not_true_eq_false, not_false_eq_true, f_X13_support, tw_p0, hem, h0', a1, h4, b1]
      exact d1
end TW69
