/-! PLAIN LAW: the reference's calls: numbers and clues -/
set_option maxRecDepth 100000
theorem bt_ex {x : Int32} {a b : Nat} (ha : a < 2147483648) (hb : b < 2147483648) (h : bt x a b = true) : ∃ c, x = I c ∧ na x = c ∧ a ≤ c ∧ c ≤ b := by
  obtain ⟨h1, h2, h3⟩ := bt_na ha hb h
  exact ⟨na x, h1, rfl, h2, h3⟩
/-- a row with the answer changed at a cell -/
theorem QInv_num {s : Nat → Nat} {c k : Nat} (h : QInv s) (hc : c < nc s) (hk : k ≤ bsz s (s (8 + c))) (hg : k = 0 → s (58 + c) = 0) (ht : k ≠ 0 → taken s c k = false) : QInv (nup s (33 + c) k) := by
  obtain ⟨hP, ⟨h2, h3⟩, h4, h5, h6⟩ := h
  have hn := nc_le hP
  have en : nc (nup s (33 + c) k) = nc s := nc_of (nup_ne (by omega)) (nup_ne (by omega))
  have hbs : ∀ e, bsz (nup s (33 + c) k) e = bsz s e := fun e => by
    unfold bsz; rw [en]; exact sumTo_congr (fun i hi => by rw [nup_ne (by omega)])
  have e33 : ∀ d, nup s (33 + c) k (33 + d) = if d = c then k else s (33 + d) := fun d => by
    by_cases e : d = c
    · subst e; rw [nup_eq, if_pos rfl]
    · rw [nup_ne (by omega), if_neg e]
  have htk : ∀ d, d < nc s → d ≠ c → s (8 + d) = s (8 + c) → s (33 + d) = k → k = 0 := fun d hd hdc h8 h33 => by
    by_cases hk0 : k = 0
    · exact hk0
    · have := ht hk0
      have h2 : taken s c k = true := by
        unfold taken; rw [anyB_iff]; exact ⟨d, hd, by simp [hdc, h8, h33]⟩
      rw [h2] at this; cases this
  refine ⟨PG_of (nup_ne (by omega)) (nup_ne (by omega)) hP, ⟨by rw [nup_ne (by omega)]; exact h2, fun r hr => by rw [nup_ne (by omega)]; exact h3 r hr⟩, fun d hd => ?_, fun d e hd he hde => ?_, fun i hi => ?_⟩
  · rw [en] at hd
    have h7 := h4 d hd
    rw [nup_ne (k := 8 + d) (by omega), nup_ne (k := 58 + d) (by omega), hbs, e33]
    by_cases e : d = c
    · subst e
      rw [if_pos rfl]
      refine ⟨h7.1, hk, h7.2.2.1, fun q q0 => ?_⟩
      have := hg q0; omega
    · rw [if_neg e]; exact h7
  · rw [en] at hd he
    rw [nup_ne (k := 8 + d) (by omega), nup_ne (k := 8 + e) (by omega), e33, e33]
    intro q1 q2
    by_cases e1 : d = c
    · subst e1
      rw [if_pos rfl] at q2 ⊢
      rw [if_neg (fun q => hde q.symm)] at q2
      exact htk e he (fun q => hde q.symm) q1.symm q2.symm
    · rw [if_neg e1] at q2 ⊢
      by_cases e2 : e = c
      · subst e2
        rw [if_pos rfl] at q2
        rw [q2]; exact htk d hd e1 q1 q2
      · rw [if_neg e2] at q2
        exact h5 d e hd he hde q1 q2
  · rw [nup_ne (k := 0) (by omega), nup_ne (k := 1) (by omega)] at hi
    obtain ⟨a1, a2, a3, a4⟩ := hP
    rw [nup_ne (by omega)]; exact h6 i hi
/-- a row whose clues alone differ -/
theorem QInv_clue {s t : Nat → Nat} (h : QInv s) (he : ∀ k, k < 58 → t k = s k) (hg : ∀ c, c < nc s → t (58 + c) ≤ 1 ∧ (t (58 + c) = 1 → s (33 + c) ≠ 0)) (hs : ∀ i, i < s 0 + s 1 → t (83 + i) ≤ 1) : QInv t := by
  obtain ⟨hP, ⟨h2, h3⟩, h4, h5, h6⟩ := h
  have hn := nc_le hP
  have en : nc t = nc s := nc_of (he 0 (by omega)) (he 1 (by omega))
  have hbs : ∀ e, bsz t e = bsz s e := fun e => by
    unfold bsz; rw [en]; exact sumTo_congr (fun i hi => by rw [he _ (by omega)])
  refine ⟨PG_of (he 0 (by omega)) (he 1 (by omega)) hP, ⟨by rw [he 2 (by omega)]; exact h2, fun r hr => by rw [he _ (by omega)]; exact h3 r hr⟩, fun d hd => ?_, fun d e hd hee hde => ?_, fun i hi => ?_⟩
  · rw [en] at hd
    rw [he (8 + d) (by omega), hbs, he (33 + d) (by omega)]
    exact ⟨(h4 d hd).1, (h4 d hd).2.1, hg d hd⟩
  · rw [en] at hd hee
    rw [he (8 + d) (by omega), he (8 + e) (by omega), he (33 + d) (by omega), he (33 + e) (by omega)]
    exact h5 d e hd hee hde
  · rw [he 0 (by omega), he 1 (by omega)] at hi
    exact hs i hi
theorem sEmp_SB {s : Nat → Nat} {c : Nat} (h : SB s) : SB (sEmp s c) := nup_lt (nup_lt (nup_lt (nup_lt h (by decide)) (by decide)) (by decide)) (by decide)
theorem QInv_sEmp {s : Nat → Nat} {c : Nat} (h : QInv s) (hc : c < nc s) : QInv (sEmp s c) := by
  have hP := h.1
  have hn := nc_le hP
  have hd := dv_lt hP hc
  have hat := fun k => sEmp_at (k := k) hP hc
  have h1 : QInv (nup (nup s (58 + c) 0) (33 + c) 0) := by
    have q : QInv (nup s (58 + c) 0) := QInv_clue h (fun k hk => nup_ne (by omega)) (fun d hd => by
      by_cases e : d = c
      · subst e; rw [nup_eq]; exact ⟨by decide, fun q => by cases q⟩
      · rw [nup_ne (by omega)]; exact (h.2.2.1 d hd).2.2) (fun i hi => by
      obtain ⟨a1, a2, a3, a4⟩ := hP
      rw [nup_ne (by omega)]; exact h.2.2.2.2 i hi)
    have en : nc (nup s (58 + c) 0) = nc s := nc_of (nup_ne (by omega)) (nup_ne (by omega))
    exact QInv_num q (by rw [en]; exact hc) (Nat.zero_le _) (fun _ => nup_eq) (fun q => absurd rfl q)
  have en : nc (nup (nup s (58 + c) 0) (33 + c) 0) = nc s := nc_of (by rw [nup_ne (by omega), nup_ne (by omega)]) (by rw [nup_ne (by omega), nup_ne (by omega)])
  obtain ⟨a1, a2, a3, a4⟩ := hP
  refine QInv_clue h1 (fun k hk => ?_) (fun d hd' => ?_) (fun i hi => ?_)
  · rw [hat]
    by_cases e : k = 33 + c
    · subst e; rw [if_pos (by omega), nup_eq]
    · rw [if_neg (by omega), nup_ne (by omega), nup_ne (by omega)]
  · rw [en] at hd'
    have := h1.2.2.1 d (by rw [en]; exact hd')
    rw [hat]
    by_cases e : d = c
    · subst e; rw [if_pos (by omega)]; exact ⟨by decide, fun q => by cases q⟩
    · rw [if_neg (by omega)]
      rw [nup_ne (k := 58 + d) (by omega), nup_ne (k := 58 + d) (by omega)] at this
      exact this.2.2
  · rw [nup_ne (k := 0) (by omega), nup_ne (k := 0) (by omega), nup_ne (k := 1) (by omega), nup_ne (k := 1) (by omega)] at hi
    rw [hat]
    split
    · decide
    · exact h.2.2.2.2 i hi
def sWr (s : Nat → Nat) (c k : Nat) : Nat → Nat := nup (if k = 0 then sEmp s c else s) (33 + c) k
theorem sEmp_8 {s : Nat → Nat} {c d : Nat} (hP : PG' s) (hc : c < nc s) (hd : d < nc s) : sEmp s c (8 + d) = s (8 + d) := by
  have hn := nc_le hP
  have := dv_lt hP hc
  rw [sEmp_at hP hc, if_neg (by omega)]
theorem QInv_sWr {s : Nat → Nat} {c k : Nat} (h : QInv s) (hc : c < nc s) (hk : k ≤ bsz s (s (8 + c))) (ht : k ≠ 0 → taken s c k = false) : QInv (sWr s c k) := by
  have hn := nc_le h.1
  unfold sWr
  by_cases e : k = 0
  · subst e
    rw [if_pos rfl]
    have h1 := QInv_sEmp h hc
    have en : nc (sEmp s c) = nc s := nc_of (sEmp_low (by decide)) (sEmp_low (by decide))
    exact QInv_num h1 (by rw [en]; exact hc) (Nat.zero_le _) (fun _ => by rw [sEmp_at h.1 hc, if_pos (by omega)]) (fun q => absurd rfl q)
  · rw [if_neg e]
    exact QInv_num h hc hk (fun q => absurd q e) ht
def o_write (g : GS) (x y : Int32) : Int32 × GS :=
  if (bt x 0 (nc g.1 - 1) && bt y 0 (bsz g.1 (g.1 (8 + na x)))) = true then
    (if na y ≠ 0 ∧ taken g.1 (na x) (na y) = true then (-2, g) else chg g (I (g.1 (33 + na x))) (sReset (sWr g.1 (na x) (na y)))) else (-1, g)
def o_exchange (g : GS) (x y : Int32) : Int32 × GS :=
  if (bt x 0 (nc g.1 - 1) && bt y 0 (nc g.1 - 1) && !(na x == na y)) = true then
    (if g.1 (8 + na x) = g.1 (8 + na y) ∧ g.1 (33 + na x) ≠ 0 ∧ g.1 (33 + na y) ≠ 0 then chg g (I (g.1 (33 + na y))) (sReset (nup (nup g.1 (33 + na x) (g.1 (33 + na y))) (33 + na y) (g.1 (33 + na x)))) else (-2, g)) else (-1, g)
def o_give (g : GS) (x y : Int32) : Int32 × GS :=
  if (bt x 0 (nc g.1 - 1) && bt y 0 1) = true then
    (if na y = 1 ∧ g.1 (33 + na x) = 0 then (-2, g) else chg g (I (ngiv (nup g.1 (58 + na x) (na y)))) (sReset (nup g.1 (58 + na x) (na y)))) else (-1, g)
def o_showSum (g : GS) (x y : Int32) : Int32 × GS :=
  if (bt x 0 (g.1 0 + g.1 1 - 1) && bt y 0 1) = true then
    (if na y = 1 ∧ canS g.1 (na x) = false then (-2, g) else chg g (I (nshw (nup g.1 (83 + na x) (na y)))) (sReset (nup g.1 (83 + na x) (na y)))) else (-1, g)
theorem QInv_xch {s : Nat → Nat} {c d : Nat} (h : QInv s) (hc : c < nc s) (hd : d < nc s) (hcd : c ≠ d) (h8 : s (8 + c) = s (8 + d)) (h1 : s (33 + c) ≠ 0) (h2 : s (33 + d) ≠ 0) : QInv (nup (nup s (33 + c) (s (33 + d))) (33 + d) (s (33 + c))) := by
  obtain ⟨hP, ⟨q2, h3⟩, h4, h5, h6⟩ := h
  have hn := nc_le hP
  have en : nc (nup (nup s (33 + c) (s (33 + d))) (33 + d) (s (33 + c))) = nc s := nc_of (by rw [nup_ne (by omega), nup_ne (by omega)]) (by rw [nup_ne (by omega), nup_ne (by omega)])
  have el : ∀ k, ¬ (33 ≤ k ∧ k < 33 + nc s) → nup (nup s (33 + c) (s (33 + d))) (33 + d) (s (33 + c)) k = s k := fun k hk => by rw [nup_ne (by omega), nup_ne (by omega)]
  have hbs : ∀ e, bsz (nup (nup s (33 + c) (s (33 + d))) (33 + d) (s (33 + c))) e = bsz s e := fun e => by
    unfold bsz; rw [en]; exact sumTo_congr (fun i hi => by rw [el _ (by omega)])
  let sw : Nat → Nat := fun e => if e = d then c else if e = c then d else e
  have e33 : ∀ e, nup (nup s (33 + c) (s (33 + d))) (33 + d) (s (33 + c)) (33 + e) = s (33 + sw e) := fun e => by
    simp only [sw]
    by_cases e1 : e = d
    · subst e1; rw [nup_eq, if_pos rfl]
    · rw [nup_ne (by omega), if_neg e1]
      by_cases e2 : e = c
      · subst e2; rw [nup_eq, if_pos rfl]
      · rw [nup_ne (by omega), if_neg e2]
  have sw8 : ∀ e, s (8 + sw e) = s (8 + e) := fun e => by
    simp only [sw]
    split
    · rename_i q; rw [q]; exact h8
    · split
      · rename_i q; rw [q]; exact h8.symm
      · rfl
  have swl : ∀ e, e < nc s → sw e < nc s := fun e he => by simp only [sw]; repeat' split
                                                           all_goals assumption
  have swi : ∀ e f, sw e = sw f → e = f := fun e f q => by
    simp only [sw] at q
    repeat' split at q
    all_goals omega
  refine ⟨PG_of (el 0 (by omega)) (el 1 (by omega)) hP, ⟨by rw [el 2 (by omega)]; exact q2, fun r hr => by rw [el _ (by omega)]; exact h3 r hr⟩, fun e he => ?_, fun e f he hf hef => ?_, fun i hi => ?_⟩
  · rw [en] at he
    rw [el (8 + e) (by omega), hbs, el (58 + e) (by omega), e33]
    have h7 := h4 e he
    have h8' := h4 (sw e) (swl e he)
    rw [sw8] at h8'
    refine ⟨h7.1, h8'.2.1, h7.2.2.1, fun q => ?_⟩
    simp only [sw]
    split
    · exact h1
    · split
      · exact h2
      · exact h7.2.2.2 q
  · rw [en] at he hf
    rw [el (8 + e) (by omega), el (8 + f) (by omega), e33, e33]
    intro p1 p2
    exact h5 (sw e) (sw f) (swl e he) (swl f hf) (fun q => hef (swi e f q)) (by rw [sw8, sw8]; exact p1) p2
  · rw [el 0 (by omega), el 1 (by omega)] at hi
    obtain ⟨a1, a2, a3, a4⟩ := hP
    rw [el _ (by omega)]; exact h6 i hi
section TW60
variable {m : Nat} {v : Nat → Int32} {A : Nat → Nat → Nat} {h : PH} {g : GS}
theorem tw_write {x y : Int32} (hT : TI v A g) (hI : RInv g.1) : ∃ v' A', f_X13_write (some m) x y (TW m v A h) = some ((o_write g x y).1, TW m v' A' h) ∧ TI v' A' (o_write g x y).2 := by
  have hQ := hI.1.1
  have hP := hQ.1
  have hn := nc_le hP
  have hT0 := TI_v0 (x := I 0) hT
  have s1 : A 1 = g.1 := hT.2.1
  have hP1 : PG' (A 1) := by rw [s1]; exact hP
  have hs := TI_SB hT
  unfold o_write
  cases h1 : bt x 0 (nc g.1 - 1) with
  | false =>
    refine ⟨_, _, ?_, hT0⟩
    simp (disch := first | omega | assumption) only [tw_rcv, tw_r1, tw_r2, tw_r3, tw_r5, tw_r7, tw_r12, tw_r14, tw_r15, tw_r16, tw_r17, tw_r18, Option.bind_some, lit_I, I_add, I_mul, I_le, I_lt, I_eq, if_neg, if_pos, if_true, if_false, I_10, I_01, bit_T, bit_F, bit_F', bit_0, bit_1, gb_bit, tw_s, tw_rw, tw_cells, tw_blockOf, tw_numberOf, aset_eq, aset_ne, aset_aset, Bool.false_eq_true, not_true_eq_false, not_false_eq_true, f_X13_write, tw_p0, isCellZ hP1, s1, h1, Bool.false_and]
  | true =>
  obtain ⟨c, rfl, hna, -, hx⟩ := bt_ex (by decide) (by omega) h1
  simp only [hna]
  have hc : c < nc g.1 := by omega
  have hmx := tw_mostIn (m := m) (v := vup v 0 (I 0)) (h := h) (A := A) (c := c) (by omega) (hT.1 1) hP1
  rw [s1] at hmx
  have hz6 := (hQ.2.2.1 _ hc).1
  cases h2 : bt y 0 (bsz g.1 (g.1 (8 + c))) with
  | false =>
    refine ⟨_, _, ?_, hT0⟩
    simp (disch := first | omega | assumption) only [tw_rcv, tw_r1, tw_r2, tw_r3, tw_r5, tw_r7, tw_r12, tw_r14, tw_r15, tw_r16, tw_r17, tw_r18, Option.bind_some, lit_I, I_add, I_mul, I_le, I_lt, I_eq, if_neg, if_pos, if_true, if_false, I_10, I_01, bit_T, bit_F, bit_F', bit_0, bit_1, gb_bit, tw_s, tw_rw, tw_cells, tw_blockOf, tw_numberOf, aset_eq, aset_ne, aset_aset, Bool.false_eq_true, not_true_eq_false, not_false_eq_true, f_X13_write, tw_p0, isCellZ hP1, s1, h1, hmx, inZ, h2, Bool.true_and]
  | true =>
  obtain ⟨k, rfl, hnk, -, hy⟩ := bt_ex (by decide) (by omega) h2
  simp only [hnk]
  have htk := tw_isTaken (m := m) (v := vup v 0 (I 0)) (h := h) (A := A) (c := c) (n := k) (by omega) (by omega) (hT.1 1) hP1
  rw [s1] at htk
  obtain ⟨v1, A1, a1, a2, -, -⟩ := tw_actT (m := m) (h := h) hT0
  have s2 : A1 1 = g.1 := a2.2.1
  have htl : (k ≠ 0 ∧ taken g.1 c k = true) ∨ (k ≠ 0 → taken g.1 c k = false) := by
    cases taken g.1 c k with
    | true => by_cases e : k = 0
              · exact Or.inr (fun q => absurd e q)
              · exact Or.inl ⟨e, rfl⟩
    | false => exact Or.inr (fun _ => rfl)
  rcases htl with h3 | h3
  · refine ⟨_, _, ?_, by simp only [Bool.true_and, if_true, if_pos h3]; exact hT0⟩
    simp (disch := first | omega | assumption) only [tw_rcv, tw_r1, tw_r2, tw_r3, tw_r5, tw_r7, tw_r12, tw_r14, tw_r15, tw_r16, tw_r17, tw_r18, Option.bind_some, lit_I, I_add, I_mul, I_le, I_lt, I_eq, if_neg, if_pos, if_true, if_false, I_10, I_01, bit_T, bit_F, bit_F', bit_0, bit_1, gb_bit, tw_s, tw_rw, tw_cells, tw_blockOf, tw_numberOf, aset_eq, aset_ne, aset_aset, Bool.false_eq_true, not_true_eq_false, not_false_eq_true, f_X13_write, tw_p0, isCellZ hP1, s1, h1, hmx, inZ, h2, Bool.true_and, h3.1, h3.2, htk, ne_eq, and_self]
  · have hQ2 := QInv_sWr hQ hc hy h3
    have hneg : ¬ (k ≠ 0 ∧ taken g.1 c k = true) := fun q => by rw [h3 q.1] at q; cases q.2
    have hSB : SB (sWr g.1 c k) := by
      unfold sWr
      refine nup_SB ?_ (by omega)
      split
      · exact sEmp_SB hs
      · exact hs
    obtain ⟨A4, f3, f4, -, -⟩ := tw_resetT (m := m) (h := h) (TI_set (s := sWr g.1 c k) a2 hSB) hQ2
    refine ⟨v1, A4, ?_, by simp only [Bool.true_and, if_true, if_neg hneg]; exact f4⟩
    by_cases e : k = 0
    · have hem := tw_empty (m := m) (v := v1) (h := h) (A := A1) (c := c) (by rw [s2]; exact hc) (by rw [s2]; exact hP)
      rw [s2] at hem
      have e2 : nup (sEmp g.1 c) (33 + c) k = sWr g.1 c k := by unfold sWr; rw [if_pos e]
      subst e
      simp (disch := first | omega | assumption) only [tw_rcv, tw_r1, tw_r2, tw_r3, tw_r5, tw_r7, tw_r12, tw_r14, tw_r15, tw_r16, tw_r17, tw_r18, Option.bind_some, lit_I, I_add, I_mul, I_le, I_lt, I_eq, if_neg, if_pos, if_true, if_false, I_10, I_01, bit_T, bit_F, bit_F', bit_0, bit_1, gb_bit, tw_s, tw_rw, tw_cells, tw_blockOf, tw_numberOf, aset_eq, aset_ne, aset_aset, Bool.false_eq_true, not_true_eq_false, not_false_eq_true, f_X13_write, f_X13_write_B44, f_X13_write_B63, tw_p0, isCellZ hP1, s1, s2, h1, hmx, inZ, h2, Bool.true_and, a1, hem, tw_ws, e2, f3, chg, ne_eq, not_true_eq_false, false_and]
    · have e2 : nup g.1 (33 + c) k = sWr g.1 c k := by unfold sWr; rw [if_neg e]
      simp (disch := first | omega | assumption) only [tw_rcv, tw_r1, tw_r2, tw_r3, tw_r5, tw_r7, tw_r12, tw_r14, tw_r15, tw_r16, tw_r17, tw_r18, Option.bind_some, lit_I, I_add, I_mul, I_le, I_lt, I_eq, if_neg, if_pos, if_true, if_false, I_10, I_01, bit_T, bit_F, bit_F', bit_0, bit_1, gb_bit, tw_s, tw_rw, tw_cells, tw_blockOf, tw_numberOf, aset_eq, aset_ne, aset_aset, Bool.false_eq_true, not_true_eq_false, not_false_eq_true, f_X13_write, f_X13_write_B44, f_X13_write_B63, tw_p0, isCellZ hP1, s1, s2, h1, hmx, inZ, h2, Bool.true_and, htk, h3, a1, tw_ws, e2, f3, chg, ne_eq, and_false]
theorem tw_exchange {x y : Int32} (hT : TI v A g) (hI : RInv g.1) : ∃ v' A', f_X13_exchange (some m) x y (TW m v A h) = some ((o_exchange g x y).1, TW m v' A' h) ∧ TI v' A' (o_exchange g x y).2 := by
  have hQ := hI.1.1
  have hP := hQ.1
  have hn := nc_le hP
  have hT0 := TI_v0 (x := I 0) hT
  have s1 : A 1 = g.1 := hT.2.1
  have hP1 : PG' (A 1) := by rw [s1]; exact hP
  have hs := TI_SB hT
  unfold o_exchange
  cases h1 : bt x 0 (nc g.1 - 1) with
  | false =>
    refine ⟨_, _, ?_, hT0⟩
    simp (maxSteps := 2000000) (disch := first | omega | assumption) only [tw_rcv, tw_r1, tw_r2, tw_r3, tw_r5, tw_r7, tw_r12, tw_r14, tw_r15, tw_r16, tw_r17, tw_r18, Option.bind_some, lit_I, I_add, I_mul, I_le, I_lt, I_eq, if_neg, if_pos, if_true, if_false, I_10, I_01, bit_T, bit_F, bit_F', bit_0, bit_1, gb_bit, tw_s, tw_rw, tw_cells, tw_blockOf, tw_numberOf, aset_eq, aset_ne, aset_aset, Bool.false_eq_true, not_true_eq_false, not_false_eq_true, f_X13_exchange, tw_p0, isCellZ hP1, s1, h1, Bool.false_and]
  | true =>
  obtain ⟨c, rfl, hna, -, hx⟩ := bt_ex (by decide) (by omega) h1
  simp only [hna]
  have hc : c < nc g.1 := by omega
  cases h2 : bt y 0 (nc g.1 - 1) with
  | false =>
    refine ⟨_, _, ?_, hT0⟩
    simp (maxSteps := 2000000) (disch := first | omega | assumption) only [tw_rcv, tw_r1, tw_r2, tw_r3, tw_r5, tw_r7, tw_r12, tw_r14, tw_r15, tw_r16, tw_r17, tw_r18, Option.bind_some, lit_I, I_add, I_mul, I_le, I_lt, I_eq, if_neg, if_pos, if_true, if_false, I_10, I_01, bit_T, bit_F, bit_F', bit_0, bit_1, gb_bit, tw_s, tw_rw, tw_cells, tw_blockOf, tw_numberOf, aset_eq, aset_ne, aset_aset, Bool.false_eq_true, not_true_eq_false, not_false_eq_true, f_X13_exchange, tw_p0, isCellZ hP1, s1, h1, h2, Bool.true_and, Bool.false_and]
  | true =>
  obtain ⟨d, rfl, hnd, -, hy⟩ := bt_ex (by decide) (by omega) h2
  simp only [hnd]
  have hd : d < nc g.1 := by omega
  have b1 := hs (8 + c)
  have b2 := hs (8 + d)
  have b3 := hs (33 + c)
  have b4 := hs (33 + d)
  by_cases hcd : c = d
  · subst hcd
    refine ⟨_, _, ?_, by simp only [Bool.true_and, beq_self_eq_true, Bool.not_true, Bool.false_eq_true, if_false]; exact hT0⟩
    simp (maxSteps := 2000000) (disch := first | omega | assumption) only [tw_rcv, tw_r1, tw_r2, tw_r3, tw_r5, tw_r7, tw_r12, tw_r14, tw_r15, tw_r16, tw_r17, tw_r18, Option.bind_some, lit_I, I_add, I_mul, I_le, I_lt, I_eq, if_neg, if_pos, if_true, if_false, I_10, I_01, bit_T, bit_F, bit_F', bit_0, bit_1, gb_bit, tw_s, tw_rw, tw_cells, tw_blockOf, tw_numberOf, aset_eq, aset_ne, aset_aset, Bool.false_eq_true, not_true_eq_false, not_false_eq_true, f_X13_exchange, tw_p0, isCellZ hP1, s1, h1, Bool.true_and, beq_self_eq_true, Bool.not_true]
  · have hb : (!(c == d)) = true := by simp [hcd]
    rw [hb]
    by_cases h4 : g.1 (8 + c) = g.1 (8 + d)
    · by_cases h5 : g.1 (33 + c) = 0
      · refine ⟨_, _, ?_, by simp only [Bool.true_and, if_true, h5, ne_eq, not_true_eq_false, false_and, and_false, if_false]; exact hT0⟩
        simp (maxSteps := 2000000) (disch := first | omega | assumption) only [tw_rcv, tw_r1, tw_r2, tw_r3, tw_r5, tw_r7, tw_r12, tw_r14, tw_r15, tw_r16, tw_r17, tw_r18, Option.bind_some, lit_I, I_add, I_mul, I_le, I_lt, I_eq, if_neg, if_pos, if_true, if_false, I_10, I_01, bit_T, bit_F, bit_F', bit_0, bit_1, gb_bit, tw_s, tw_rw, tw_cells, tw_blockOf, tw_numberOf, aset_eq, aset_ne, aset_aset, Bool.false_eq_true, not_true_eq_false, not_false_eq_true, f_X13_exchange, tw_p0, isCellZ hP1, s1, h1, h2, h4, h5, Bool.true_and, ne_eq, not_true_eq_false, false_and, and_false]
      · by_cases h6 : g.1 (33 + d) = 0
        · refine ⟨_, _, ?_, by simp only [Bool.true_and, if_true, h6, ne_eq, not_true_eq_false, false_and, and_false, if_false]; exact hT0⟩
          simp (maxSteps := 2000000) (disch := first | omega | assumption) only [tw_rcv, tw_r1, tw_r2, tw_r3, tw_r5, tw_r7, tw_r12, tw_r14, tw_r15, tw_r16, tw_r17, tw_r18, Option.bind_some, lit_I, I_add, I_mul, I_le, I_lt, I_eq, if_neg, if_pos, if_true, if_false, I_10, I_01, bit_T, bit_F, bit_F', bit_0, bit_1, gb_bit, tw_s, tw_rw, tw_cells, tw_blockOf, tw_numberOf, aset_eq, aset_ne, aset_aset, Bool.false_eq_true, not_true_eq_false, not_false_eq_true, f_X13_exchange, tw_p0, isCellZ hP1, s1, h1, h2, h4, h5, h6, Bool.true_and, ne_eq, not_true_eq_false, false_and, and_false]
        · have hQ2 := QInv_xch hQ hc hd hcd h4 h5 h6
          obtain ⟨v1, A1, a1, a2, -, -⟩ := tw_actT (m := m) (h := h) hT0
          have s2 : A1 1 = g.1 := a2.2.1
          obtain ⟨A4, f3, f4, -, -⟩ := tw_resetT (m := m) (h := h) (TI_set (s := nup (nup g.1 (33 + c) (g.1 (33 + d))) (33 + d) (g.1 (33 + c))) a2 (nup_SB (nup_SB hs b4) b3)) hQ2
          refine ⟨v1, A4, ?_, by rw [if_pos (by rfl), if_pos ⟨h4, h5, h6⟩]; exact f4⟩
          have s4 : A4 1 = sReset (nup (nup g.1 (33 + c) (g.1 (33 + d))) (33 + d) (g.1 (33 + c))) := f4.2.1
          have e9 : sReset (nup (nup g.1 (33 + c) (g.1 (33 + d))) (33 + d) (g.1 (33 + c))) (33 + c) = g.1 (33 + d) := by
            rw [sReset_lo (by omega), nup_ne (by omega), nup_eq]
          simp (maxSteps := 2000000) (disch := first | omega | assumption) only [tw_rcv, tw_r1, tw_r2, tw_r3, tw_r5, tw_r7, tw_r12, tw_r14, tw_r15, tw_r16, tw_r17, tw_r18, Option.bind_some, lit_I, I_add, I_mul, I_le, I_lt, I_eq, if_neg, if_pos, if_true, if_false, I_10, I_01, bit_T, bit_F, bit_F', bit_0, bit_1, gb_bit, tw_s, tw_rw, tw_cells, tw_blockOf, tw_numberOf, aset_eq, aset_ne, aset_aset, Bool.false_eq_true, not_true_eq_false, not_false_eq_true, f_X13_exchange, tw_p0, isCellZ hP1, s1, s2, h1, h2, h4, h5, h6, Bool.true_and, ne_eq, not_false_eq_true, and_self, a1, tw_ws, nup_ne, f3, s4, e9, chg]
    · refine ⟨_, _, ?_, by simp only [Bool.true_and, if_true, h4, false_and, if_false]; exact hT0⟩
      simp (maxSteps := 2000000) (disch := first | omega | assumption) only [tw_rcv, tw_r1, tw_r2, tw_r3, tw_r5, tw_r7, tw_r12, tw_r14, tw_r15, tw_r16, tw_r17, tw_r18, Option.bind_some, lit_I, I_add, I_mul, I_le, I_lt, I_eq, if_neg, if_pos, if_true, if_false, I_10, I_01, bit_T, bit_F, bit_F', bit_0, bit_1, gb_bit, tw_s, tw_rw, tw_cells, tw_blockOf, tw_numberOf, aset_eq, aset_ne, aset_aset, Bool.false_eq_true, not_true_eq_false, not_false_eq_true, f_X13_exchange, tw_p0, isCellZ hP1, s1, h1, h2, Bool.true_and, h4, false_and]
theorem QInv_give {s : Nat → Nat} {c k : Nat} (h : QInv s) (hc : c < nc s) (hk : k ≤ 1) (hz : k = 1 → s (33 + c) ≠ 0) : QInv (nup s (58 + c) k) := by
  have hn := nc_le h.1
  refine QInv_clue h (fun j hj => nup_ne (by omega)) (fun d hd => ?_) (fun i hi => ?_)
  · by_cases e : d = c
    · subst e; rw [nup_eq]; exact ⟨hk, hz⟩
    · rw [nup_ne (by omega)]; exact (h.2.2.1 d hd).2.2
  · obtain ⟨a1, a2, a3, a4⟩ := h.1
    rw [nup_ne (by omega)]; exact h.2.2.2.2 i hi
theorem QInv_show {s : Nat → Nat} {c k : Nat} (h : QInv s) (hk : k ≤ 1) : QInv (nup s (83 + c) k) := by
  have hn := nc_le h.1
  refine QInv_clue h (fun j hj => nup_ne (by omega)) (fun d hd => ?_) (fun i hi => ?_)
  · rw [nup_ne (by omega)]; exact (h.2.2.1 d hd).2.2
  · by_cases e : i = c
    · subst e; rw [nup_eq]; exact hk
    · rw [nup_ne (by omega)]; exact h.2.2.2.2 i hi
theorem ngiv_reset {s : Nat → Nat} (hP : PG' s) : ngiv (sReset s) = ngiv s := by
  have hn := nc_le hP
  unfold ngiv; rw [nc_sReset]; exact sumTo_congr (fun i hi => sReset_lo (by omega))
theorem nshw_reset {s : Nat → Nat} (hP : PG' s) : nshw (sReset s) = nshw s := by
  obtain ⟨a1, a2, a3, a4⟩ := hP
  unfold nshw; rw [sReset_lo (k := 0) (by omega), sReset_lo (k := 1) (by omega)]; exact sumTo_congr (fun i hi => sReset_lo (by omega))
theorem tw_give {x y : Int32} (hT : TI v A g) (hI : RInv g.1) : ∃ v' A', f_X13_give (some m) x y (TW m v A h) = some ((o_give g x y).1, TW m v' A' h) ∧ TI v' A' (o_give g x y).2 := by
  have hQ := hI.1.1
  have hP := hQ.1
  have hn := nc_le hP
  have hT0 := TI_v0 (x := I 0) hT
  have s1 : A 1 = g.1 := hT.2.1
  have hP1 : PG' (A 1) := by rw [s1]; exact hP
  have hs := TI_SB hT
  unfold o_give
  cases h1 : bt x 0 (nc g.1 - 1) with
  | false =>
    refine ⟨_, _, ?_, hT0⟩
    simp (disch := first | omega | assumption) only [tw_rcv, tw_r1, tw_r2, tw_r3, tw_r5, tw_r7, tw_r12, tw_r14, tw_r15, tw_r16, tw_r17, tw_r18, Option.bind_some, lit_I, I_add, I_mul, I_le, I_lt, I_eq, if_neg, if_pos, if_true, if_false, I_10, I_01, bit_T, bit_F, bit_F', bit_0, bit_1, gb_bit, tw_s, tw_rw, tw_cells, tw_blockOf, tw_numberOf, aset_eq, aset_ne, aset_aset, Bool.false_eq_true, not_true_eq_false, not_false_eq_true, f_X13_give, tw_p0, isCellZ hP1, s1, h1, Bool.false_and]
  | true =>
  obtain ⟨c, rfl, hna, -, hx⟩ := bt_ex (by decide) (by omega) h1
  simp only [hna]
  have hc : c < nc g.1 := by omega
  cases h2 : bt y 0 1 with
  | false =>
    refine ⟨_, _, ?_, hT0⟩
    simp (disch := first | omega | assumption) only [tw_rcv, tw_r1, tw_r2, tw_r3, tw_r5, tw_r7, tw_r12, tw_r14, tw_r15, tw_r16, tw_r17, tw_r18, Option.bind_some, lit_I, I_add, I_mul, I_le, I_lt, I_eq, if_neg, if_pos, if_true, if_false, I_10, I_01, bit_T, bit_F, bit_F', bit_0, bit_1, gb_bit, tw_s, tw_rw, tw_cells, tw_blockOf, tw_numberOf, aset_eq, aset_ne, aset_aset, Bool.false_eq_true, not_true_eq_false, not_false_eq_true, f_X13_give, tw_p0, isCellZ hP1, s1, h1, inZ, h2, Bool.true_and]
  | true =>
  obtain ⟨k, rfl, hnk, -, hy⟩ := bt_ex (by decide) (by decide) h2
  simp only [hnk]
  have b3 := hs (33 + c)
  by_cases h3 : k = 1 ∧ g.1 (33 + c) = 0
  · refine ⟨_, _, ?_, by simp only [Bool.true_and, if_true, if_pos h3]; exact hT0⟩
    obtain ⟨rfl, h4⟩ := h3
    simp (disch := first | omega | assumption) only [tw_rcv, tw_r1, tw_r2, tw_r3, tw_r5, tw_r7, tw_r12, tw_r14, tw_r15, tw_r16, tw_r17, tw_r18, Option.bind_some, lit_I, I_add, I_mul, I_le, I_lt, I_eq, if_neg, if_pos, if_true, if_false, I_10, I_01, bit_T, bit_F, bit_F', bit_0, bit_1, gb_bit, tw_s, tw_rw, tw_cells, tw_blockOf, tw_numberOf, aset_eq, aset_ne, aset_aset, Bool.false_eq_true, not_true_eq_false, not_false_eq_true, f_X13_give, tw_p0, isCellZ hP1, s1, h1, inZ, h2, h4, Bool.true_and, and_self]
  · obtain ⟨v1, A1, a1, a2, -, -⟩ := tw_actT (m := m) (h := h) hT0
    have s2 : A1 1 = g.1 := a2.2.1
    have hQ2 := QInv_give hQ hc hy (fun q q0 => h3 ⟨q, q0⟩)
    obtain ⟨A4, f3, f4, -, -⟩ := tw_resetT (m := m) (h := h) (TI_set (s := nup g.1 (58 + c) k) a2 (nup_SB hs (by omega))) hQ2
    have s4 : A4 1 = sReset (nup g.1 (58 + c) k) := f4.2.1
    have hg := tw_givenMany (m := m) (v := v1) (A := A4) (h := h) (by rw [s4]; exact PG_of (sReset_lo (by omega)) (sReset_lo (by omega)) hQ2.1)
    rw [s4, ngiv_reset hQ2.1] at hg
    refine ⟨v1, A4, ?_, by simp only [Bool.true_and, if_true, if_neg h3]; exact f4⟩
    by_cases e : k = 1
    · subst e
      have h5 : ¬ g.1 (33 + c) = 0 := fun q => h3 ⟨rfl, q⟩
      simp (disch := first | omega | assumption) only [tw_rcv, tw_r1, tw_r2, tw_r3, tw_r5, tw_r7, tw_r12, tw_r14, tw_r15, tw_r16, tw_r17, tw_r18, Option.bind_some, lit_I, I_add, I_mul, I_le, I_lt, I_eq, if_neg, if_pos, if_true, if_false, I_10, I_01, bit_T, bit_F, bit_F', bit_0, bit_1, gb_bit, tw_s, tw_rw, tw_cells, tw_blockOf, tw_numberOf, aset_eq, aset_ne, aset_aset, Bool.false_eq_true, not_true_eq_false, not_false_eq_true, f_X13_give, f_X13_give_B40, tw_p0, isCellZ hP1, s1, s2, h1, inZ, h2, Bool.true_and, h5, and_false, a1, tw_ws, f3, hg, chg]
    · simp (disch := first | omega | assumption) only [tw_rcv, tw_r1, tw_r2, tw_r3, tw_r5, tw_r7, tw_r12, tw_r14, tw_r15, tw_r16, tw_r17, tw_r18, Option.bind_some, lit_I, I_add, I_mul, I_le, I_lt, I_eq, if_neg, if_pos, if_true, if_false, I_10, I_01, bit_T, bit_F, bit_F', bit_0, bit_1, gb_bit, tw_s, tw_rw, tw_cells, tw_blockOf, tw_numberOf, aset_eq, aset_ne, aset_aset, Bool.false_eq_true, not_true_eq_false, not_false_eq_true, f_X13_give, f_X13_give_B40, tw_p0, isCellZ hP1, s1, s2, h1, inZ, h2, Bool.true_and, e, false_and, a1, tw_ws, f3, hg, chg]
theorem tw_showSum {x y : Int32} (hT : TI v A g) (hI : RInv g.1) : ∃ v' A', f_X13_showSum (some m) x y (TW m v A h) = some ((o_showSum g x y).1, TW m v' A' h) ∧ TI v' A' (o_showSum g x y).2 := by
  have hQ := hI.1.1
  have hP := hQ.1
  have hn := nc_le hP
  have hT0 := TI_v0 (x := I 0) hT
  have s1 : A 1 = g.1 := hT.2.1
  have hP1 : PG' (A 1) := by rw [s1]; exact hP
  have hs := TI_SB hT
  have hPP := hP
  obtain ⟨p1, p2, p3, p4⟩ := hPP
  unfold o_showSum
  cases h1 : bt x 0 (g.1 0 + g.1 1 - 1) with
  | false =>
    refine ⟨_, _, ?_, hT0⟩
    simp (disch := first | omega | assumption) only [tw_rcv, tw_r1, tw_r2, tw_r3, tw_r5, tw_r7, tw_r12, tw_r14, tw_r15, tw_r16, tw_r17, tw_r18, Option.bind_some, lit_I, I_add, I_mul, I_le, I_lt, I_eq, if_neg, if_pos, if_true, if_false, I_10, I_01, bit_T, bit_F, bit_F', bit_0, bit_1, gb_bit, tw_s, tw_rw, tw_cells, tw_blockOf, tw_numberOf, aset_eq, aset_ne, aset_aset, Bool.false_eq_true, not_true_eq_false, not_false_eq_true, f_X13_showSum, tw_p0, isLineZ hP1, s1, h1, Bool.false_and]
  | true =>
  obtain ⟨c, rfl, hna, -, hx⟩ := bt_ex (by decide) (by omega) h1
  simp only [hna]
  cases h2 : bt y 0 1 with
  | false =>
    refine ⟨_, _, ?_, hT0⟩
    simp (disch := first | omega | assumption) only [tw_rcv, tw_r1, tw_r2, tw_r3, tw_r5, tw_r7, tw_r12, tw_r14, tw_r15, tw_r16, tw_r17, tw_r18, Option.bind_some, lit_I, I_add, I_mul, I_le, I_lt, I_eq, if_neg, if_pos, if_true, if_false, I_10, I_01, bit_T, bit_F, bit_F', bit_0, bit_1, gb_bit, tw_s, tw_rw, tw_cells, tw_blockOf, tw_numberOf, aset_eq, aset_ne, aset_aset, Bool.false_eq_true, not_true_eq_false, not_false_eq_true, f_X13_showSum, tw_p0, isLineZ hP1, s1, h1, inZ, h2, Bool.true_and]
  | true =>
  obtain ⟨k, rfl, hnk, -, hy⟩ := bt_ex (by decide) (by decide) h2
  simp only [hnk]
  have hcs := tw_canShow (m := m) (v := vup v 0 (I 0)) (A := A) (h := h) (i := c) (by rw [s1]; omega) (hT.1 1) hP1
  rw [s1] at hcs
  by_cases h3 : k = 1 ∧ canS g.1 c = false
  · refine ⟨_, _, ?_, by simp only [Bool.true_and, if_true, if_pos h3]; exact hT0⟩
    obtain ⟨rfl, h4⟩ := h3
    simp (disch := first | omega | assumption) only [tw_rcv, tw_r1, tw_r2, tw_r3, tw_r5, tw_r7, tw_r12, tw_r14, tw_r15, tw_r16, tw_r17, tw_r18, Option.bind_some, lit_I, I_add, I_mul, I_le, I_lt, I_eq, if_neg, if_pos, if_true, if_false, I_10, I_01, bit_T, bit_F, bit_F', bit_0, bit_1, gb_bit, tw_s, tw_rw, tw_cells, tw_blockOf, tw_numberOf, aset_eq, aset_ne, aset_aset, Bool.false_eq_true, not_true_eq_false, not_false_eq_true, f_X13_showSum, tw_p0, isLineZ hP1, s1, h1, inZ, h2, h4, hcs, Bool.true_and, and_self]
  · obtain ⟨v1, A1, a1, a2, -, -⟩ := tw_actT (m := m) (h := h) hT0
    have s2 : A1 1 = g.1 := a2.2.1
    have hQ2 := QInv_show (c := c) hQ hy
    obtain ⟨A4, f3, f4, -, -⟩ := tw_resetT (m := m) (h := h) (TI_set (s := nup g.1 (83 + c) k) a2 (nup_SB hs (by omega))) hQ2
    have s4 : A4 1 = sReset (nup g.1 (83 + c) k) := f4.2.1
    have hg := tw_shownMany (m := m) (v := v1) (A := A4) (h := h) (by rw [s4]; exact PG_of (sReset_lo (by omega)) (sReset_lo (by omega)) hQ2.1)
    rw [s4, nshw_reset hQ2.1] at hg
    refine ⟨v1, A4, ?_, by simp only [Bool.true_and, if_true, if_neg h3]; exact f4⟩
    by_cases e : k = 1
    · subst e
      have h5 : canS g.1 c = true := by
        cases hq : canS g.1 c with
        | true => rfl
        | false => exact absurd ⟨rfl, hq⟩ h3
      simp (disch := first | omega | assumption) only [tw_rcv, tw_r1, tw_r2, tw_r3, tw_r5, tw_r7, tw_r12, tw_r14, tw_r15, tw_r16, tw_r17, tw_r18, Option.bind_some, lit_I, I_add, I_mul, I_le, I_lt, I_eq, if_neg, if_pos, if_true, if_false, I_10, I_01, bit_T, bit_F, bit_F', bit_0, bit_1, gb_bit, tw_s, tw_rw, tw_cells, tw_blockOf, tw_numberOf, aset_eq, aset_ne, aset_aset, Bool.false_eq_true, not_true_eq_false, not_false_eq_true, f_X13_showSum, f_X13_showSum_B40, tw_p0, isLineZ hP1, s1, s2, h1, inZ, h2, Bool.true_and, h5, hcs, and_false, a1, tw_ws, f3, hg, chg, Bool.true_eq_false]
    · simp (disch := first | omega | assumption) only [tw_rcv, tw_r1, tw_r2, tw_r3, tw_r5, tw_r7, tw_r12, tw_r14, tw_r15, tw_r16, tw_r17, tw_r18, Option.bind_some, lit_I, I_add, I_mul, I_le, I_lt, I_eq, if_neg, if_pos, if_true, if_false, I_10, I_01, bit_T, bit_F, bit_F', bit_0, bit_1, gb_bit, tw_s, tw_rw, tw_cells, tw_blockOf, tw_numberOf, aset_eq, aset_ne, aset_aset, Bool.false_eq_true, not_true_eq_false, not_false_eq_true, f_X13_showSum, f_X13_showSum_B40, tw_p0, isLineZ hP1, s1, s2, h1, inZ, h2, Bool.true_and, e, false_and, a1, tw_ws, f3, hg, chg]
end TW60
