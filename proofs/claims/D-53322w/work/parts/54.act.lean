/-! PLAIN LAW: the reference keeps a row; pages laid another way -/
set_option maxRecDepth 100000
/-- the kept rows, oldest first -/
def SV (g : Nat → Nat) (H : List (Nat → Nat)) : Prop := H.length ≤ 5 ∧ ∀ i r, H[i]? = some r → ∀ k, k < 356 → g (356 * i + k) = r k
def push (H : List (Nat → Nat)) (s : Nat → Nat) : List (Nat → Nat) := (if H.length = 5 then H.tail else H) ++ [s]
theorem push_len {H : List (Nat → Nat)} {s : Nat → Nat} (h : H.length ≤ 5) : (push H s).length = (if H.length = 5 then 5 else H.length + 1) := by
  unfold push
  split <;> simp <;> omega
theorem push_le {H : List (Nat → Nat)} {s : Nat → Nat} (h : H.length ≤ 5) : (push H s).length ≤ 5 := by
  rw [push_len h]; split <;> omega
theorem vup_vup {v : Nat → Int32} {k : Nat} {x y : Int32} : vup (vup v k x) k y = vup v k y := by
  funext j; unfold vup; split <;> rfl
theorem I_dec1 {a : Nat} (h : 1 ≤ a) : I a - I 1 = I (a - 1) := I_sub h
section TWa
variable {m : Nat} {v : Nat → Int32} {A : Nat → Nat → Nat} {h : PH}
theorem tw_r3' {j : Nat} (hj : j < 1780) : ald 0 (some (m + 3)) (I j) (TW m v A h) = some (I (A 3 j)) := tw_ald (o := 3) (by decide) hj
theorem tw_w3 {j x : Nat} (hj : j < 1780) : asi 0 (some (m + 3)) (I j) (I x) (TW m v A h) = some (TW m v (aset A 3 (nup (A 3) j x)) h) := tw_w (o := 3) (by decide) hj
def cpTo (s g : Nat → Nat) (n i : Nat) : Nat → Nat := fun j => if 356 * n ≤ j ∧ j < 356 * n + i then s (j - 356 * n) else g j
theorem tw_act51 {n : Nat} (hn : n ≤ 4) (hv : v 4 = I n) (g : Nat → Nat) : f_X13_act_L51 FU (some m) (I 0) (TW m v (aset A 3 g) h) = some (TW m (vup v 4 (I (n + 1))) (aset A 3 (cpTo (A 1) g n 356)) h) := by
  have e0 : cpTo (A 1) g n 0 = g := by funext j; simp only [cpTo]; rw [if_neg (by omega)]
  have a1 : ∀ M, (aset A 3 M) 1 = A 1 := fun M => aset_ne (by decide)
  have := loop_FU (fun k (p : Nat × (Nat → Nat)) => f_X13_act_L51 k (some m) (I p.1) (TW m v (aset A 3 p.2) h)) (fun i => (i, cpTo (A 1) g n i)) 356 (some (TW m (vup v 4 (I (n + 1))) (aset A 3 (cpTo (A 1) g n 356)) h)) (by omega) (fun k i hi => ?_) (fun k => ?_)
  · simp only [e0] at this
    exact this
  · have hx : 356 * n + i < 1780 := by omega
    simp (disch := first | omega | assumption) only [tw_rcv, tw_r1, tw_r2, tw_r3, tw_r5, tw_r7, tw_r12, tw_r14, tw_r15, tw_r16, tw_r17, tw_r18, Option.bind_some, lit_I, I_add, I_mul, I_le, I_lt, I_eq, if_neg, if_pos, if_true, if_false, I_10, I_01, bit_T, bit_F, bit_F', bit_0, bit_1, gb_bit, tw_s, tw_rw, tw_cells, tw_blockOf, tw_numberOf, aset_eq, aset_ne, aset_aset, Bool.false_eq_true, not_true_eq_false, not_false_eq_true, f_X13_act_L51, tw_int (k := 4) rfl, hv, a1, tw_w3]
    refine congrArg (fun g => f_X13_act_L51 k (some m) (I (i + 1)) (TW m v (aset A 3 g) h)) (funext fun j => ?_)
    simp only [nup, cpTo]
    by_cases e : j = 356 * n + i
    · rw [if_pos e, if_pos (by omega)]; congr 1; omega
    · rw [if_neg e]
      by_cases e2 : 356 * n ≤ j ∧ j < 356 * n + i
      · rw [if_pos e2, if_pos (by omega)]
      · rw [if_neg e2, if_neg (by omega)]
  · simp (disch := first | omega | assumption) only [tw_rcv, tw_r1, tw_r2, tw_r3, tw_r5, tw_r7, tw_r12, tw_r14, tw_r15, tw_r16, tw_r17, tw_r18, Option.bind_some, lit_I, I_add, I_mul, I_le, I_lt, I_eq, if_neg, if_pos, if_true, if_false, I_10, I_01, bit_T, bit_F, bit_F', bit_0, bit_1, gb_bit, tw_s, tw_rw, tw_cells, tw_blockOf, tw_numberOf, aset_eq, aset_ne, aset_aset, Bool.false_eq_true, not_true_eq_false, not_false_eq_true, f_X13_act_L51, tw_int (k := 4) rfl, hv, tw_pf (k := 4) rfl]
theorem SB_cpTo {s g : Nat → Nat} {n i : Nat} (hs : SB s) (hg : SB g) : SB (cpTo s g n i) := by
  intro j; unfold cpTo; have h1 := hs (j - 356 * n); have h2 := hg j; split <;> assumption
theorem tw_act {H : List (Nat → Nat)} (hv : v 4 = I H.length) (hH : SV (A 3) H) (hA : AB A) : ∃ g, f_X13_act (some m) (TW m v A h) = some (TW m (vup v 4 (I (push H (A 1)).length)) (aset A 3 g) h) ∧ SV g (push H (A 1)) ∧ SB g := by
  have hle := hH.1
  have a1 : ∀ M, (aset A 3 M) 1 = A 1 := fun M => aset_ne (by decide)
  by_cases h5 : H.length = 5
  · let sh : Nat → (Nat → Nat) := fun i j => if j < i then A 3 (j + 356) else A 3 j
    have e0 : sh 0 = A 3 := by funext j; simp [sh]
    have key := loop_FU (fun k (p : Nat × (Nat → Nat)) => f_X13_act_L10 k (some m) (I p.1) (TW m v (aset A 3 p.2) h)) (fun i => (i, sh i)) 1424 (f_X13_act_L51 FU (some m) (I 0) (TW m (vup v 4 (I 4)) (aset A 3 (sh 1424)) h)) (by omega) (fun k i hi => ?_) (fun k => ?_)
    · simp only [e0, aset_self] at key
      have h51 := tw_act51 (m := m) (h := h) (A := A) (v := vup v 4 (I 4)) (n := 4) (by decide) (vup_eq _ _) (sh 1424)
      refine ⟨cpTo (A 1) (sh 1424) 4 356, ?_, ⟨push_le hle, ?_⟩, SB_cpTo (hA 1) ?_⟩
      · simp (disch := first | omega | assumption) only [tw_rcv, tw_r1, tw_r2, tw_r3, tw_r5, tw_r7, tw_r12, tw_r14, tw_r15, tw_r16, tw_r17, tw_r18, Option.bind_some, lit_I, I_add, I_mul, I_le, I_lt, I_eq, if_neg, if_pos, if_true, if_false, I_10, I_01, bit_T, bit_F, bit_F', bit_0, bit_1, gb_bit, tw_s, tw_rw, tw_cells, tw_blockOf, tw_numberOf, aset_eq, aset_ne, aset_aset, Bool.false_eq_true, not_true_eq_false, not_false_eq_true, f_X13_act, tw_int (k := 4) rfl, hv, h5]
        rw [key, h51, vup_vup, push_len hle, if_pos h5]
      · intro i r hr k hk
        unfold push at hr
        rw [if_pos h5] at hr
        unfold cpTo
        by_cases hi : i < 4
        · rw [List.getElem?_append_left (by simp; omega), List.getElem?_tail] at hr
          have := hH.2 (i + 1) r hr k hk
          rw [if_neg (by omega)]
          simp only [sh]
          rw [if_pos (by omega), ← this]
          congr 1; omega
        · have hi4 : i = 4 := by
            have := (List.getElem?_eq_some_iff.mp hr).1
            simp at this; omega
          subst hi4
          rw [List.getElem?_append_right (by simp; omega)] at hr
          simp [h5] at hr
          rw [if_pos (by omega), ← hr]
          congr 1; omega
      · intro j; simp only [sh]; have h1 := hA 3 (j + 356); have h2 := hA 3 j; split <;> assumption
    · simp (disch := first | omega | assumption) only [tw_rcv, tw_r1, tw_r2, tw_r3, tw_r5, tw_r7, tw_r12, tw_r14, tw_r15, tw_r16, tw_r17, tw_r18, Option.bind_some, lit_I, I_add, I_mul, I_le, I_lt, I_eq, if_neg, if_pos, if_true, if_false, I_10, I_01, bit_T, bit_F, bit_F', bit_0, bit_1, gb_bit, tw_s, tw_rw, tw_cells, tw_blockOf, tw_numberOf, aset_eq, aset_ne, aset_aset, Bool.false_eq_true, not_true_eq_false, not_false_eq_true, f_X13_act_L10, tw_r3', tw_w3]
      have e2 : sh i (i + 356) = A 3 (i + 356) := by simp only [sh]; rw [if_neg (by omega)]
      rw [e2]
      refine congrArg (fun g => f_X13_act_L10 k (some m) (I (i + 1)) (TW m v (aset A 3 g) h)) (funext fun j => ?_)
      simp only [nup, sh]
      by_cases e : j = i
      · subst e; rw [if_pos rfl, if_pos (by omega)]
      · rw [if_neg e]
        by_cases e3 : j < i
        · rw [if_pos e3, if_pos (by omega)]
        · rw [if_neg e3, if_neg (by omega)]
    · simp (disch := first | omega | assumption) only [tw_rcv, tw_r1, tw_r2, tw_r3, tw_r5, tw_r7, tw_r12, tw_r14, tw_r15, tw_r16, tw_r17, tw_r18, Option.bind_some, lit_I, I_add, I_mul, I_le, I_lt, I_eq, if_neg, if_pos, if_true, if_false, I_10, I_01, bit_T, bit_F, bit_F', bit_0, bit_1, gb_bit, tw_s, tw_rw, tw_cells, tw_blockOf, tw_numberOf, aset_eq, aset_ne, aset_aset, Bool.false_eq_true, not_true_eq_false, not_false_eq_true, f_X13_act_L10, tw_int (k := 4) rfl, hv, h5, I_dec1, tw_pf (k := 4) rfl]
  · have h51 := tw_act51 (m := m) (v := v) (h := h) (A := A) (n := H.length) (by omega) hv (A 3)
    rw [aset_self] at h51
    refine ⟨cpTo (A 1) (A 3) H.length 356, ?_, ⟨push_le hle, ?_⟩, SB_cpTo (hA 1) (hA 3)⟩
    · simp (disch := first | omega | assumption) only [tw_rcv, tw_r1, tw_r2, tw_r3, tw_r5, tw_r7, tw_r12, tw_r14, tw_r15, tw_r16, tw_r17, tw_r18, Option.bind_some, lit_I, I_add, I_mul, I_le, I_lt, I_eq, if_neg, if_pos, if_true, if_false, I_10, I_01, bit_T, bit_F, bit_F', bit_0, bit_1, gb_bit, tw_s, tw_rw, tw_cells, tw_blockOf, tw_numberOf, aset_eq, aset_ne, aset_aset, Bool.false_eq_true, not_true_eq_false, not_false_eq_true, f_X13_act, tw_int (k := 4) rfl, hv, h51]
      rw [push_len hle, if_neg h5]
    · intro i r hr k hk
      unfold push at hr
      rw [if_neg h5] at hr
      unfold cpTo
      by_cases hi : i < H.length
      · rw [List.getElem?_append_left hi] at hr
        rw [if_neg (by omega)]
        exact hH.2 i r hr k hk
      · have hi4 : i = H.length := by
          have := (List.getElem?_eq_some_iff.mp hr).1
          simp at this; omega
        subst hi4
        simp at hr
        rw [if_pos (by omega), ← hr]
        congr 1; omega
end TWa
/-! a page laid another way -/
def brg (s g : Nat → Nat) (c f : Nat) : Nat → Nat := nup (nup (nup g (8 + c) (s (8 + f))) (33 + c) (s (33 + f))) (58 + c) (s (58 + f))
def tkO (s g : Nat → Nat) (R C : Nat) : Nat → Nat := fun k => if k = 0 then R else if k = 1 then C else if (8 ≤ k ∧ k < 8 + R * C) ∨ (33 ≤ k ∧ k < 33 + R * C) ∨ (58 ≤ k ∧ k < 58 + R * C) ∨ (83 ≤ k ∧ k < 83 + (R + C)) then g k else s k
/-- cells from frm, below n -/
def brTo (s g : Nat → Nat) (frm : Nat → Nat) (n : Nat) : Nat → Nat := fun k => if 8 ≤ k ∧ k < 8 + n then s (8 + frm (k - 8)) else if 33 ≤ k ∧ k < 33 + n then s (33 + frm (k - 33)) else if 58 ≤ k ∧ k < 58 + n then s (58 + frm (k - 58)) else g k
theorem brTo_0 {s g : Nat → Nat} {frm : Nat → Nat} : brTo s g frm 0 = g := by
  funext k; simp only [brTo]; rw [if_neg (by omega), if_neg (by omega), if_neg (by omega)]
theorem brTo_up {s g : Nat → Nat} {frm : Nat → Nat} {n : Nat} (hn : n < 25) : brg s (brTo s g frm n) n (frm n) = brTo s g frm (n + 1) := by
  funext k
  simp only [brg, nup, brTo]
  by_cases e1 : k = 58 + n
  · subst e1; rw [if_pos rfl, if_neg (by omega), if_neg (by omega), if_pos (by omega), Nat.add_sub_cancel_left]
  · rw [if_neg e1]
    by_cases e2 : k = 33 + n
    · subst e2; rw [if_pos rfl, if_neg (by omega), if_pos (by omega), Nat.add_sub_cancel_left]
    · rw [if_neg e2]
      by_cases e3 : k = 8 + n
      · subst e3; rw [if_pos rfl, if_pos (by omega), Nat.add_sub_cancel_left]
      · rw [if_neg e3]
        by_cases f1 : 8 ≤ k ∧ k < 8 + n
        · rw [if_pos f1, if_pos (by omega)]
        · rw [if_neg f1, if_neg (show ¬ (8 ≤ k ∧ k < 8 + (n + 1)) by omega)]
          by_cases f2 : 33 ≤ k ∧ k < 33 + n
          · rw [if_pos f2, if_pos (by omega)]
          · rw [if_neg f2, if_neg (show ¬ (33 ≤ k ∧ k < 33 + (n + 1)) by omega)]
            by_cases f3 : 58 ≤ k ∧ k < 58 + n
            · rw [if_pos f3, if_pos (by omega)]
            · rw [if_neg f3, if_neg (by omega)]
/-- lines from lfr, below n -/
def shTo (s g : Nat → Nat) (lfr : Nat → Nat) (n : Nat) : Nat → Nat := fun k => if 83 ≤ k ∧ k < 83 + n then s (83 + lfr (k - 83)) else g k
theorem shTo_0 {s g : Nat → Nat} {lfr : Nat → Nat} : shTo s g lfr 0 = g := by
  funext k; simp only [shTo]; rw [if_neg (by omega)]
theorem shTo_up {s g : Nat → Nat} {lfr : Nat → Nat} {n : Nat} : nup (shTo s g lfr n) (83 + n) (s (83 + lfr n)) = shTo s g lfr (n + 1) := by
  funext k
  simp only [nup, shTo]
  by_cases e1 : k = 83 + n
  · subst e1; rw [if_pos rfl, if_pos (by omega), Nat.add_sub_cancel_left]
  · rw [if_neg e1]
    by_cases f1 : 83 ≤ k ∧ k < 83 + n
    · rw [if_pos f1, if_pos (by omega)]
    · rw [if_neg f1, if_neg (by omega)]
section TWo
variable {m : Nat} {v : Nat → Int32} {A : Nat → Nat → Nat} {h : PH}
theorem tw_r10' {j : Nat} (hj : j < 118) : ald 0 (some (m + 10)) (I j) (TW m v A h) = some (I (A 10 j)) := tw_ald (o := 10) (by decide) hj
theorem tw_w10 {j x : Nat} (hj : j < 118) : asi 0 (some (m + 10)) (I j) (I x) (TW m v A h) = some (TW m v (aset A 10 (nup (A 10) j x)) h) := tw_w (o := 10) (by decide) hj
theorem tw_bring {c f : Nat} {g : Nat → Nat} (hc : c < 25) (hf : f < 25) : f_X13_bring (some m) (I c) (I f) (TW m v (aset A 10 g) h) = some (TW m v (aset A 10 (brg (A 1) g c f)) h) := by
  have a1 : ∀ M, (aset A 10 M) 1 = A 1 := fun M => aset_ne (by decide)
  simp (disch := first | omega | assumption) only [tw_rcv, tw_r1, tw_r2, tw_r3, tw_r5, tw_r7, tw_r12, tw_r14, tw_r15, tw_r16, tw_r17, tw_r18, Option.bind_some, lit_I, I_add, I_mul, I_le, I_lt, I_eq, if_neg, if_pos, if_true, if_false, I_10, I_01, bit_T, bit_F, bit_F', bit_0, bit_1, gb_bit, tw_s, tw_rw, tw_cells, tw_blockOf, tw_numberOf, aset_eq, aset_ne, aset_aset, Bool.false_eq_true, not_true_eq_false, not_false_eq_true, f_X13_bring, a1, tw_w10]
  rfl
theorem tw_takeOther {R C : Nat} (hR : R ≤ 5) (hC : C ≤ 5) : f_X13_takeOther (some m) (I R) (I C) (TW m v A h) = some (TW m v (aset A 1 (tkO (A 1) (A 10) R C)) h) := by
  have hRC : R * C ≤ 25 := Nat.mul_le_mul hR hC
  have a10 : ∀ M, (aset A 1 M) 10 = A 10 := fun M => aset_ne (by decide)
  unfold f_X13_takeOther
  let t1 : Nat → (Nat → Nat) := fun n => brTo (A 10) (A 1) id n
  let t2 : Nat → (Nat → Nat) := fun n => shTo (A 10) (t1 (R * C)) id n
  have k1 := loop_FU (fun k (p : Nat × (Nat → Nat)) => f_X13_takeOther_L2 k (some m) (I R) (I C) (I p.1) (TW m v (aset A 1 p.2) h)) (fun i => (i, t1 i)) (R * C) (f_X13_takeOther_L71 FU (some m) (I R) (I C) (I 0) (TW m v (aset A 1 (t1 (R * C))) h)) (by omega) (fun k i hi => ?_) (fun k => ?_)
  · have k2 := loop_FU (fun k (p : Nat × (Nat → Nat)) => f_X13_takeOther_L71 k (some m) (I R) (I C) (I p.1) (TW m v (aset A 1 p.2) h)) (fun i => (i, t2 i)) (R + C) (some (TW m v (aset A 1 (tkO (A 1) (A 10) R C)) h)) (by omega) (fun k i hi => ?_) (fun k => ?_)
    · simp only [t1, brTo_0, aset_self] at k1
      simp only [t2, t1, shTo_0] at k2
      exact k1.trans k2
    · simp (disch := first | omega | assumption) only [tw_rcv, tw_r1, tw_r2, tw_r3, tw_r5, tw_r7, tw_r12, tw_r14, tw_r15, tw_r16, tw_r17, tw_r18, Option.bind_some, lit_I, I_add, I_mul, I_le, I_lt, I_eq, if_neg, if_pos, if_true, if_false, I_10, I_01, bit_T, bit_F, bit_F', bit_0, bit_1, gb_bit, tw_s, tw_rw, tw_cells, tw_blockOf, tw_numberOf, aset_eq, aset_ne, aset_aset, Bool.false_eq_true, not_true_eq_false, not_false_eq_true, f_X13_takeOther_L71, a10, tw_r10', tw_ws]
      have e : nup (t2 i) (83 + i) (A 10 (83 + i)) = t2 (i + 1) := shTo_up (lfr := id)
      rw [e]
    · simp (disch := first | omega | assumption) only [tw_rcv, tw_r1, tw_r2, tw_r3, tw_r5, tw_r7, tw_r12, tw_r14, tw_r15, tw_r16, tw_r17, tw_r18, Option.bind_some, lit_I, I_add, I_mul, I_le, I_lt, I_eq, if_neg, if_pos, if_true, if_false, I_10, I_01, bit_T, bit_F, bit_F', bit_0, bit_1, gb_bit, tw_s, tw_rw, tw_cells, tw_blockOf, tw_numberOf, aset_eq, aset_ne, aset_aset, Bool.false_eq_true, not_true_eq_false, not_false_eq_true, f_X13_takeOther_L71, tw_ws]
      refine congrArg (fun g => some (TW m v (aset A 1 g) h)) (funext fun j => ?_)
      simp only [nup, t2, t1, shTo, brTo, tkO, id]
      by_cases e1 : j = 1
      · subst e1; rfl
      · rw [if_neg e1]
        by_cases e0 : j = 0
        · rw [if_pos e0, if_pos e0]
        · rw [if_neg e0, if_neg e0, if_neg e1]
          by_cases f4 : 83 ≤ j ∧ j < 83 + (R + C)
          · rw [if_pos f4, if_pos (by omega)]; congr 1; omega
          · rw [if_neg f4]
            by_cases f1 : 8 ≤ j ∧ j < 8 + R * C
            · rw [if_pos f1, if_pos (by omega)]; congr 1; omega
            · rw [if_neg f1]
              by_cases f2 : 33 ≤ j ∧ j < 33 + R * C
              · rw [if_pos f2, if_pos (by omega)]; congr 1; omega
              · rw [if_neg f2]
                by_cases f3 : 58 ≤ j ∧ j < 58 + R * C
                · rw [if_pos f3, if_pos (by omega)]; congr 1; omega
                · rw [if_neg f3, if_neg (by omega)]
  · simp (disch := first | omega | assumption) only [tw_rcv, tw_r1, tw_r2, tw_r3, tw_r5, tw_r7, tw_r12, tw_r14, tw_r15, tw_r16, tw_r17, tw_r18, Option.bind_some, lit_I, I_add, I_mul, I_le, I_lt, I_eq, if_neg, if_pos, if_true, if_false, I_10, I_01, bit_T, bit_F, bit_F', bit_0, bit_1, gb_bit, tw_s, tw_rw, tw_cells, tw_blockOf, tw_numberOf, aset_eq, aset_ne, aset_aset, Bool.false_eq_true, not_true_eq_false, not_false_eq_true, f_X13_takeOther_L2, a10, tw_r10', tw_ws]
    have e : nup (nup (nup (t1 i) (8 + i) (A 10 (8 + i))) (33 + i) (A 10 (33 + i))) (58 + i) (A 10 (58 + i)) = t1 (i + 1) := brTo_up (frm := id) (by omega)
    rw [e]
  · simp (disch := first | omega | assumption) only [tw_rcv, tw_r1, tw_r2, tw_r3, tw_r5, tw_r7, tw_r12, tw_r14, tw_r15, tw_r16, tw_r17, tw_r18, Option.bind_some, lit_I, I_add, I_mul, I_le, I_lt, I_eq, if_neg, if_pos, if_true, if_false, I_10, I_01, bit_T, bit_F, bit_F', bit_0, bit_1, gb_bit, tw_s, tw_rw, tw_cells, tw_blockOf, tw_numberOf, aset_eq, aset_ne, aset_aset, Bool.false_eq_true, not_true_eq_false, not_false_eq_true, f_X13_takeOther_L2]
end TWo
