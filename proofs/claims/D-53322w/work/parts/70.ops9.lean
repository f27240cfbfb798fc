/-! PLAIN LAW: the reference's calls: reduce -/
set_option maxRecDepth 100000
/-- a list over a row with a gap at p -/
def arr (G : Nat → Nat) (l : List Nat) (p : Nat) : Nat → Nat := fun k => if p < k ∧ k ≤ l.length then ordF G l (k - 1) else ordF G l k
theorem arr_len {G : Nat → Nat} {l : List Nat} : arr G l l.length = ordF G l := by
  funext k; unfold arr; rw [if_neg (by omega)]
theorem arr_at {G : Nat → Nat} {l : List Nat} {p k : Nat} (h : k ≤ p) : arr G l p k = ordF G l k := by
  unfold arr; rw [if_neg (by omega)]
theorem arr_step {G : Nat → Nat} {l : List Nat} {p : Nat} (h : p + 1 ≤ l.length) : nup (arr G l (p + 1)) (p + 1) (ordF G l p) = arr G l p := by
  funext k
  unfold nup arr
  by_cases e : k = p + 1
  · subst e; rw [if_pos rfl, if_pos (by omega)]; rfl
  · rw [if_neg e]
    by_cases e2 : p + 1 < k ∧ k ≤ l.length
    · rw [if_pos e2, if_pos (by omega)]
    · rw [if_neg e2, if_neg (by omega)]
theorem arr_end {G : Nat → Nat} {l : List Nat} {q x : Nat} (h : q ≤ l.length) : nup (arr G l q) q x = ordF G (l.take q ++ x :: l.drop q) := by
  have ht : (l.take q).length = q := by simp; omega
  funext k
  unfold nup arr ordF
  by_cases e : k = q
  · subst e
    rw [if_pos rfl, List.getElem?_append_right (by omega), ht, Nat.sub_self]
    rfl
  · rw [if_neg e]
    rcases Nat.lt_or_ge k q with h1 | h1
    · rw [if_neg (by omega), List.getElem?_append_left (by omega), List.getElem?_take, if_pos h1]
    · obtain ⟨d, hd⟩ : ∃ d, k = q + (d + 1) := ⟨k - q - 1, by omega⟩
      have e3 : (l.take q ++ x :: l.drop q)[k]? = l[k - 1]? := by
        rw [List.getElem?_append_right (by omega), ht, hd, Nat.add_sub_cancel_left, List.getElem?_cons_succ, List.getElem?_drop]
        congr 1
      rw [e3]
      by_cases e4 : k ≤ l.length
      · rw [if_pos ⟨by omega, e4⟩]
        have : k - 1 < l.length := by omega
        rw [List.getElem?_eq_getElem this]
      · rw [if_neg (by omega), List.getElem?_eq_none_iff.mpr (by omega), List.getElem?_eq_none_iff.mpr (by omega)]
theorem insP_le {w : Nat → Nat} {l : List Nat} {x : Nat} : ∀ p, insP w l x p ≤ p := by
  intro p
  induction p with
  | zero => exact Nat.le_refl _
  | succ p ih => simp only [insP]; split <;> omega
theorem clTo_mem {s : Nat → Nat} {kind way : Nat} : ∀ n, n ≤ clAll s kind → (∀ x, x ∈ clTo s kind way n → x < clAll s kind ∧ s (place kind x) = 1) ∧ (clTo s kind way n).length ≤ n := by
  intro n
  induction n with
  | zero => intro _; exact ⟨fun x h => (by cases h), Nat.le_refl _⟩
  | succ n ih =>
    intro hn
    obtain ⟨i1, i2⟩ := ih (by omega)
    simp only [clTo]
    split
    · rename_i h1
      have hix : clIx s kind way n < clAll s kind := by unfold clIx; split <;> omega
      have hl : (insL (wth s kind) way (clTo s kind way n) (clIx s kind way n)).length = (clTo s kind way n).length + 1 := by
        unfold insL
        have hq : (if way = 2 then insP (wth s kind) (clTo s kind way n) (clIx s kind way n) (clTo s kind way n).length else (clTo s kind way n).length) ≤ (clTo s kind way n).length := by
          split
          · exact insP_le _
          · exact Nat.le_refl _
        simp only [List.length_append, List.length_cons, List.length_take, List.length_drop]
        omega
      refine ⟨fun x hx => ?_, by omega⟩
      unfold insL at hx
      rw [List.mem_append, List.mem_cons] at hx
      rcases hx with hx | hx | hx
      · exact i1 x (List.mem_of_mem_take hx)
      · subst hx; exact ⟨hix, h1⟩
      · exact i1 x (List.mem_of_mem_drop hx)
    · exact ⟨i1, by omega⟩
section TW70
variable {m : Nat} {v : Nat → Int32} {A : Nat → Nat → Nat} {h : PH} {g : GS}
theorem a9_1 {w : Nat → Nat} : (aset A 9 w) 1 = A 1 := aset_ne (by decide)
theorem tw_worth {kind i : Nat} {w : Nat → Nat} (hk : kind ≤ 1) (hi : i < clAll (A 1) kind) (hA : SB (A 1)) (hP : PG' (A 1)) : f_X13_worth (some m) (I kind) (I i) (TW m v (aset A 9 w) h) = some (I (wth (A 1) kind i), TW m v (aset A 9 w) h) := by
  have hn := nc_le hP
  have hk' : kind = 0 ∨ kind = 1 := by omega
  rcases hk' with rfl | rfl
  · have hi' : i < nc (A 1) := hi
    simp (disch := first | omega | assumption) only [tw_rcv, tw_r1, tw_r2, tw_r3, tw_r5, tw_r7, tw_r12, tw_r14, tw_r15, tw_r16, tw_r17, tw_r18, Option.bind_some, lit_I, I_add, I_mul, I_le, I_lt, I_eq, if_neg, if_pos, if_true, if_false, I_10, I_01, bit_T, bit_F, bit_F', bit_0, bit_1, gb_bit, tw_s, tw_rw, tw_cells, tw_blockOf, tw_numberOf, aset_eq, aset_ne, aset_aset, Bool.false_eq_true, not_true_eq_false, not_false_eq_true, f_X13_worth, a9_1, wth]
  · have hi' : i < A 1 0 + A 1 1 := hi
    have := tw_sumOf (m := m) (v := v) (h := h) (A := aset A 9 w) (i := i) (by rw [a9_1]; exact hi') (by rw [a9_1]; exact hA) (by rw [a9_1]; exact hP)
    rw [a9_1] at this
    simp (disch := first | omega | assumption) only [tw_rcv, tw_r1, tw_r2, tw_r3, tw_r5, tw_r7, tw_r12, tw_r14, tw_r15, tw_r16, tw_r17, tw_r18, Option.bind_some, lit_I, I_add, I_mul, I_le, I_lt, I_eq, if_neg, if_pos, if_true, if_false, I_10, I_01, bit_T, bit_F, bit_F', bit_0, bit_1, gb_bit, tw_s, tw_rw, tw_cells, tw_blockOf, tw_numberOf, aset_eq, aset_ne, aset_aset, Bool.false_eq_true, not_true_eq_false, not_false_eq_true, f_X13_worth, this, wth]
theorem tw_lc74 {r22 : Option Nat → Int32 → Int32 → Int32 → Int32 → Int32 → PH → Option (Int32 × PH)} {kind way x : Nat} {x4 x5 : Int32} {G : Nat → Nat} {l : List Nat} (hk : kind ≤ 1) (hw : way ≤ 2) (hl : l.length < 25) (hm : ∀ y, y ∈ l → y < clAll (A 1) kind) (hx : x < clAll (A 1) kind) (hA : SB (A 1)) (hP : PG' (A 1)) (hN : NB (A 1)) :
    ∀ (p f : Nat), p ≤ l.length → p < f → f_X13_listClues_L74 r22 f (some m) (I kind) (I way) (I l.length) x4 x5 (I x) (I p) (TW m v (aset A 9 (arr G l p)) h) = r22 (some m) (I kind) (I way) (I (l.length + 1)) x4 (x5 + I 1) (TW m v (aset A 9 (ordF G (l.take (if way = 2 then insP (wth (A 1) kind) l x p else p) ++ x :: l.drop (if way = 2 then insP (wth (A 1) kind) l x p else p)))) h) := by
  have hwb : ∀ i, i < clAll (A 1) kind → wth (A 1) kind i ≤ 30 := fun i hi => by
    unfold wth
    split
    · rename_i q
      have hi' : i < nc (A 1) := by unfold clAll at hi; rw [if_pos q] at hi; exact hi
      have := (hN i hi').1; omega
    · rename_i q
      have hi' : i < A 1 0 + A 1 1 := by unfold clAll at hi; rw [if_neg q] at hi; exact hi
      exact lsum_30 hi' hP hN
  have fin : ∀ q, q ≤ l.length → f_X13_listClues_B130 r22 (some m) (I kind) (I way) (I l.length) x4 x5 (I x) (I q) (TW m v (aset A 9 (arr G l q)) h) = r22 (some m) (I kind) (I way) (I (l.length + 1)) x4 (x5 + I 1) (TW m v (aset A 9 (ordF G (l.take q ++ x :: l.drop q))) h) := fun q hq => by
    have e := arr_end (G := G) (l := l) (x := x) hq
    simp (disch := first | omega | assumption) only [tw_rcv, tw_r1, tw_r2, tw_r3, tw_r5, tw_r7, tw_r12, tw_r14, tw_r15, tw_r16, tw_r17, tw_r18, Option.bind_some, lit_I, I_add, I_mul, I_le, I_lt, I_eq, if_neg, if_pos, if_true, if_false, I_10, I_01, bit_T, bit_F, bit_F', bit_0, bit_1, gb_bit, tw_s, tw_rw, tw_cells, tw_blockOf, tw_numberOf, aset_eq, aset_ne, aset_aset, Bool.false_eq_true, not_true_eq_false, not_false_eq_true, f_X13_listClues_B130, tw_w9, e]
  intro p
  induction p with
  | zero =>
    intro f _ hf
    obtain ⟨f, rfl⟩ : ∃ f', f = f' + 1 := ⟨f - 1, by omega⟩
    have e : (if way = 2 then insP (wth (A 1) kind) l x 0 else 0) = 0 := by split <;> rfl
    rw [e, ← fin 0 (Nat.zero_le _)]
    simp (disch := first | omega | assumption) only [f_X13_listClues_L74, lit_I, I_le, if_pos]
  | succ p ih =>
    intro f hp hf
    obtain ⟨f, rfl⟩ : ∃ f', f = f' + 1 := ⟨f - 1, by omega⟩
    by_cases q : way = 2
    · subst q
      have hpl : p < l.length := by omega
      have hlp : l[p]? = some l[p] := List.getElem?_eq_getElem hpl
      have hgd : l.getD p 0 = l[p] := by simp [List.getD, hlp]
      have hmem := hm l[p] (List.getElem_mem hpl)
      have e1 : arr G l (p + 1) p = l[p] := by rw [arr_at (by omega), ordF_at hlp]
      have w1 := tw_worth (m := m) (v := v) (h := h) (A := A) (w := arr G l (p + 1)) hk hmem hA hP
      have w2 := tw_worth (m := m) (v := v) (h := h) (A := A) (w := arr G l (p + 1)) hk hx hA hP
      have b1 := hwb _ hmem
      have b2 := hwb _ hx
      have est := arr_step (G := G) (l := l) (p := p) hp
      rw [ordF_at hlp] at est
      by_cases q2 : wth (A 1) kind l[p] < wth (A 1) kind x
      · have e2 : insP (wth (A 1) kind) l x (p + 1) = insP (wth (A 1) kind) l x p := by simp only [insP]; rw [hgd, if_pos q2]
        have := ih f (by omega) (by omega)
        simp only [if_true] at this ⊢
        rw [e2, ← this]
        have ed : I (p + 1) + - I 1 = I p := I_dec (a := p + 1) (by omega)
        have ed2 : I (p + 1) - I 1 = I p := by rw [I_sub (by omega)]; rfl
        simp (disch := first | omega | assumption) only [f_X13_listClues_L74, lit_I, I_le, if_neg, if_true, if_pos, tw_r16, Option.bind_some, ed2, tw_r9', aset_eq, e1, tw_rcv, w1, w2, tw_w9, aset_aset, est, ed]
      · have e2 : insP (wth (A 1) kind) l x (p + 1) = p + 1 := by simp only [insP]; rw [hgd, if_neg q2]
        simp only [if_true]
        rw [e2, ← fin (p + 1) hp]
        have ed2 : I (p + 1) - I 1 = I p := by rw [I_sub (by omega)]; rfl
        simp (disch := first | omega | assumption) only [f_X13_listClues_L74, lit_I, I_le, if_neg, if_true, if_pos, tw_r16, Option.bind_some, ed2, tw_r9', aset_eq, e1, tw_rcv, w1, w2]
    · rw [if_neg q, ← fin (p + 1) hp]
      simp (disch := first | omega | assumption) only [f_X13_listClues_L74, lit_I, I_le, I_eq, if_neg]
theorem tw_lc22 {kind way : Nat} (hk : kind ≤ 1) (hw : way ≤ 2) (hA : SB (A 1)) (hP : PG' (A 1)) (hN : NB (A 1)) : f_X13_listClues_L22 FU (some m) (I kind) (I way) (I 0) (I (clAll (A 1) kind)) (I 0) (TW m v A h) = some (I (clTo (A 1) kind way (clAll (A 1) kind)).length, TW m v (aset A 9 (ordF (A 9) (clTo (A 1) kind way (clAll (A 1) kind)))) h) := by
  have hn := nc_le hP
  have hPP := hP
  obtain ⟨p1, p2, p3, p4⟩ := hPP
  have hal : clAll (A 1) kind ≤ 25 := by unfold clAll; split <;> omega
  have key := loop_FU (fun n (p : Nat × Nat × (Nat → Nat)) => f_X13_listClues_L22 n (some m) (I kind) (I way) (I p.1) (I (clAll (A 1) kind)) (I p.2.1) (TW m v (aset A 9 p.2.2) h)) (fun j => ((clTo (A 1) kind way j).length, j, ordF (A 9) (clTo (A 1) kind way j))) (clAll (A 1) kind) (some (I (clTo (A 1) kind way (clAll (A 1) kind)).length, TW m v (aset A 9 (ordF (A 9) (clTo (A 1) kind way (clAll (A 1) kind)))) h)) (by omega) (fun n j hj => ?_) (fun n => ?_)
  · simp only [clTo, List.length_nil, ordF_nil, aset_self] at key
    exact key
  · obtain ⟨c1, c2⟩ := clTo_mem (s := A 1) (kind := kind) (way := way) j (by omega)
    have hix : clIx (A 1) kind way j < clAll (A 1) kind := by unfold clIx; split <;> omega
    have h74 := tw_lc74 (m := m) (v := v) (h := h) (A := A) (r22 := f_X13_listClues_L22 n) (x4 := I (clAll (A 1) kind)) (x5 := I j) (G := A 9) (x := clIx (A 1) kind way j) hk hw (l := clTo (A 1) kind way j) (by omega) (fun y hy => (c1 y hy).1) hix hA hP hN (clTo (A 1) kind way j).length FU (Nat.le_refl _) (by rw [FU_eq]; omega)
    rw [arr_len] at h74
    -- the index, and the place in the row
    have hB46 : f_X13_listClues_L22 (n + 1) (some m) (I kind) (I way) (I (clTo (A 1) kind way j).length) (I (clAll (A 1) kind)) (I j) (TW m v (aset A 9 (ordF (A 9) (clTo (A 1) kind way j))) h) = f_X13_listClues_B46 (f_X13_listClues_L22 n) (some m) (I kind) (I way) (I (clTo (A 1) kind way j).length) (I (clAll (A 1) kind)) (I j) (I (clIx (A 1) kind way j)) (TW m v (aset A 9 (ordF (A 9) (clTo (A 1) kind way j))) h) := by
      rw [f_X13_listClues_L22]
      by_cases q : way = 1
      · subst q
        have e : clIx (A 1) kind 1 j = clAll (A 1) kind - 1 - j := by unfold clIx; rw [if_pos rfl]
        rw [e]
        simp (disch := first | omega | assumption) only [lit_I, I_le, if_neg, if_true, I_sub]
      · have e : clIx (A 1) kind way j = j := by unfold clIx; rw [if_neg q]
        rw [e]
        simp (disch := first | omega | assumption) only [lit_I, I_le, I_eq, if_neg]
    have hrd : f_X13_listClues_B46 (f_X13_listClues_L22 n) (some m) (I kind) (I way) (I (clTo (A 1) kind way j).length) (I (clAll (A 1) kind)) (I j) (I (clIx (A 1) kind way j)) (TW m v (aset A 9 (ordF (A 9) (clTo (A 1) kind way j))) h) = (if A 1 (place kind (clIx (A 1) kind way j)) = 1 then (f_X13_listClues_L74 (f_X13_listClues_L22 n) FU (some m) (I kind) (I way) (I (clTo (A 1) kind way j).length) (I (clAll (A 1) kind)) (I j) (I (clIx (A 1) kind way j)) (I (clTo (A 1) kind way j).length) (TW m v (aset A 9 (ordF (A 9) (clTo (A 1) kind way j))) h)) else f_X13_listClues_L22 n (some m) (I kind) (I way) (I (clTo (A 1) kind way j).length) (I (clAll (A 1) kind)) (I (j + 1)) (TW m v (aset A 9 (ordF (A 9) (clTo (A 1) kind way j))) h)) := by
      have hk' : kind = 0 ∨ kind = 1 := by omega
      have hb := hA (place kind (clIx (A 1) kind way j))
      generalize clTo (A 1) kind way j = L
      generalize hci : clIx (A 1) kind way j = ci at hix hb
      rcases hk' with rfl | rfl
      · have e : place 0 ci = 58 + ci := rfl
        rw [e] at hb ⊢
        simp (disch := first | omega | assumption) only [f_X13_listClues_B46, f_X13_listClues_B63, lit_I, tw_r1, Option.bind_some, if_true, I_add, tw_s, a9_1, I_eq]
      · have e : place 1 ci = 83 + ci := rfl
        rw [e] at hb ⊢
        simp (disch := first | omega | assumption) only [f_X13_listClues_B46, f_X13_listClues_B63, lit_I, tw_r1, Option.bind_some, I_eq, if_neg, I_add, tw_s, a9_1]
    simp only []
    rw [hB46, hrd]
    by_cases q : A 1 (place kind (clIx (A 1) kind way j)) = 1
    · rw [if_pos q, h74]
      have e : clTo (A 1) kind way (j + 1) = insL (wth (A 1) kind) way (clTo (A 1) kind way j) (clIx (A 1) kind way j) := by simp only [clTo]; rw [if_pos q]
      have el : (insL (wth (A 1) kind) way (clTo (A 1) kind way j) (clIx (A 1) kind way j)).length = (clTo (A 1) kind way j).length + 1 := by
        unfold insL
        have hq : (if way = 2 then insP (wth (A 1) kind) (clTo (A 1) kind way j) (clIx (A 1) kind way j) (clTo (A 1) kind way j).length else (clTo (A 1) kind way j).length) ≤ (clTo (A 1) kind way j).length := by
          split
          · exact insP_le _
          · exact Nat.le_refl _
        simp only [List.length_append, List.length_cons, List.length_take, List.length_drop]
        omega
      rw [e, el]
      unfold insL
      simp (disch := first | omega | assumption) only [I_add]
    · rw [if_neg q]
      have e : clTo (A 1) kind way (j + 1) = clTo (A 1) kind way j := by simp only [clTo]; rw [if_neg q]
      rw [e]
  · simp (disch := first | omega | assumption) only [f_X13_listClues_L22, lit_I, I_le, if_pos]
theorem tw_listClues {kind way : Nat} (hk : kind ≤ 1) (hw : way ≤ 2) (hA : SB (A 1)) (hP : PG' (A 1)) (hN : NB (A 1)) : f_X13_listClues (some m) (I kind) (I way) (TW m v A h) = some (I (clTo (A 1) kind way (clAll (A 1) kind)).length, TW m v (aset A 9 (ordF (A 9) (clTo (A 1) kind way (clAll (A 1) kind)))) h) := by
  have hk' : kind = 0 ∨ kind = 1 := by omega
  have := tw_lc22 (m := m) (v := v) (h := h) (A := A) (kind := kind) (way := way) hk hw hA hP hN
  rcases hk' with rfl | rfl
  · rw [← this]
    simp (disch := first | omega | assumption) only [f_X13_listClues, lit_I, if_true, tw_rcv, tw_cells, Option.bind_some]
    rfl
  · rw [← this]
    simp (disch := first | omega | assumption) only [f_X13_listClues, lit_I, I_10, if_false, tw_rcv, tw_lines, Option.bind_some]
    rfl
theorem QInv_on {s : Nat → Nat} {k i : Nat} (h : QInv s) (hk : k ≤ 1) (hi : i < clAll s k) (hz : k = 0 → s (33 + i) ≠ 0) : QInv (nup s (place k i) 1) := by
  unfold place clAll at *
  by_cases q : k = 0
  · rw [if_pos q] at hi ⊢
    exact QInv_give h hi (Nat.le_refl _) (fun _ => hz q)
  · rw [if_neg q] at hi ⊢
    exact QInv_show h (Nat.le_refl _)
theorem nup_nup {g : Nat → Nat} {j x y : Nat} : nup (nup g j x) j y = nup g j y := by
  funext k; unfold nup; split <;> rfl
theorem tw_red52 {kind : Nat} {lst : List Nat} (hk : kind ≤ 1) (hlen : lst.length ≤ 25) : ∀ (l2 l1 : List Nat) (f n : Nat) (v : Nat → Int32) (A : Nat → Nat → Nat) (g : GS), lst = l1 ++ l2 → l2.length < f → TI v A g → QInv g.1 → (∀ k x, lst[k]? = some x → A 9 k = x) → (∀ x, x ∈ l2 → x < clAll g.1 kind ∧ (kind = 0 → g.1 (33 + x) ≠ 0)) →
    ∃ v' A', f_X13_reduce_L52 f (some m) (I kind) (I lst.length) (I n) (I l1.length) (TW m v A h) = some (I (n + (rdc kind g.1 l2).1), TW m v' A' h) ∧ TI v' A' (sReset (rdc kind g.1 l2).2, g.2) ∧ QInv (rdc kind g.1 l2).2 := by
  intro l2
  induction l2 with
  | nil =>
    intro l1 f n v A g hl hf hT hQ h9 hm
    obtain ⟨f, rfl⟩ : ∃ f', f = f' + 1 := ⟨f - 1, by omega⟩
    rw [List.append_nil] at hl
    subst hl
    obtain ⟨A3, c1, c2, -, -⟩ := tw_resetT (m := m) (h := h) hT hQ
    refine ⟨v, A3, ?_, c2, hQ⟩
    simp (disch := first | omega | assumption) only [tw_rcv, tw_r1, tw_r2, tw_r3, tw_r5, tw_r7, tw_r12, tw_r14, tw_r15, tw_r16, tw_r17, tw_r18, Option.bind_some, lit_I, I_add, I_mul, I_le, I_lt, I_eq, if_neg, if_pos, if_true, if_false, I_10, I_01, bit_T, bit_F, bit_F', bit_0, bit_1, gb_bit, tw_s, tw_rw, tw_cells, tw_blockOf, tw_numberOf, aset_eq, aset_ne, aset_aset, Bool.false_eq_true, not_true_eq_false, not_false_eq_true, f_X13_reduce_L52, c1, rdc, Nat.add_zero]
  | cons i l2 ih =>
    intro l1 f n v A g hl hf hT hQ h9 hm
    obtain ⟨f, rfl⟩ : ∃ f', f = f' + 1 := ⟨f - 1, by omega⟩
    have s1 : A 1 = g.1 := hT.2.1
    have hs := TI_SB hT
    have hP := hQ.1
    have hn := nc_le hP
    have hPP := hP
    obtain ⟨p1, p2, p3, p4⟩ := hPP
    have hi9 : A 9 l1.length = i := h9 _ _ (by rw [hl]; simp)
    have hl1 : l1.length < lst.length := by rw [hl]; simp
    obtain ⟨mi1, mi2⟩ := hm i (by simp)
    have hpl : place kind i < 93 := by
      unfold place clAll at *
      split <;> rename_i q <;> simp only [q, if_true, if_false] at mi1 <;> omega
    have hp8 : 58 ≤ place kind i := by unfold place; split <;> omega
    -- the clue away
    have t1 := TI_set (s := nup g.1 (place kind i) 0) hT (nup_SB hs (by decide))
    have hQ1 := QInv_off (i := i) hQ hk
    have hAB := t1.1
    have s2 : (aset A 1 (nup g.1 (place kind i) 0)) 1 = nup g.1 (place kind i) 0 := aset_eq
    obtain ⟨v2, A2, a1, a2, -⟩ := tw_isSolvable (m := m) (v := v) (h := h) (A := aset A 1 (nup g.1 (place kind i) 0)) hAB (by rw [s2]; exact hQ1.1) (by rw [s2]; exact hQ1.NB)
    rw [s2] at a1
    have e22 : nup g.1 (place kind i) 0 2 = g.1 2 := nup_ne (by omega)
    rw [e22] at a1
    have t2 := TI_LK t1 a2
    have s3 : A2 1 = nup g.1 (place kind i) 0 := t2.2.1
    have h29 : A2 9 = A 9 := by rw [a2.2.1 9 (by decide) (by decide), aset_ne (by decide)]
    have hB : ∀ (b : Nat), b ≤ 1 → f_X13_reduce_B105 (f_X13_reduce_L52 f) (some m) (I kind) (I lst.length) (I n) (I l1.length) (I (place kind i)) (some (m + 1)) (I (place kind i)) (I b) (TW m v2 A2 h) = f_X13_reduce_L52 f (some m) (I kind) (I lst.length) (I (n + (1 - b))) (I (l1.length + 1)) (TW m v2 (aset A2 1 (nup g.1 (place kind i) b)) h) := fun b hb => by
      simp (disch := first | omega | assumption) only [tw_rcv, tw_r1, tw_r2, tw_r3, tw_r5, tw_r7, tw_r12, tw_r14, tw_r15, tw_r16, tw_r17, tw_r18, Option.bind_some, lit_I, I_add, I_mul, I_le, I_lt, I_eq, if_neg, if_pos, if_true, if_false, I_10, I_01, bit_T, bit_F, bit_F', bit_0, bit_1, gb_bit, tw_s, tw_rw, tw_cells, tw_blockOf, tw_numberOf, aset_eq, aset_ne, aset_aset, Bool.false_eq_true, not_true_eq_false, not_false_eq_true, f_X13_reduce_B105, tw_ws, s3, nup_eq, I_sub, nup_nup]
    have hwalk : ∀ z, (if I (bit (solv (nup g.1 (place kind i) 0) (g.1 2) = true)) = I 0 then f_X13_reduce_B105 (f_X13_reduce_L52 f) (some m) (I kind) (I lst.length) (I n) (I l1.length) (I (place kind i)) (some (m + 1)) (I (place kind i)) (I 1) (TW m v2 A2 h) else f_X13_reduce_B105 (f_X13_reduce_L52 f) (some m) (I kind) (I lst.length) (I n) (I l1.length) (I (place kind i)) (some (m + 1)) (I (place kind i)) (I 0) (TW m v2 A2 h)) = z → f_X13_reduce_L52 (f + 1) (some m) (I kind) (I lst.length) (I n) (I l1.length) (TW m v A h) = z := fun z hz => by
      have hk' : kind = 0 ∨ kind = 1 := by omega
      have ew : asi 0 (some (m + 1)) (I (place kind i)) (I 0) (TW m v A h) = some (TW m v (aset A 1 (nup g.1 (place kind i) 0)) h) := by rw [tw_ws (by omega), s1]
      rcases hk' with rfl | rfl
      · have e : 58 + i = place 0 i := rfl
        simp (disch := first | omega | assumption) only [f_X13_reduce_L52, f_X13_reduce_B69, lit_I, I_le, if_neg, if_true, tw_r16, tw_r1, tw_rcv, Option.bind_some, tw_r9', hi9, I_add, e, ew, a1]
        exact hz
      · have e : 83 + i = place 1 i := rfl
        simp (disch := first | omega | assumption) only [f_X13_reduce_L52, f_X13_reduce_B69, lit_I, I_le, if_neg, I_10, if_false, tw_r16, tw_r1, tw_rcv, Option.bind_some, tw_r9', hi9, I_add, e, ew, a1]
        exact hz
    have hl' : lst = (l1 ++ [i]) ++ l2 := by rw [hl]; simp
    have hlen1 : (l1 ++ [i]).length = l1.length + 1 := by simp
    have hall : ∀ b, clAll (nup g.1 (place kind i) b) kind = clAll g.1 kind := fun b => by
      unfold clAll; rw [nc_of (s := g.1) (nup_ne (by omega)) (nup_ne (by omega)), nup_ne (by omega), nup_ne (by omega)]
    have hm' : ∀ b, ∀ x, x ∈ l2 → x < clAll (nup g.1 (place kind i) b) kind ∧ (kind = 0 → nup g.1 (place kind i) b (33 + x) ≠ 0) := fun b x hx => by
      obtain ⟨q1, q2⟩ := hm x (by simp [hx])
      rw [hall]
      refine ⟨q1, fun hk0 => ?_⟩
      have hx25 : x < 25 := by unfold clAll at q1; rw [if_pos hk0] at q1; omega
      rw [nup_ne (by omega)]; exact q2 hk0
    cases h4 : solv (nup g.1 (place kind i) 0) (g.1 2) with
    | true =>
      have t3 := TI_set (s := nup g.1 (place kind i) 0) t2 (nup_SB hs (by decide))
      obtain ⟨v', A', b1, b2, b3⟩ := ih (l1 ++ [i]) f (n + 1) v2 _ (nup g.1 (place kind i) 0, g.2) hl' (by simp at hf; omega) t3 hQ1 (fun k x hx => by rw [aset_ne (by decide), h29]; exact h9 k x hx) (hm' 0)
      refine ⟨v', A', hwalk _ ?_, ?_, ?_⟩
      · rw [h4, if_neg (by decide), hB 0 (by decide)]
        rw [hlen1] at b1
        simp only at b1
        simp only [rdc, h4, if_true]
        rw [b1]; congr 2; congr 1; omega
      · simp only [rdc, h4, if_true]; exact b2
      · simp only [rdc, h4, if_true]; exact b3
    | false =>
      have t3 := TI_set (s := nup g.1 (place kind i) 1) t2 (nup_SB hs (by decide))
      have hQ3 := QInv_on hQ hk mi1 mi2
      obtain ⟨v', A', b1, b2, b3⟩ := ih (l1 ++ [i]) f n v2 _ (nup g.1 (place kind i) 1, g.2) hl' (by simp at hf; omega) t3 hQ3 (fun k x hx => by rw [aset_ne (by decide), h29]; exact h9 k x hx) (hm' 1)
      refine ⟨v', A', hwalk _ ?_, ?_, ?_⟩
      · rw [h4, if_pos (by decide), hB 1 (by decide)]
        rw [hlen1] at b1
        simp only at b1
        simp only [rdc, h4, Bool.false_eq_true, if_false]
        exact b1
      · simp only [rdc, h4, Bool.false_eq_true, if_false]; exact b2
      · simp only [rdc, h4, Bool.false_eq_true, if_false]; exact b3
theorem tw_reduce {x y : Int32} (hT : TI v A g) (hI : RInv g.1) : ∃ v' A', f_X13_reduce (some m) x y (TW m v A h) = some ((o_reduce g x y).1, TW m v' A' h) ∧ TI v' A' (o_reduce g x y).2 := by
  have hQ := hI.1.1
  have hP := hQ.1
  have hn := nc_le hP
  have hPP := hP
  obtain ⟨p1, p2, p3, p4⟩ := hPP
  have hT0 := TI_v0 (x := I 0) hT
  have s1 : A 1 = g.1 := hT.2.1
  unfold o_reduce
  cases h1 : bt x 0 1 with
  | false =>
    refine ⟨_, _, ?_, hT0⟩
    simp (disch := first | omega | assumption) only [tw_rcv, tw_r1, tw_r2, tw_r3, tw_r5, tw_r7, tw_r12, tw_r14, tw_r15, tw_r16, tw_r17, tw_r18, Option.bind_some, lit_I, I_add, I_mul, I_le, I_lt, I_eq, if_neg, if_pos, if_true, if_false, I_10, I_01, bit_T, bit_F, bit_F', bit_0, bit_1, gb_bit, tw_s, tw_rw, tw_cells, tw_blockOf, tw_numberOf, aset_eq, aset_ne, aset_aset, Bool.false_eq_true, not_true_eq_false, not_false_eq_true, f_X13_reduce, tw_p0, inZ, h1, Bool.false_and]
  | true =>
  obtain ⟨kind, rfl, hna, -, hx⟩ := bt_ex (by decide) (by decide) h1
  simp only [hna]
  cases h2 : bt y 0 2 with
  | false =>
    refine ⟨_, _, ?_, hT0⟩
    simp (disch := first | omega | assumption) only [tw_rcv, tw_r1, tw_r2, tw_r3, tw_r5, tw_r7, tw_r12, tw_r14, tw_r15, tw_r16, tw_r17, tw_r18, Option.bind_some, lit_I, I_add, I_mul, I_le, I_lt, I_eq, if_neg, if_pos, if_true, if_false, I_10, I_01, bit_T, bit_F, bit_F', bit_0, bit_1, gb_bit, tw_s, tw_rw, tw_cells, tw_blockOf, tw_numberOf, aset_eq, aset_ne, aset_aset, Bool.false_eq_true, not_true_eq_false, not_false_eq_true, f_X13_reduce, tw_p0, inZ, h1, h2, Bool.true_and]
  | true =>
  obtain ⟨way, rfl, hnk, -, hy⟩ := bt_ex (by decide) (by decide) h2
  simp only [hnk]
  obtain ⟨v2, A2, a1, a2, -, -⟩ := tw_solvaT (m := m) (h := h) hT0 hQ
  have s2 : A2 1 = g.1 := a2.2.1
  cases h4 : solv g.1 (g.1 2) with
  | false =>
    refine ⟨_, _, ?_, a2⟩
    simp (disch := first | omega | assumption) only [tw_rcv, tw_r1, tw_r2, tw_r3, tw_r5, tw_r7, tw_r12, tw_r14, tw_r15, tw_r16, tw_r17, tw_r18, Option.bind_some, lit_I, I_add, I_mul, I_le, I_lt, I_eq, if_neg, if_pos, if_true, if_false, I_10, I_01, bit_T, bit_F, bit_F', bit_0, bit_1, gb_bit, tw_s, tw_rw, tw_cells, tw_blockOf, tw_numberOf, aset_eq, aset_ne, aset_aset, Bool.false_eq_true, not_true_eq_false, not_false_eq_true, f_X13_reduce, tw_p0, inZ, h1, h2, Bool.true_and, a1, h4]
  | true =>
    obtain ⟨v3, A3, b1, b2, -, -⟩ := tw_actT (m := m) (h := h) a2
    have s3 : A3 1 = g.1 := b2.2.1
    have hlc := tw_listClues (m := m) (v := v3) (h := h) (A := A3) (kind := kind) (way := way) hx hy (b2.1 1) (by rw [s3]; exact hP) (by rw [s3]; exact hQ.NB)
    rw [s3] at hlc
    obtain ⟨m1, m2⟩ := clTo_mem (s := g.1) (kind := kind) (way := way) (clAll g.1 kind) (Nat.le_refl _)
    have hal : clAll g.1 kind ≤ 25 := by unfold clAll; split <;> omega
    generalize clTo g.1 kind way (clAll g.1 kind) = lst at hlc m1 m2 ⊢
    have t4 : TI v3 (aset A3 9 (ordF (A3 9) lst)) (g.1, push g.2.1 g.1, g.2.2) := TI_o b2 (ordF_SB (b2.1 9) (fun x hx => by have := (m1 x hx).1; omega)) (by decide) (by decide) (by decide)
    obtain ⟨v', A', d1, d2, d3⟩ := tw_red52 (m := m) (h := h) (kind := kind) (lst := lst) hx (by omega) lst [] FU 0 v3 _ _ rfl (by rw [FU_eq]; omega) t4 hQ (fun k x hx => by rw [aset_eq]; exact ordF_at hx) (fun x hx => by
      obtain ⟨q1, q2⟩ := m1 x hx
      refine ⟨q1, fun hk0 => ?_⟩
      subst hk0
      exact (hQ.2.2.1 x q1).2.2.2 q2)
    simp only [Nat.zero_add, List.length_nil] at d1
    refine ⟨v', A', ?_, d2⟩
    simp (disch := first | omega | assumption) only [tw_rcv, tw_r1, tw_r2, tw_r3, tw_r5, tw_r7, tw_r12, tw_r14, tw_r15, tw_r16, tw_r17, tw_r18, Option.bind_some, lit_I, I_add, I_mul, I_le, I_lt, I_eq, if_neg, if_pos, if_true, if_false, I_10, I_01, bit_T, bit_F, bit_F', bit_0, bit_1, gb_bit, tw_s, tw_rw, tw_cells, tw_blockOf, tw_numberOf, aset_eq, aset_ne, aset_aset, Bool.false_eq_true, not_true_eq_false, not_false_eq_true, f_X13_reduce, tw_p0, inZ, h1, h2, Bool.true_and, a1, h4, b1, hlc, chg]
    exact d1
end TW70
