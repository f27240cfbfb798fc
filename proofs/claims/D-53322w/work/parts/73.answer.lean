/-! PLAIN LAW: the answer and the page of the text, by the reference -/
set_option maxRecDepth 100000
/-- all cells emptied -/
def sEA (s : Nat → Nat) : Nat → (Nat → Nat)
  | 0 => s
  | c + 1 => sEmp (sEA s c) c
theorem sEA_Q {s : Nat → Nat} (h : QInv s) : ∀ n, n ≤ nc s → QInv (sEA s n) ∧ (∀ k, k < 33 ∨ 93 ≤ k → sEA s n k = s k) ∧ (∀ c, c < n → sEA s n (58 + c) = 0) ∧ (SB s → SB (sEA s n)) := by
  have hn := nc_le h.1
  intro n
  induction n with
  | zero => intro _; exact ⟨h, fun _ _ => rfl, fun c hc => by omega, id⟩
  | succ n ih =>
    intro hle
    obtain ⟨i1, i2, i3, i4⟩ := ih (by omega)
    have en : nc (sEA s n) = nc s := nc_of (i2 0 (by omega)) (i2 1 (by omega))
    have hc : n < nc (sEA s n) := by omega
    have hat := fun k => sEmp_at (k := k) i1.1 hc
    have hd := dv_lt i1.1 hc
    have hPP := i1.1
    obtain ⟨p1, p2, p3, p4⟩ := hPP
    refine ⟨QInv_sEmp i1 hc, fun k hk => ?_, fun c hcn => ?_, fun hs => sEmp_SB (i4 hs)⟩
    · show sEmp (sEA s n) n k = s k
      rw [hat, if_neg (by omega)]; exact i2 k hk
    · show sEmp (sEA s n) n (58 + c) = 0
      rw [hat]
      by_cases e : c = n
      · subst e; rw [if_pos (by omega)]
      · split
        · rfl
        · exact i3 c (by omega)
/-- one row of digits -/
def pRowA (tx : Nat → Nat) (n row f : Nat) (s : Nat → Nat) : Nat → Nat ⊕ (Nat → Nat)
  | 0 => .inr s
  | k + 1 => match pRowA tx n row f s k with
    | .inl e => .inl e
    | .inr s' => if (atT tx n (f + k) - 48 = 0 ∨ (atT tx n (f + k) - 48 ≤ bsz s' (s' (8 + (s' 1 * row + k))) ∧ taken s' (s' 1 * row + k) (atT tx n (f + k) - 48) = false)) then .inr (nup s' (33 + (s' 1 * row + k)) (atT tx n (f + k) - 48)) else .inl f
def pAns (tx : Nat → Nat) (n : Nat) : Nat → Nat → (Nat → Nat) → TK3 → PRs
  | 0, _, s, t => .inr (s, t)
  | k + 1, row, s, t => if t.1 = 2 ∧ t.2.2 - t.2.1 = s 1 then (match pRowA tx n row t.2.1 s (s 1) with | .inl e => .inl e | .inr s' => pAns tx n k (row + 1) s' (nxt tx n t)) else .inl t.2.1
def pAnswer (tx : Nat → Nat) (n : Nat) (s : Nat → Nat) (t : TK3) : PRs := pAns tx n (s 0) 0 (sEA s (nc s)) t
/-- no clue given -/
def NoG (s : Nat → Nat) : Prop := ∀ c, c < nc s → s (58 + c) = 0
theorem cell_lt {s : Nat → Nat} (row k : Nat) (hr : row < s 0) (hk : k < s 1) : s 1 * row + k < nc s := by
  have : s 1 * (row + 1) ≤ s 1 * s 0 := Nat.mul_le_mul_left _ hr
  rw [Nat.mul_add, Nat.mul_one] at this
  have e : nc s = s 1 * s 0 := Nat.mul_comm _ _
  omega
theorem pRowA_Q {tx : Nat → Nat} {n row f : Nat} {s : Nat → Nat} (h : QInv s) (hG : NoG s) (hr : row < s 0) : ∀ k s', k ≤ s 1 → pRowA tx n row f s k = .inr s' → QInv s' ∧ NoG s' ∧ (∀ j, j < 33 ∨ 58 ≤ j → s' j = s j) ∧ (SB s → SB s') := by
  have hn := nc_le h.1
  intro k
  induction k with
  | zero => intro s' _ he; cases he; exact ⟨h, hG, fun _ _ => rfl, id⟩
  | succ k ih =>
    intro s' hk he
    simp only [pRowA] at he
    cases hq : pRowA tx n row f s k with
    | inl e => rw [hq] at he; cases he
    | inr s1 =>
      rw [hq] at he
      simp only at he
      obtain ⟨i1, i2, i3, i4⟩ := ih s1 (by omega) hq
      split at he
      · rename_i hc
        cases he
        have e1 := i3 1 (by omega)
        have e0 := i3 0 (by omega)
        have hcl := cell_lt (s := s1) row k (by omega) (by omega)
        have en : nc s1 = nc s := nc_of e0 e1
        have h6 := (i1.2.2.1 _ hcl).1
        have hd : atT tx n (f + k) - 48 ≤ bsz s1 (s1 (8 + (s1 1 * row + k))) := by
          rcases hc with q | q
          · omega
          · exact q.1
        refine ⟨QInv_num i1 hcl hd (fun _ => i2 _ hcl) (fun q => hc.elim (fun q2 => absurd q2 q) (fun q2 => q2.2)), fun c hc' => ?_, fun j hj => ?_, fun hs => nup_SB (i4 hs) (by omega)⟩
        · have e2 : nc (nup s1 (33 + (s1 1 * row + k)) (atT tx n (f + k) - 48)) = nc s1 := nc_of (nup_ne (by omega)) (nup_ne (by omega))
          rw [e2] at hc'
          rw [nup_ne (by omega)]; exact i2 c hc'
        · rw [nup_ne (by omega)]; exact i3 j hj
      · cases he
theorem pAns_Q {tx : Nat → Nat} {n : Nat} : ∀ k row s t p, row + k = s 0 → QInv s → NoG s → Tok tx n t → p ≤ t.2.1 → PQ tx n s p (pAns tx n k row s t) := by
  intro k
  induction k with
  | zero => intro row s t p _ hQ _ ht hp x hx; cases hx; exact ⟨hQ, ht, hp, fun _ _ => rfl⟩
  | succ k ih =>
    intro row s t p hr hQ hG ht hp x hx
    simp only [pAns] at hx
    split at hx
    · cases hq : pRowA tx n row t.2.1 s (s 1) with
      | inl e => rw [hq] at hx; cases hx
      | inr s' =>
        rw [hq] at hx
        obtain ⟨i1, i2, i3, i4⟩ := pRowA_Q hQ hG (by omega) (s 1) s' (Nat.le_refl _) hq
        have hf := ht.f
        obtain ⟨q1, q2, q3, q4⟩ := ih (row + 1) s' _ p (by rw [i3 0 (by omega)]; omega) i1 i2 ht.on (by have := ht.lt; omega) x hx
        exact ⟨q1, q2, q3, fun j hj => (q4 j hj).trans (i3 j (by omega))⟩
    · cases hx
theorem pAnswer_Q {tx : Nat → Nat} {n : Nat} {s : Nat → Nat} {t : TK3} {p : Nat} (hQ : QInv s) (ht : Tok tx n t) (hp : p ≤ t.2.1) : PQ tx n s p (pAnswer tx n s t) := by
  obtain ⟨i1, i2, i3, i4⟩ := sEA_Q hQ (nc s) (Nat.le_refl _)
  have en : nc (sEA s (nc s)) = nc s := nc_of (i2 0 (by omega)) (i2 1 (by omega))
  intro x hx
  obtain ⟨q1, q2, q3, q4⟩ := pAns_Q (s 0) 0 _ t p (by rw [i2 0 (by omega)]; omega) i1 (fun c hc => i3 c (by rw [← en]; exact hc)) ht hp x hx
  exact ⟨q1, q2, q3, fun j hj => (q4 j hj).trans (i2 j (by omega))⟩
section TW73
variable {m : Nat} {v : Nat → Int32} {A : Nat → Nat → Nat} {h : PH} {g : GS} {asd : Nat → Nat} {t : TK3}
theorem tw_mayWrite {c d : Nat} (hT : TI v A g) (hQ : QInv g.1) (hc : c < nc g.1) (hd : d < 1000000) : ∃ b : Bool, f_X13_mayWrite (some m) (I c) (I d) (TW m v A h) = some (I (bit (b = true)), TW m v A h) ∧ (b = true ↔ (d = 0 ∨ (d ≤ bsz g.1 (g.1 (8 + c)) ∧ taken g.1 c d = false))) := by
  have s1 : A 1 = g.1 := hT.2.1
  have hn := nc_le hQ.1
  have hA1 : SB (A 1) := hT.1 1
  have hP1 : PG' (A 1) := by rw [s1]; exact hQ.1
  have h6 := (hQ.2.2.1 c hc).1
  have hm := tw_mostIn (m := m) (v := v) (h := h) (c := c) (by omega) hA1 hP1
  have ht := tw_isTaken (m := m) (v := v) (h := h) (c := c) (n := d) (by omega) hd hA1 hP1
  rw [s1] at hm ht
  by_cases q : d = 0
  · exact ⟨true, by simp (disch := first | omega | assumption) only [f_X13_mayWrite, lit_I, q, if_true, bit_T], by simp [q]⟩
  · by_cases q2 : d ≤ bsz g.1 (g.1 (8 + c))
    · cases q3 : taken g.1 c d with
      | true =>
        rw [q3] at ht
        exact ⟨false, by simp (disch := first | omega | assumption) only [f_X13_mayWrite, lit_I, I_eq, I_lt, if_neg, tw_rcv, Option.bind_some, hm, ht, bit_0, not_true_eq_false, if_false, Bool.false_eq_true, bit_F'], by simp [q]⟩
      | false =>
        rw [q3] at ht
        exact ⟨true, by simp (disch := first | omega | assumption) only [f_X13_mayWrite, lit_I, I_eq, I_lt, if_neg, tw_rcv, Option.bind_some, hm, ht, bit_0, Bool.false_eq_true, not_false_eq_true, if_true, bit_T], by simp [q2]⟩
    · exact ⟨false, by simp (disch := first | omega | assumption) only [f_X13_mayWrite, lit_I, I_eq, I_lt, if_neg, if_pos, tw_rcv, Option.bind_some, hm, Bool.false_eq_true, bit_F'], by simp [q, q2]⟩
theorem PS.at {i : Nat} (hp : PS v A g asd t) (hn : g.2.2.1 ≤ 140) (hi : i < 1000000) : f_X13_at (some m) (I i) (TW m v A h) = some (I (atT g.2.2.2 g.2.2.1 i), TW m v A h) := by
  obtain ⟨b1, b2, b3⟩ := hp.bd
  rw [← b2]
  exact tw_at' (by omega) b1 hn
theorem PF.rd {e : Nat} (hf : PF v A g asd e) : ∃ s', A 1 = s' ∧ TI v A (s', g.2) := by
  obtain ⟨⟨s', h1, h2⟩, h3⟩ := hf
  exact ⟨s', h1.2.1, h1⟩
/-- the columns of a row -/
theorem tw_an72 {r23 : Option Nat → Int32 → PH → Option PH} {row : Nat} (hp : PS v A g asd t) (hn : g.2.2.1 ≤ 140) (ht : Tok g.2.2.2 g.2.2.1 t) (hQ : QInv g.1) (hG : NoG g.1) (hr : row < g.1 0) (h2 : t.1 = 2) (hw : t.2.2 - t.2.1 = g.1 1) :
    match pRowA g.2.2.2 g.2.2.1 row t.2.1 g.1 (g.1 1) with
    | .inl e => ∃ v' A', f_X13_readAnswer_L72 r23 FU (some m) (I row) (I 0) (TW m v A h) = r23 (some m) (I (row + 1)) (TW m v' A' h) ∧ PF v' A' g asd e
    | .inr s' => f_X13_readAnswer_L72 r23 FU (some m) (I row) (I 0) (TW m v A h) = f_X13_readAnswer_B149 r23 (some m) (I row) (TW m v (aset A 1 s') h) := by
  have s1 : A 1 = g.1 := hp.1.2.1
  have hs := TI_SB hp.1
  have hnc := nc_le hQ.1
  have hPP := hQ.1
  obtain ⟨p1, p2, p3, p4⟩ := hPP
  have hf := ht.f
  have key : ∀ (d k f : Nat) (s' : Nat → Nat), k + d = g.1 1 → d < f → pRowA g.2.2.2 g.2.2.1 row t.2.1 g.1 k = .inr s' →
      match pRowA g.2.2.2 g.2.2.1 row t.2.1 g.1 (g.1 1) with
      | .inl e => ∃ v' A', f_X13_readAnswer_L72 r23 f (some m) (I row) (I k) (TW m v (aset A 1 s') h) = r23 (some m) (I (row + 1)) (TW m v' A' h) ∧ PF v' A' g asd e
      | .inr s' => f_X13_readAnswer_L72 r23 f (some m) (I row) (I k) (TW m v (aset A 1 (match pRowA g.2.2.2 g.2.2.1 row t.2.1 g.1 k with | .inr x => x | .inl _ => g.1)) h) = f_X13_readAnswer_B149 r23 (some m) (I row) (TW m v (aset A 1 s') h) := by
    intro d
    induction d with
    | zero =>
      intro k f s' hk hf' hq
      obtain ⟨f, rfl⟩ : ∃ f', f = f' + 1 := ⟨f - 1, by omega⟩
      have : k = g.1 1 := by omega
      subst this
      rw [hq]
      simp only
      obtain ⟨i1, i2, i3, i4⟩ := pRowA_Q hQ hG hr (g.1 1) s' (Nat.le_refl _) hq
      have e1 := i3 1 (by omega)
      simp (disch := first | omega | assumption) only [f_X13_readAnswer_L72, lit_I, tw_r1, Option.bind_some, tw_s, aset_eq, e1, I_le, if_pos]
    | succ d ih =>
      intro k f s' hk hf' hq
      obtain ⟨f, rfl⟩ : ∃ f', f = f' + 1 := ⟨f - 1, by omega⟩
      obtain ⟨i1, i2, i3, i4⟩ := pRowA_Q hQ hG hr k s' (by omega) hq
      have e1 := i3 1 (by omega)
      have e0 := i3 0 (by omega)
      have hcl := cell_lt (s := s') row k (by omega) (by omega)
      have en : nc s' = nc g.1 := nc_of e0 e1
      have hp2 := hp.set (i4 hs)
      have hat := hp2.at (m := m) (h := h) (i := t.2.1 + k) hn (by omega)
      have hdg := (ht.dig h2).2 (t.2.1 + k) (by omega) (by omega)
      have h48 : 48 ≤ atT g.2.2.2 g.2.2.1 (t.2.1 + k) ∧ atT g.2.2.2 g.2.2.1 (t.2.1 + k) ≤ 57 := by unfold isDig at hdg; simpa using hdg
      have hsub : I (atT g.2.2.2 g.2.2.1 (t.2.1 + k)) - I 48 = I (atT g.2.2.2 g.2.2.1 (t.2.1 + k) - 48) := I_sub h48.1
      obtain ⟨b, hb1, hb2⟩ := tw_mayWrite (m := m) (h := h) (c := s' 1 * row + k) (d := atT g.2.2.2 g.2.2.1 (t.2.1 + k) - 48) hp2.1 i1 hcl (by omega)
      have hpc : s' 1 * row = g.1 1 * row := by rw [e1]
      cases b with
      | true =>
        have hb3 := hb2.mp rfl
        have hq2 : pRowA g.2.2.2 g.2.2.1 row t.2.1 g.1 (k + 1) = .inr (nup s' (33 + (s' 1 * row + k)) (atT g.2.2.2 g.2.2.1 (t.2.1 + k) - 48)) := by
          simp only [pRowA, hq]; rw [if_pos hb3]
        have hgo : f_X13_readAnswer_L72 r23 (f + 1) (some m) (I row) (I k) (TW m v (aset A 1 s') h) = f_X13_readAnswer_L72 r23 f (some m) (I row) (I (k + 1)) (TW m v (aset A 1 (nup s' (33 + (s' 1 * row + k)) (atT g.2.2.2 g.2.2.1 (t.2.1 + k) - 48))) h) := by
          rw [f_X13_readAnswer_L72]
          have hlt : s' 1 * row + k < 25 := by omega
          rw [e1] at hb1 hlt ⊢
          simp (disch := first | omega | assumption) only [lit_I, tw_r1, tw_rcv, Option.bind_some, tw_s, aset_eq, e1, I_le, if_neg, hp2.well, I_10, if_false, tw_int (k := 21) rfl, hp2.2.2.2.2.1, I_add, hat, I_mul, hsub, hb1, bit_0, not_true_eq_false, tw_ws, aset_aset]
        have := ih (k + 1) f _ (by omega) (by omega) hq2
        rw [hq]
        simp only
        rw [hgo]
        rw [hq2] at this
        simp only at this
        exact this
      | false =>
        have hb3 : ¬ (atT g.2.2.2 g.2.2.1 (t.2.1 + k) - 48 = 0 ∨ (atT g.2.2.2 g.2.2.1 (t.2.1 + k) - 48 ≤ bsz s' (s' (8 + (s' 1 * row + k))) ∧ taken s' (s' 1 * row + k) (atT g.2.2.2 g.2.2.1 (t.2.1 + k) - 48) = false)) := fun q => by have := hb2.mpr q; cases this
        have hq2 : pRowA g.2.2.2 g.2.2.1 row t.2.1 g.1 (k + 1) = .inl t.2.1 := by
          simp only [pRowA, hq]; rw [if_neg hb3]
        have hend : ∀ j, pRowA g.2.2.2 g.2.2.1 row t.2.1 g.1 (k + 1 + j) = .inl t.2.1 := by
          intro j
          induction j with
          | zero => exact hq2
          | succ j ihj => show pRowA g.2.2.2 g.2.2.1 row t.2.1 g.1 ((k + 1 + j) + 1) = _; rw [pRowA, ihj]
        have hfin : pRowA g.2.2.2 g.2.2.1 row t.2.1 g.1 (g.1 1) = .inl t.2.1 := by
          have := hend (g.1 1 - (k + 1))
          rwa [show k + 1 + (g.1 1 - (k + 1)) = g.1 1 by omega] at this
        rw [hfin]
        simp only
        obtain ⟨f1, f2⟩ := tw_failT (m := m) (h := h) hp2 ht hn
        refine ⟨_, _, ?_, f2.lift (fun j hj => i3 j (by omega))⟩
        have hlt : s' 1 * row + k < 25 := by omega
        rw [e1] at hb1 hlt
        have hgo : f_X13_readAnswer_L72 r23 (f + 1) (some m) (I row) (I k) (TW m v (aset A 1 s') h) = f_X13_readAnswer_L72 r23 f (some m) (I row) (I (k + 1)) (TW m (vup v 23 (I t.2.1)) (aset A 1 s') h) := by
          rw [f_X13_readAnswer_L72]
          simp (disch := first | omega | assumption) only [lit_I, tw_r1, tw_rcv, Option.bind_some, tw_s, aset_eq, e1, I_le, if_neg, hp2.well, I_10, if_false, tw_int (k := 21) rfl, hp2.2.2.2.2.1, I_add, hat, I_mul, hsub, hb1, bit_0, Bool.false_eq_true, not_false_eq_true, if_true, f1]
        rw [hgo]
        obtain ⟨f, rfl⟩ : ∃ f', f = f' + 1 := ⟨f - 1, by omega⟩
        by_cases c : g.1 1 ≤ k + 1
        · simp (disch := first | omega | assumption) only [f_X13_readAnswer_L72, f_X13_readAnswer_B149, lit_I, tw_r1, tw_rcv, Option.bind_some, tw_s, aset_eq, e1, I_le, if_pos, f2.well, if_true, I_add]
        · simp (disch := first | omega | assumption) only [f_X13_readAnswer_L72, f_X13_readAnswer_B149, lit_I, tw_r1, tw_rcv, Option.bind_some, tw_s, aset_eq, e1, I_le, if_neg, f2.well, if_true, I_add]
  have h0 := key (g.1 1) 0 FU g.1 (by omega) (by rw [FU_eq]; omega) rfl
  have ea : aset A 1 g.1 = A := by rw [← s1]; exact aset_self
  cases hq : pRowA g.2.2.2 g.2.2.1 row t.2.1 g.1 (g.1 1) with
  | inl e =>
    rw [hq] at h0
    simp only [ea] at h0
    exact h0
  | inr s' =>
    rw [hq] at h0
    simp only [pRowA, ea] at h0
    exact h0
theorem tw_an23 : ∀ (k f row : Nat) (v : Nat → Int32) (A : Nat → Nat → Nat) (g : GS) (t : TK3), row + k = g.1 0 → k + 1 < f → PS v A g asd t → g.2.2.1 ≤ 140 → Tok g.2.2.2 g.2.2.1 t → QInv g.1 → NoG g.1 →
    ∃ v' A', f_X13_readAnswer_L23 f (some m) (I row) (TW m v A h) = some (TW m v' A' h) ∧ PR v' A' g asd (pAns g.2.2.2 g.2.2.1 k row g.1 t) := by
  intro k
  induction k with
  | zero =>
    intro f row v A g t hr hf hp _ _ hQ _
    obtain ⟨f, rfl⟩ : ∃ f', f = f' + 1 := ⟨f - 1, by omega⟩
    have s1 : A 1 = g.1 := hp.1.2.1
    have hPP := hQ.1
    obtain ⟨p1, p2, p3, p4⟩ := hPP
    refine ⟨v, A, ?_, hp⟩
    simp (disch := first | omega | assumption) only [f_X13_readAnswer_L23, lit_I, tw_r1, Option.bind_some, tw_s, s1, I_le, if_pos]
  | succ k ih =>
    intro f row v A g t hr hf hp hn ht hQ hG
    obtain ⟨f, rfl⟩ : ∃ f', f = f' + 1 := ⟨f - 1, by omega⟩
    have s1 : A 1 = g.1 := hp.1.2.1
    have hs := TI_SB hp.1
    have hPP := hQ.1
    obtain ⟨p1, p2, p3, p4⟩ := hPP
    have hf2 := ht.f
    have esub : I t.2.2 - I t.2.1 = I (t.2.2 - t.2.1) := I_sub hf2.1
    obtain ⟨t1, t2, t3⟩ := hp.2.2.2
    -- after a failure the rows end
    have out : ∀ v' A' e row', PF v' A' g asd e → A' 1 0 = g.1 0 → f_X13_readAnswer_L23 (f) (some m) (I row') (TW m v' A' h) = some (TW m v' A' h) ∨ 1000 ≤ row' := fun v' A' e row' hF h0 => by
      by_cases hr' : 1000 ≤ row'
      · exact Or.inr hr'
      · left
        obtain ⟨f, rfl⟩ : ∃ f', f = f' + 1 := ⟨f - 1, by omega⟩
        by_cases c : g.1 0 ≤ row'
        · simp (disch := first | omega | assumption) only [f_X13_readAnswer_L23, lit_I, tw_r1, Option.bind_some, tw_s, h0, I_le, if_pos]
        · simp (disch := first | omega | assumption) only [f_X13_readAnswer_L23, lit_I, tw_r1, Option.bind_some, tw_s, h0, I_le, if_neg, tw_rcv, hF.well, if_true]
    simp only [pAns]
    by_cases c : t.1 = 2 ∧ t.2.2 - t.2.1 = g.1 1
    · rw [if_pos c]
      have hent : f_X13_readAnswer_L23 (f + 1) (some m) (I row) (TW m v A h) = f_X13_readAnswer_L72 (f_X13_readAnswer_L23 f) FU (some m) (I row) (I 0) (TW m v A h) := by
        rw [f_X13_readAnswer_L23]
        simp (disch := first | omega | assumption) only [lit_I, tw_r1, Option.bind_some, tw_s, s1, I_le, if_neg, tw_rcv, hp.well, I_10, if_false, tw_int (k := 20) rfl, tw_int (k := 21) rfl, tw_int (k := 22) rfl, t1, t2, t3, c.1, if_true, esub, c.2]
      rw [hent]
      have h72 := tw_an72 (m := m) (h := h) (r23 := f_X13_readAnswer_L23 f) (row := row) hp hn ht hQ hG (by omega) c.1 c.2
      cases hq : pRowA g.2.2.2 g.2.2.1 row t.2.1 g.1 (g.1 1) with
      | inl e =>
        rw [hq] at h72
        obtain ⟨v', A', d1, d2⟩ := h72
        obtain ⟨⟨s', z1, z2⟩, z3⟩ := d2
        -- the row's size hasn't changed: the failing state has it
        refine ⟨v', A', ?_, ⟨⟨s', z1, z2⟩, z3⟩⟩
        rw [d1]
        obtain ⟨f, rfl⟩ : ∃ f', f = f' + 1 := ⟨f - 1, by omega⟩
        have hw : f_X13_isWell (some m) (TW m v' A' h) = some (I 0, TW m v' A' h) := PF.well (g := g) (asd := asd) (e := e) ⟨⟨s', z1, z2⟩, z3⟩
        rw [f_X13_readAnswer_L23]
        simp (disch := omega) only [lit_I, tw_r1, Option.bind_some, tw_s, tw_rcv, hw, if_true]
        split <;> rfl
      | inr s' =>
        rw [hq] at h72
        simp only at h72
        obtain ⟨i1, i2, i3, i4⟩ := pRowA_Q hQ hG (by omega) (g.1 1) s' (Nat.le_refl _) hq
        have hp2 := hp.set (i4 hs)
        obtain ⟨v2, g1, g2⟩ := tw_go (m := m) (h := h) hp2 hn ht
        obtain ⟨v', A', d1, d2⟩ := ih f (row + 1) v2 _ (s', g.2) _ (by simp only; rw [i3 0 (by omega)]; omega) (by omega) g2 hn ht.on i1 i2
        refine ⟨v', A', ?_, d2.lift (fun j hj => i3 j (by omega))⟩
        rw [h72, ← d1]
        simp (disch := first | omega | assumption) only [f_X13_readAnswer_B149, lit_I, tw_rcv, Option.bind_some, hp2.well, I_10, if_false, g1, I_add]
    · rw [if_neg c]
      obtain ⟨f1, f2⟩ := tw_failT (m := m) (h := h) hp ht hn
      refine ⟨_, A, ?_, f2⟩
      have h66 : f_X13_readAnswer_L23 (f + 1) (some m) (I row) (TW m v A h) = f_X13_readAnswer_B66 (f_X13_readAnswer_L23 f) (some m) (I row) (TW m v A h) := by
        rw [f_X13_readAnswer_L23]
        by_cases c1 : t.1 = 2
        · have c2 : ¬ t.2.2 - t.2.1 = g.1 1 := fun q => c ⟨c1, q⟩
          simp (disch := first | omega | assumption) only [lit_I, tw_r1, Option.bind_some, tw_s, s1, I_le, if_neg, tw_rcv, hp.well, I_10, if_false, tw_int (k := 20) rfl, tw_int (k := 21) rfl, tw_int (k := 22) rfl, t1, t2, t3, c1, if_true, esub, I_eq, c2]
        · simp (disch := first | omega | assumption) only [lit_I, tw_r1, Option.bind_some, tw_s, s1, I_le, if_neg, tw_rcv, hp.well, I_10, if_false, tw_int (k := 20) rfl, t1, I_eq]
      rw [h66]
      obtain ⟨f0, hF⟩ : ∃ f, FU = f + 1 := ⟨999999, FU_eq⟩
      rcases out _ A _ (row + 1) f2 (by rw [s1]) with o | o
      · simp (disch := first | omega | assumption) only [f_X13_readAnswer_B66, tw_rcv, Option.bind_some, f1]
        rw [hF]
        simp (disch := first | omega | assumption) only [f_X13_readAnswer_L72, f_X13_readAnswer_B149, lit_I, tw_r1, tw_rcv, Option.bind_some, tw_s, s1, I_le, if_neg, f2.well, if_true, I_add, o]
      · omega
theorem tw_readAnswer (hp : PS v A g asd t) (hn : g.2.2.1 ≤ 140) (ht : Tok g.2.2.2 g.2.2.1 t) (hQ : QInv g.1) :
    ∃ v' A', f_X13_readAnswer (some m) (TW m v A h) = some (TW m v' A' h) ∧ PR v' A' g asd (pAnswer g.2.2.2 g.2.2.1 g.1 t) := by
  have s1 : A 1 = g.1 := hp.1.2.1
  have hs := TI_SB hp.1
  have hnc := nc_le hQ.1
  have hPP := hQ.1
  obtain ⟨p1, p2, p3, p4⟩ := hPP
  obtain ⟨i1, i2, i3, i4⟩ := sEA_Q hQ (nc g.1) (Nat.le_refl _)
  have en : nc (sEA g.1 (nc g.1)) = nc g.1 := nc_of (i2 0 (by omega)) (i2 1 (by omega))
  have hp2 := hp.set (i4 hs)
  obtain ⟨v', A', d1, d2⟩ := tw_an23 (m := m) (h := h) (asd := asd) (g.1 0) FU 0 v _ (sEA g.1 (nc g.1), g.2) t (by simp only; rw [i2 0 (by omega)]; omega) (by rw [FU_eq]; omega) hp2 hn ht i1 (fun c hc => i3 c (by rw [← en]; exact hc))
  refine ⟨v', A', ?_, d2.lift (fun j hj => i2 j (by omega))⟩
  have key := loop_FU (fun k (p : Nat × (Nat → Nat)) => f_X13_readAnswer_L2 k (some m) (I p.1) (TW m v (aset A 1 p.2) h)) (fun k => (k, sEA g.1 k)) (nc g.1) (f_X13_readAnswer_L23 FU (some m) (I 0) (TW m v (aset A 1 (sEA g.1 (nc g.1))) h)) (by omega) (fun k i hi => ?_) (fun k => ?_)
  · have e0 : aset A 1 (sEA g.1 0) = A := by show aset A 1 g.1 = A; rw [← s1]; exact aset_self
    simp only [e0] at key
    rw [← d1, ← key]
    simp (disch := first | omega | assumption) only [f_X13_readAnswer, lit_I]
  · obtain ⟨j1, j2, j3, j4⟩ := sEA_Q hQ i (by omega)
    have eni : nc (sEA g.1 i) = nc g.1 := nc_of (j2 0 (by omega)) (j2 1 (by omega))
    have hem := tw_empty (m := m) (v := v) (h := h) (A := aset A 1 (sEA g.1 i)) (c := i) (by rw [aset_eq, eni]; exact hi) (by rw [aset_eq]; exact j1.1)
    rw [aset_eq] at hem
    simp only [aset_aset] at hem
    simp (disch := first | omega | assumption) only [f_X13_readAnswer_L2, lit_I, tw_rcv, tw_cells, aset_eq, eni, Option.bind_some, I_le, if_neg, hem, I_add, sEA]
  · simp (disch := first | omega | assumption) only [f_X13_readAnswer_L2, lit_I, tw_rcv, tw_cells, aset_eq, en, Option.bind_some, I_le, if_pos]
end TW73
