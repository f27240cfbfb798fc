/-! PLAIN LAW: the text and its tokens, by the reference -/
set_option maxRecDepth 100000
/-- the character at a place; 0 behind the end -/
def atT (tx : Nat → Nat) (n i : Nat) : Nat := if i < n then tx i else 0
/-- the first place from p on -/
def runTo (P : Nat → Bool) (p n : Nat) : Nat := (firstFrom P (n + 1 - p) p).getD n
theorem runTo_spec {P : Nat → Bool} {p n : Nat} (hp : p ≤ n) (hn : P n = true) : p ≤ runTo P p n ∧ runTo P p n ≤ n ∧ P (runTo P p n) = true ∧ ∀ k, p ≤ k → k < runTo P p n → P k = false := by
  unfold runTo
  cases hf : firstFrom P (n + 1 - p) p with
  | none =>
    rw [firstFrom_none] at hf
    have := hf n hp (by omega)
    rw [hn] at this; cases this
  | some j =>
    rw [firstFrom_some] at hf
    obtain ⟨h1, h2, h3, h4⟩ := hf
    exact ⟨h1, by simp only [Option.getD_some]; omega, h3, h4⟩
def isLow (c : Nat) : Bool := decide (97 ≤ c) && decide (c ≤ 122)
def isDig (c : Nat) : Bool := decide (48 ≤ c) && decide (c ≤ 57)
/-- kind (0 end, 1 letters, 2 digits, 3 sign), from, till -/
abbrev TK3 : Type := Nat × Nat × Nat
def frT (tx : Nat → Nat) (n p : Nat) : Nat := runTo (fun q => !(atT tx n q == 32)) p n
def tokAt (tx : Nat → Nat) (n p : Nat) : TK3 :=
  if isLow (atT tx n (frT tx n p)) = true then (1, frT tx n p, runTo (fun q => !(isLow (atT tx n q))) (frT tx n p) n)
  else if isDig (atT tx n (frT tx n p)) = true then (2, frT tx n p, runTo (fun q => !(isDig (atT tx n q))) (frT tx n p) n)
  else if frT tx n p < n then (3, frT tx n p, frT tx n p + 1) else (0, frT tx n p, frT tx n p)
theorem atT_n {tx : Nat → Nat} {n : Nat} : atT tx n n = 0 := by unfold atT; rw [if_neg (by omega)]
theorem frT_spec {tx : Nat → Nat} {n p : Nat} (hp : p ≤ n) : p ≤ frT tx n p ∧ frT tx n p ≤ n ∧ atT tx n (frT tx n p) ≠ 32 ∧ ∀ k, p ≤ k → k < frT tx n p → atT tx n k = 32 := by
  unfold frT
  obtain ⟨h1, h2, h3, h4⟩ := runTo_spec (P := fun q => !(atT tx n q == 32)) hp (by simp [atT_n])
  exact ⟨h1, h2, by simpa using h3, fun k a b => by simpa using h4 k a b⟩
/-- a token goes on: its end lies in the text, and behind its beginning -/
theorem tok_spec {tx : Nat → Nat} {n p : Nat} (hp : p ≤ n) : p ≤ (tokAt tx n p).2.1 ∧ (tokAt tx n p).2.1 ≤ (tokAt tx n p).2.2 ∧ (tokAt tx n p).2.2 ≤ n ∧ ((tokAt tx n p).1 ≠ 0 → (tokAt tx n p).2.1 < (tokAt tx n p).2.2) ∧ (tokAt tx n p).1 ≤ 3 := by
  obtain ⟨h1, h2, h3, h4⟩ := frT_spec (tx := tx) hp
  have hlow : ∀ (C : Nat → Bool), C 0 = false → C (atT tx n (frT tx n p)) = true → frT tx n p < runTo (fun q => !(C (atT tx n q))) (frT tx n p) n ∧ runTo (fun q => !(C (atT tx n q))) (frT tx n p) n ≤ n := fun C h0 hc => by
    obtain ⟨g1, g2, g3, g4⟩ := runTo_spec (P := fun q => !(C (atT tx n q))) h2 (by simp [atT_n, h0])
    refine ⟨?_, g2⟩
    rcases Nat.lt_or_ge (frT tx n p) (runTo (fun q => !(C (atT tx n q))) (frT tx n p) n) with q | q
    · exact q
    · have e : runTo (fun q => !(C (atT tx n q))) (frT tx n p) n = frT tx n p := by omega
      rw [e] at g3
      simp [hc] at g3
  unfold tokAt
  split
  · rename_i q
    have := hlow isLow (by decide) q
    exact ⟨h1, by simp only; omega, this.2, fun _ => this.1, by simp⟩
  · split
    · rename_i q
      have := hlow isDig (by decide) q
      exact ⟨h1, by simp only; omega, this.2, fun _ => this.1, by simp⟩
    · split
      · exact ⟨h1, by simp only; omega, by simp only; omega, fun _ => by simp only; omega, by simp⟩
      · exact ⟨h1, Nat.le_refl _, h2, fun q => absurd rfl q, by simp⟩
/-- the numbers that reading changes -/
def VT (v v' : Nat → Int32) : Prop := ∀ k, k < 20 ∨ 23 ≤ k → v' k = v k
theorem VT.refl (v : Nat → Int32) : VT v v := fun _ _ => rfl
theorem VT.trans {v v' v'' : Nat → Int32} (h1 : VT v v') (h2 : VT v' v'') : VT v v'' := fun k a => (h2 k a).trans (h1 k a)
theorem vup_VT {v : Nat → Int32} {k : Nat} {x : Int32} (hk : 20 ≤ k ∧ k ≤ 22) : VT v (vup v k x) := fun j hj => vup_ne _ (by omega)
def TKv (v : Nat → Int32) (t : TK3) : Prop := v 20 = I t.1 ∧ v 21 = I t.2.1 ∧ v 22 = I t.2.2
section TW71
variable {m : Nat} {v : Nat → Int32} {A : Nat → Nat → Nat} {h : PH} {n : Nat}
theorem tw_r4' {j : Nat} (hj : j < 140) : ald 0 (some (m + 4)) (I j) (TW m v A h) = some (I (A 4 j)) := tw_ald (o := 4) (by decide) hj
theorem tw_at' {i : Nat} (hi : i < 2147483648) (h6 : v 6 = I n) (hn : n ≤ 140) : f_X13_at (some m) (I i) (TW m v A h) = some (I (atT (A 4) n i), TW m v A h) := by
  unfold atT
  by_cases q : i < n
  · rw [if_pos q]
    simp (disch := first | omega | assumption) only [f_X13_at, tw_int (k := 6) rfl, h6, Option.bind_some, I_le, if_neg, tw_r5, tw_r4']
  · rw [if_neg q]
    simp (disch := first | omega | assumption) only [f_X13_at, tw_int (k := 6) rfl, h6, Option.bind_some, I_le, if_pos, lit_I]
theorem atT_lt {tx : Nat → Nat} {i : Nat} (h : SB tx) : atT tx n i < 1000000 := by
  unfold atT; have := h i; split
  · exact this
  · decide
theorem low_in {c : Nat} (hc : c < 1000000) {g : PH} : f_X13_in (I c) (I 97) (I 122) g = some (I (bit (isLow c = true)), g) := by
  rw [inZ]; congr 3
  refine bit_congr ?_
  rw [bt_I (by omega) (by decide) (by decide)]
  rfl
theorem dig_in {c : Nat} (hc : c < 1000000) {g : PH} : f_X13_in (I c) (I 48) (I 57) g = some (I (bit (isDig c = true)), g) := by
  rw [inZ]; congr 3
  refine bit_congr ?_
  rw [bt_I (by omega) (by decide) (by decide)]
  rfl
theorem loop_from {α β : Type} (L : Nat → α → Option β) (st : Nat → α) (p n : Nat) (res : Option β) (hs : ∀ k i, p ≤ i → i < n → L (k + 1) (st i) = L k (st (i + 1))) (he : ∀ k, L (k + 1) (st n) = res) : ∀ k i, p ≤ i → i ≤ n → n - i < k → L k (st i) = res := by
  intro k
  induction k with
  | zero => intro i _ _ h; omega
  | succ k ih =>
    intro i hp hi hk
    by_cases e : i = n
    · subst e; exact he k
    · rw [hs k i hp (by omega)]
      exact ih (i + 1) (by omega) (by omega) (by omega)
theorem vup_id {k : Nat} {x : Int32} (hx : v k = x) : vup v k x = v := by
  funext j; unfold vup
  by_cases e : j = k
  · rw [if_pos e, e, hx]
  · rw [if_neg e]
theorem tw_go65 {p : Nat} (hp : p ≤ n) (h6 : v 6 = I n) (hn : n ≤ 140) (hA : SB (A 4)) (h22 : v 22 = I p) : f_X13_goOn_L65 FU (some m) (TW m v A h) = some (TW m (vup v 22 (I (runTo (fun q => !(isLow (atT (A 4) n q))) p n))) A h) := by
  obtain ⟨g1, g2, g3, g4⟩ := runTo_spec (P := fun q => !(isLow (atT (A 4) n q))) hp (by simp only [atT_n]; decide)
  have hx : isLow (atT (A 4) n (runTo (fun q => !(isLow (atT (A 4) n q))) p n)) = false := by simpa using g3
  generalize runTo (fun q => !(isLow (atT (A 4) n q))) p n = r at g1 g2 g4 hx ⊢
  have key := loop_from (fun k (q : Nat) => f_X13_goOn_L65 k (some m) (TW m (vup v 22 (I q)) A h)) (fun q => q) p r (some (TW m (vup v 22 (I r)) A h)) (fun k i hpi hi => ?_) (fun k => ?_) FU p (Nat.le_refl _) g1 (by rw [FU_eq]; omega)
  · simp only [vup_id h22] at key
    exact key
  · have hi' : isLow (atT (A 4) n i) = true := by simpa using g4 i hpi hi
    have hat := tw_at' (m := m) (v := vup v 22 (I i)) (A := A) (h := h) (n := n) (i := i) (by omega) (by rw [vup_ne _ (by decide)]; exact h6) hn
    have hl := low_in (c := atT (A 4) n i) (g := TW m (vup v 22 (I i)) A h) (atT_lt hA)
    simp (disch := first | omega | assumption) only [f_X13_goOn_L65, lit_I, tw_int (k := 22) rfl, vup_eq, tw_rcv, Option.bind_some, hat, hl, hi', bit_0, not_true_eq_false, if_false, I_add, tw_pf (k := 22) rfl, vup_vup]
  · have hat := tw_at' (m := m) (v := vup v 22 (I r)) (A := A) (h := h) (n := n) (i := r) (by omega) (by rw [vup_ne _ (by decide)]; exact h6) hn
    have hl := low_in (c := atT (A 4) n r) (g := TW m (vup v 22 (I r)) A h) (atT_lt hA)
    simp (disch := first | omega | assumption) only [f_X13_goOn_L65, lit_I, tw_int (k := 22) rfl, vup_eq, tw_rcv, Option.bind_some, hat, hl, hx, bit_0, Bool.false_eq_true, not_false_eq_true, if_true]
theorem tw_go119 {p : Nat} (hp : p ≤ n) (h6 : v 6 = I n) (hn : n ≤ 140) (hA : SB (A 4)) (h22 : v 22 = I p) : f_X13_goOn_L119 FU (some m) (TW m v A h) = some (TW m (vup v 22 (I (runTo (fun q => !(isDig (atT (A 4) n q))) p n))) A h) := by
  obtain ⟨g1, g2, g3, g4⟩ := runTo_spec (P := fun q => !(isDig (atT (A 4) n q))) hp (by simp only [atT_n]; decide)
  have hx : isDig (atT (A 4) n (runTo (fun q => !(isDig (atT (A 4) n q))) p n)) = false := by simpa using g3
  generalize runTo (fun q => !(isDig (atT (A 4) n q))) p n = r at g1 g2 g4 hx ⊢
  have key := loop_from (fun k (q : Nat) => f_X13_goOn_L119 k (some m) (TW m (vup v 22 (I q)) A h)) (fun q => q) p r (some (TW m (vup v 22 (I r)) A h)) (fun k i hpi hi => ?_) (fun k => ?_) FU p (Nat.le_refl _) g1 (by rw [FU_eq]; omega)
  · simp only [vup_id h22] at key
    exact key
  · have hi' : isDig (atT (A 4) n i) = true := by simpa using g4 i hpi hi
    have hat := tw_at' (m := m) (v := vup v 22 (I i)) (A := A) (h := h) (n := n) (i := i) (by omega) (by rw [vup_ne _ (by decide)]; exact h6) hn
    have hl := dig_in (c := atT (A 4) n i) (g := TW m (vup v 22 (I i)) A h) (atT_lt hA)
    simp (disch := first | omega | assumption) only [f_X13_goOn_L119, lit_I, tw_int (k := 22) rfl, vup_eq, tw_rcv, Option.bind_some, hat, hl, hi', bit_0, not_true_eq_false, if_false, I_add, tw_pf (k := 22) rfl, vup_vup]
  · have hat := tw_at' (m := m) (v := vup v 22 (I r)) (A := A) (h := h) (n := n) (i := r) (by omega) (by rw [vup_ne _ (by decide)]; exact h6) hn
    have hl := dig_in (c := atT (A 4) n r) (g := TW m (vup v 22 (I r)) A h) (atT_lt hA)
    simp (disch := first | omega | assumption) only [f_X13_goOn_L119, lit_I, tw_int (k := 22) rfl, vup_eq, tw_rcv, Option.bind_some, hat, hl, hx, bit_0, Bool.false_eq_true, not_false_eq_true, if_true]
/-- the next token -/
theorem tw_goOn {p : Nat} (hp : p ≤ n) (h6 : v 6 = I n) (hn : n ≤ 140) (hA : SB (A 4)) (h22 : v 22 = I p) : ∃ v', f_X13_goOn (some m) (TW m v A h) = some (TW m v' A h) ∧ VT v v' ∧ TKv v' (tokAt (A 4) n p) := by
  obtain ⟨g1, g2, g3, g4⟩ := frT_spec (tx := A 4) hp
  have e0 : f_X13_goOn (some m) (TW m v A h) = f_X13_goOn_L8 FU (some m) (TW m (vup v 21 (I p)) A h) := by
    simp (disch := first | omega | assumption) only [f_X13_goOn, tw_int (k := 22) rfl, h22, Option.bind_some, tw_pf (k := 21) rfl]
  rw [e0]
  generalize hq : frT (A 4) n p = q at g1 g2 g3 g4
  have hTq : tokAt (A 4) n p = (if isLow (atT (A 4) n q) = true then (1, q, runTo (fun r => !(isLow (atT (A 4) n r))) q n) else if isDig (atT (A 4) n q) = true then (2, q, runTo (fun r => !(isDig (atT (A 4) n r))) q n) else if q < n then (3, q, q + 1) else (0, q, q)) := by unfold tokAt; rw [hq]
  rw [hTq]
  have v6 : ∀ x, vup v 21 x 6 = I n := fun x => by rw [vup_ne _ (by decide)]; exact h6
  have v226 : vup (vup v 21 (I q)) 22 (I q) 6 = I n := by rw [vup_ne _ (by decide), vup_ne _ (by decide)]; exact h6
  have v2221 : vup (vup v 21 (I q)) 22 (I q) 21 = I q := by rw [vup_ne _ (by decide), vup_eq]
  have hvt : VT v (vup (vup v 21 (I q)) 22 (I q)) := VT.trans (vup_VT ⟨by omega, by omega⟩) (vup_VT ⟨by omega, by omega⟩)
  have hlt := atT_lt (n := n) (i := q) hA
  have hat2 := tw_at' (m := m) (v := vup (vup v 21 (I q)) 22 (I q)) (A := A) (h := h) (n := n) (i := q) (by omega) v226 hn
  have hl2 := low_in (c := atT (A 4) n q) (g := TW m (vup (vup v 21 (I q)) 22 (I q)) A h) hlt
  have hd2 := dig_in (c := atT (A 4) n q) (g := TW m (vup (vup v 21 (I q)) 22 (I q)) A h) hlt
  -- the walk over blanks, to a result of the part behind
  have blank : ∀ z, (∀ k, f_X13_goOn_L8 (k + 1) (some m) (TW m (vup v 21 (I q)) A h) = z) → f_X13_goOn_L8 FU (some m) (TW m (vup v 21 (I p)) A h) = z := fun z hz => by
    refine loop_from (fun k (i : Nat) => f_X13_goOn_L8 k (some m) (TW m (vup v 21 (I i)) A h)) (fun i => i) p q z (fun k i hpi hi => ?_) (fun k => hz k) FU p (Nat.le_refl _) g1 (by rw [FU_eq]; omega)
    have hat := tw_at' (m := m) (v := vup v 21 (I i)) (A := A) (h := h) (n := n) (i := i) (by omega) (v6 _) hn
    have := g4 i hpi hi
    simp (disch := first | omega | assumption) only [f_X13_goOn_L8, lit_I, tw_int (k := 21) rfl, vup_eq, tw_rcv, Option.bind_some, hat, this, if_true, I_add, tw_pf (k := 21) rfl, vup_vup]
  have hat1 := tw_at' (m := m) (v := vup v 21 (I q)) (A := A) (h := h) (n := n) (i := q) (by omega) (v6 _) hn
  by_cases c1 : isLow (atT (A 4) n q) = true
  · rw [if_pos c1]
    have h65 := tw_go65 (m := m) (v := vup (vup (vup v 21 (I q)) 22 (I q)) 20 (I 1)) (A := A) (h := h) (n := n) (p := q) g2 (by rw [vup_ne _ (by decide)]; exact v226) hn hA (by rw [vup_ne _ (by decide), vup_eq])
    refine ⟨_, blank _ (fun k => ?_), VT.trans hvt (VT.trans (vup_VT (k := 20) (x := I 1) ⟨by omega, by omega⟩) (vup_VT (k := 22) ⟨by omega, by omega⟩)), ?_, ?_, vup_eq _ _⟩
    · simp (disch := first | omega | assumption) only [f_X13_goOn_L8, lit_I, tw_int (k := 21) rfl, vup_eq, tw_rcv, Option.bind_some, hat1, I_eq, if_neg, tw_pf (k := 22) rfl, v2221, hat2, hl2, c1, bit_0, not_true_eq_false, if_false, tw_pf (k := 20) rfl]
      exact h65
    · rw [vup_ne _ (by decide), vup_eq]
    · rw [vup_ne _ (by decide), vup_ne _ (by decide), vup_ne _ (by decide), vup_eq]
  · rw [if_neg c1]
    have c1' : isLow (atT (A 4) n q) = false := Bool.eq_false_iff.mpr c1
    by_cases c2 : isDig (atT (A 4) n q) = true
    · rw [if_pos c2]
      have h119 := tw_go119 (m := m) (v := vup (vup (vup v 21 (I q)) 22 (I q)) 20 (I 2)) (A := A) (h := h) (n := n) (p := q) g2 (by rw [vup_ne _ (by decide)]; exact v226) hn hA (by rw [vup_ne _ (by decide), vup_eq])
      refine ⟨_, blank _ (fun k => ?_), VT.trans hvt (VT.trans (vup_VT (k := 20) (x := I 2) ⟨by omega, by omega⟩) (vup_VT (k := 22) ⟨by omega, by omega⟩)), ?_, ?_, vup_eq _ _⟩
      · simp (disch := first | omega | assumption) only [f_X13_goOn_L8, lit_I, tw_int (k := 21) rfl, vup_eq, tw_rcv, Option.bind_some, hat1, I_eq, if_neg, tw_pf (k := 22) rfl, v2221, hat2, hl2, hd2, c1', c2, bit_0, Bool.false_eq_true, not_false_eq_true, not_true_eq_false, if_true, if_false, tw_pf (k := 20) rfl]
        exact h119
      · rw [vup_ne _ (by decide), vup_eq]
      · rw [vup_ne _ (by decide), vup_ne _ (by decide), vup_ne _ (by decide), vup_eq]
    · rw [if_neg c2]
      have c2' : isDig (atT (A 4) n q) = false := Bool.eq_false_iff.mpr c2
      by_cases c3 : q < n
      · rw [if_pos c3]
        refine ⟨vup (vup (vup (vup v 21 (I q)) 22 (I q)) 20 (I 3)) 22 (I (q + 1)), blank _ (fun k => ?_), VT.trans hvt (VT.trans (vup_VT (k := 20) (x := I 3) ⟨by omega, by omega⟩) (vup_VT (k := 22) ⟨by omega, by omega⟩)), ?_, ?_, vup_eq _ _⟩
        · have a1 : vup (vup (vup v 21 (I q)) 22 (I q)) 20 (I 3) 22 = I q := by rw [vup_ne _ (by decide), vup_eq]
          have a2 : vup (vup (vup v 21 (I q)) 22 (I q)) 20 (I 3) 21 = I q := by rw [vup_ne _ (by decide)]; exact v2221
          have a3 : vup (vup (vup v 21 (I q)) 22 (I q)) 20 (I 3) 6 = I n := by rw [vup_ne _ (by decide)]; exact v226
          simp (disch := first | omega | assumption) only [f_X13_goOn_L8, f_X13_goOn_B167, f_X13_goOn_B191, lit_I, tw_int (k := 21) rfl, tw_int (k := 22) rfl, tw_int (k := 6) rfl, vup_eq, tw_rcv, Option.bind_some, hat1, I_eq, if_neg, tw_pf (k := 22) rfl, v2221, v226, hat2, hl2, hd2, c1', c2', bit_0, Bool.false_eq_true, not_false_eq_true, if_true, if_false, I_le, tw_pf (k := 20) rfl, a1, a2, a3, I_add]
        · rw [vup_ne _ (by decide), vup_eq]
        · rw [vup_ne _ (by decide), vup_ne _ (by decide), vup_ne _ (by decide), vup_eq]
      · rw [if_neg c3]
        refine ⟨vup (vup (vup (vup v 21 (I q)) 22 (I q)) 20 (I 0)) 22 (I q), blank _ (fun k => ?_), VT.trans hvt (VT.trans (vup_VT (k := 20) (x := I 0) ⟨by omega, by omega⟩) (vup_VT (k := 22) ⟨by omega, by omega⟩)), ?_, ?_, vup_eq _ _⟩
        · have a1 : vup (vup (vup v 21 (I q)) 22 (I q)) 20 (I 0) 22 = I q := by rw [vup_ne _ (by decide), vup_eq]
          have a2 : vup (vup (vup v 21 (I q)) 22 (I q)) 20 (I 0) 21 = I q := by rw [vup_ne _ (by decide)]; exact v2221
          have a3 : vup (vup (vup v 21 (I q)) 22 (I q)) 20 (I 0) 6 = I n := by rw [vup_ne _ (by decide)]; exact v226
          simp (disch := first | omega | assumption) only [f_X13_goOn_L8, f_X13_goOn_B167, f_X13_goOn_B191, lit_I, tw_int (k := 21) rfl, tw_int (k := 22) rfl, tw_int (k := 6) rfl, vup_eq, tw_rcv, Option.bind_some, hat1, I_eq, if_neg, if_pos, tw_pf (k := 22) rfl, v2221, v226, hat2, hl2, hd2, c1', c2', bit_0, Bool.false_eq_true, not_false_eq_true, if_true, if_false, I_le, tw_pf (k := 20) rfl, a1, a2, a3, I_add, Nat.add_zero]
        · rw [vup_ne _ (by decide), vup_eq]
        · rw [vup_ne _ (by decide), vup_ne _ (by decide), vup_ne _ (by decide), vup_eq]
/-! words, numbers, the end sign -/
def spl (k a b c d e f : Nat) : Nat := if k = 0 then a else if k = 1 then b else if k = 2 then c else if k = 3 then d else if k = 4 then e else if k = 5 then f else 0
def ltr (w k : Nat) : Nat := if w = 0 then spl k 112 97 103 101 0 0 else if w = 1 then spl k 97 110 115 119 101 114 else if w = 2 then spl k 103 105 118 101 0 0 else if w = 3 then spl k 115 117 109 115 0 0 else if w = 4 then spl k 114 117 108 101 115 0 else if w = 5 then spl k 99 111 115 116 115 0 else if w = 6 then spl k 110 111 110 101 0 0 else spl k 97 108 108 0 0 0
theorem tw_spelled {k a b c d e f : Nat} (hk : k < 1000000) : f_X13_spelled (I k) (I a) (I b) (I c) (I d) (I e) (I f) h = some (I (spl k a b c d e f), h) := by
  unfold f_X13_spelled spl
  simp (disch := omega) only [lit_I, I_eq]
  repeat' split
  all_goals rfl
theorem tw_letterOf {w k : Nat} (hw : w < 8) (hk : k < 1000000) : f_X13_letterOf (I w) (I k) h = some (I (ltr w k), h) := by
  unfold f_X13_letterOf ltr
  simp (disch := omega) only [lit_I, I_eq, tw_spelled, Option.bind_some]
  repeat' split
  all_goals rfl
theorem spl_lt {k a b c d e f B : Nat} (ha : a < B) (hb : b < B) (hc : c < B) (hd : d < B) (he : e < B) (hf : f < B) (h0 : 0 < B) : spl k a b c d e f < B := by
  unfold spl
  split
  · exact ha
  · split
    · exact hb
    · split
      · exact hc
      · split
        · exact hd
        · split
          · exact he
          · split
            · exact hf
            · exact h0
theorem ltr_lt (w k : Nat) : ltr w k < 1000 := by
  unfold ltr
  split
  · exact spl_lt (by decide) (by decide) (by decide) (by decide) (by decide) (by decide) (by decide)
  · split
    · exact spl_lt (by decide) (by decide) (by decide) (by decide) (by decide) (by decide) (by decide)
    · split
      · exact spl_lt (by decide) (by decide) (by decide) (by decide) (by decide) (by decide) (by decide)
      · split
        · exact spl_lt (by decide) (by decide) (by decide) (by decide) (by decide) (by decide) (by decide)
        · split
          · exact spl_lt (by decide) (by decide) (by decide) (by decide) (by decide) (by decide) (by decide)
          · split
            · exact spl_lt (by decide) (by decide) (by decide) (by decide) (by decide) (by decide) (by decide)
            · split
              · exact spl_lt (by decide) (by decide) (by decide) (by decide) (by decide) (by decide) (by decide)
              · exact spl_lt (by decide) (by decide) (by decide) (by decide) (by decide) (by decide) (by decide)
/-- the token is the word w -/
def isW (tx : Nat → Nat) (n : Nat) (t : TK3) (w : Nat) : Bool := t.1 == 1 && allB (fun k => ltr w k == (if k < t.2.2 - t.2.1 then atT tx n (t.2.1 + k) else 0)) (t.2.2 - t.2.1 + 1)
theorem tw_isWord {t : TK3} {w : Nat} (hw : w < 8) (ht : TKv v t) (h1 : t.1 < 1000) (h2 : t.2.1 ≤ t.2.2) (h3 : t.2.2 ≤ n) (h6 : v 6 = I n) (hn : n ≤ 140) (hA : SB (A 4)) : f_X13_isWord (some m) (I w) (TW m v A h) = some (I (bit (isW (A 4) n t w = true)), TW m v A h) := by
  obtain ⟨t1, t2, t3⟩ := ht
  have esub : I t.2.2 - I t.2.1 = I (t.2.2 - t.2.1) := I_sub h2
  by_cases q : t.1 = 1
  · -- the comparison stops at the first difference
    have key : ∀ (d i k : Nat), i + d = t.2.2 - t.2.1 + 1 → d < k → allB (fun k => ltr w k == (if k < t.2.2 - t.2.1 then atT (A 4) n (t.2.1 + k) else 0)) i = true → f_X13_isWord_L16 k (some m) (I w) (I 1) (I i) (TW m v A h) = some (I (bit (isW (A 4) n t w = true)), TW m v A h) := by
      intro d
      induction d with
      | zero =>
        intro i k hi hk hall
        obtain ⟨k, rfl⟩ : ∃ k', k = k' + 1 := ⟨k - 1, by omega⟩
        have e : i = t.2.2 - t.2.1 + 1 := by omega
        subst e
        have ew : isW (A 4) n t w = true := by unfold isW; rw [hall, q]; rfl
        simp (disch := first | omega | assumption) only [f_X13_isWord_L16, tw_int (k := 21) rfl, tw_int (k := 22) rfl, t2, t3, Option.bind_some, esub, I_lt, if_pos, gb_1, ew, bit_T]
      | succ d ih =>
        intro i k hi hk hall
        obtain ⟨k, rfl⟩ : ∃ k', k = k' + 1 := ⟨k - 1, by omega⟩
        have hlt := ltr_lt w i
        have hat := tw_at' (m := m) (v := v) (A := A) (h := h) (n := n) (i := t.2.1 + i) (by omega) h6 hn
        have hatl := atT_lt (n := n) (i := t.2.1 + i) hA
        have hstep : f_X13_isWord_L16 (k + 1) (some m) (I w) (I 1) (I i) (TW m v A h) = f_X13_isWord_L16 k (some m) (I w) (I (bit ((ltr w i == (if i < t.2.2 - t.2.1 then atT (A 4) n (t.2.1 + i) else 0)) = true))) (I (i + 1)) (TW m v A h) := by
          by_cases c : i < t.2.2 - t.2.1
          · rw [if_pos c]
            by_cases c2 : ltr w i = atT (A 4) n (t.2.1 + i)
            · simp (disch := first | omega | assumption) only [f_X13_isWord_L16, f_X13_isWord_B65, lit_I, tw_int (k := 21) rfl, tw_int (k := 22) rfl, t2, t3, Option.bind_some, esub, I_lt, I_le, if_neg, I_10, if_false, tw_letterOf, tw_rcv, I_add, hat, c2, if_true, beq_self_eq_true, bit_T]
            · have : (ltr w i == atT (A 4) n (t.2.1 + i)) = false := by simp [c2]
              simp (disch := first | omega | assumption) only [f_X13_isWord_L16, f_X13_isWord_B65, lit_I, tw_int (k := 21) rfl, tw_int (k := 22) rfl, t2, t3, Option.bind_some, esub, I_lt, I_le, I_eq, if_neg, tw_letterOf, tw_rcv, I_add, hat, this, bit_F]
          · rw [if_neg c]
            by_cases c2 : ltr w i = 0
            · simp (disch := first | omega | assumption) only [f_X13_isWord_L16, f_X13_isWord_B65, lit_I, tw_int (k := 21) rfl, tw_int (k := 22) rfl, t2, t3, Option.bind_some, esub, I_lt, I_le, if_neg, if_pos, I_10, if_false, tw_letterOf, tw_rcv, I_add, c2, if_true, beq_self_eq_true, bit_T]
            · have : (ltr w i == 0) = false := by simp [c2]
              simp (disch := first | omega | assumption) only [f_X13_isWord_L16, f_X13_isWord_B65, lit_I, tw_int (k := 21) rfl, tw_int (k := 22) rfl, t2, t3, Option.bind_some, esub, I_lt, I_le, I_eq, if_neg, if_pos, tw_letterOf, tw_rcv, I_add, this, bit_F]
        rw [hstep]
        cases hc : (ltr w i == (if i < t.2.2 - t.2.1 then atT (A 4) n (t.2.1 + i) else 0)) with
        | true =>
          rw [show bit (true = true) = 1 from rfl]
          exact ih (i + 1) k (by omega) (by omega) (by simp only [allB, hall, hc, Bool.and_self])
        | false =>
          have ew : isW (A 4) n t w = false := by
            refine Bool.eq_false_iff.mpr (fun z => ?_)
            unfold isW at z
            rw [Bool.and_eq_true, allB_iff] at z
            have := z.2 i (by omega)
            rw [hc] at this; cases this
          obtain ⟨k, rfl⟩ : ∃ k', k = k' + 1 := ⟨k - 1, by omega⟩
          rw [bit_F, ew, bit_F]
          by_cases c : t.2.2 - t.2.1 < i + 1
          · simp (disch := first | omega | assumption) only [f_X13_isWord_L16, lit_I, tw_int (k := 21) rfl, tw_int (k := 22) rfl, t2, t3, Option.bind_some, esub, I_lt, if_pos, gb_0]
          · simp (disch := first | omega | assumption) only [f_X13_isWord_L16, lit_I, tw_int (k := 21) rfl, tw_int (k := 22) rfl, t2, t3, Option.bind_some, esub, I_lt, if_neg, if_true, gb_0]
    have := key (t.2.2 - t.2.1 + 1) 0 FU (by omega) (by rw [FU_eq]; omega) rfl
    simp (disch := first | omega | assumption) only [f_X13_isWord, lit_I, tw_int (k := 20) rfl, t1, q, Option.bind_some, if_true]
    exact this
  · have ew : isW (A 4) n t w = false := by unfold isW; simp [q]
    obtain ⟨f0, hF⟩ : ∃ f, FU = f + 1 := ⟨999999, FU_eq⟩
    simp (disch := first | omega | assumption) only [f_X13_isWord, lit_I, tw_int (k := 20) rfl, t1, Option.bind_some, I_eq, if_neg]
    rw [hF, ew, bit_F]
    simp (disch := first | omega | assumption) only [f_X13_isWord_L16, lit_I, tw_int (k := 21) rfl, tw_int (k := 22) rfl, t2, t3, Option.bind_some, esub, I_lt, if_neg, if_true, gb_0]
def isSt (tx : Nat → Nat) (n : Nat) (t : TK3) : Bool := t.1 == 3 && atT tx n t.2.1 == 59
theorem tw_isStop {t : TK3} (ht : TKv v t) (h1 : t.1 < 1000) (h3 : t.2.1 ≤ n) (h6 : v 6 = I n) (hn : n ≤ 140) (hA : SB (A 4)) : f_X13_isStop (some m) (TW m v A h) = some (I (bit (isSt (A 4) n t = true)), TW m v A h) := by
  obtain ⟨t1, t2, t3⟩ := ht
  have hat := tw_at' (m := m) (v := v) (A := A) (h := h) (n := n) (i := t.2.1) (by omega) h6 hn
  have hatl := atT_lt (n := n) (i := t.2.1) hA
  by_cases q : t.1 = 3
  · by_cases q2 : atT (A 4) n t.2.1 = 59
    · simp (disch := first | omega | assumption) only [f_X13_isStop, lit_I, tw_int (k := 20) rfl, tw_int (k := 21) rfl, t1, t2, q, Option.bind_some, if_true, tw_rcv, hat, q2, isSt, beq_self_eq_true, Bool.and_self, bit_T]
    · have : (atT (A 4) n t.2.1 == 59) = false := by simp [q2]
      simp (disch := first | omega | assumption) only [f_X13_isStop, lit_I, tw_int (k := 20) rfl, tw_int (k := 21) rfl, t1, t2, q, Option.bind_some, if_true, tw_rcv, hat, I_eq, if_neg, isSt, this, Bool.and_false, bit_F]
  · have : (t.1 == 3) = false := by simp [q]
    simp (disch := first | omega | assumption) only [f_X13_isStop, lit_I, tw_int (k := 20) rfl, t1, Option.bind_some, I_eq, if_neg, isSt, this, Bool.false_and, bit_F]
theorem tw_wellT (h23 : v 23 = -1) : f_X13_isWell (some m) (TW m v A h) = some (I 1, TW m v A h) := by
  simp only [f_X13_isWell, tw_int (k := 23) rfl, h23, Option.bind_some]
  rfl
theorem tw_wellF {e : Nat} (he : e < 2147483648) (h23 : v 23 = I e) : f_X13_isWell (some m) (TW m v A h) = some (I 0, TW m v A h) := by
  simp (disch := first | omega | assumption) only [f_X13_isWell, lit_I, tw_int (k := 23) rfl, h23, Option.bind_some, I_le, if_pos]
theorem tw_fail (h23 : v 23 = -1) : f_X13_fail (some m) (TW m v A h) = some (TW m (vup v 23 (v 21)) A h) := by
  simp only [f_X13_fail, f_X13_fail_B19, tw_int (k := 23) rfl, tw_int (k := 21) rfl, h23, Option.bind_some, tw_pf (k := 23) rfl]
  rfl
/-- the number that the token spells, at most 1000 -/
def numV (tx : Nat → Nat) (n f : Nat) : Nat → Nat
  | 0 => 0
  | k + 1 => min 1000 (10 * numV tx n f k + (atT tx n (f + k) - 48))
def numH (tx : Nat → Nat) (n : Nat) (t : TK3) (a b : Nat) : Option Nat :=
  if (t.1 == 2 && (t.2.2 - t.2.1 == 1 || !(atT tx n t.2.1 == 48)) && decide (a ≤ numV tx n t.2.1 (t.2.2 - t.2.1)) && decide (numV tx n t.2.1 (t.2.2 - t.2.1) ≤ b)) = true then some (numV tx n t.2.1 (t.2.2 - t.2.1)) else none
theorem numV_le {tx : Nat → Nat} {n f : Nat} : ∀ k, numV tx n f k ≤ 1000 := by
  intro k; cases k with
  | zero => exact Nat.zero_le _
  | succ k => simp only [numV]; omega
theorem tok_dig {tx : Nat → Nat} {n p : Nat} (hp : p ≤ n) (h2 : (tokAt tx n p).1 = 2) : ∀ k, (tokAt tx n p).2.1 ≤ k → k < (tokAt tx n p).2.2 → isDig (atT tx n k) = true := by
  obtain ⟨f1, f2, f3, f4⟩ := frT_spec (tx := tx) hp
  unfold tokAt at h2 ⊢
  split
  · rename_i q; rw [if_pos q] at h2; cases h2
  · rename_i q
    rw [if_neg q] at h2
    split
    · rename_i q2
      obtain ⟨g1, g2, g3, g4⟩ := runTo_spec (P := fun r => !(isDig (atT tx n r))) f2 (by simp only [atT_n]; decide)
      intro k k1 k2
      simpa using g4 k k1 k2
    · rename_i q2
      rw [if_neg q2] at h2
      split at h2 <;> cases h2
theorem tw_numberHere {t : TK3} {a b : Nat} (ht : TKv v t) (h1 : t.1 < 1000) (h2 : t.2.1 ≤ t.2.2) (h3 : t.2.2 ≤ n) (hd : t.1 = 2 → t.2.1 < t.2.2 ∧ ∀ k, t.2.1 ≤ k → k < t.2.2 → isDig (atT (A 4) n k) = true) (ha : a < 1000) (hb : b < 1000) (h6 : v 6 = I n) (hn : n ≤ 140) (hA : SB (A 4)) : f_X13_numberHere (some m) (I a) (I b) (TW m v A h) = some ((match numH (A 4) n t a b with | some x => I x | none => -1), TW m v A h) := by
  obtain ⟨t1, t2, t3⟩ := ht
  have esub : I t.2.2 - I t.2.1 = I (t.2.2 - t.2.1) := I_sub h2
  have hat : ∀ i, i < 1000 → f_X13_at (some m) (I i) (TW m v A h) = some (I (atT (A 4) n i), TW m v A h) := fun i hi => tw_at' (by omega) h6 hn
  by_cases q : t.1 = 2
  · obtain ⟨d1, d2⟩ := hd q
    have key := loop_FU (fun k (p : Nat × Nat) => f_X13_numberHere_L8 k (some m) (I a) (I b) (I p.1) (I (t.2.1 + p.2)) (TW m v A h)) (fun i => (numV (A 4) n t.2.1 i, i)) (t.2.2 - t.2.1) (f_X13_numberHere_B52 (some m) (I a) (I b) (I (numV (A 4) n t.2.1 (t.2.2 - t.2.1))) (TW m v A h)) (by omega) (fun k i hi => ?_) (fun k => ?_)
    · have hv := numV_le (tx := A 4) (n := n) (f := t.2.1) (t.2.2 - t.2.1)
      have hc1 := d2 t.2.1 (Nat.le_refl _) d1
      have hatl := atT_lt (n := n) (i := t.2.1) hA
      have e52 : f_X13_numberHere (some m) (I a) (I b) (TW m v A h) = f_X13_numberHere_B52 (some m) (I a) (I b) (I (numV (A 4) n t.2.1 (t.2.2 - t.2.1))) (TW m v A h) := by
        rw [← key]
        simp (disch := first | omega | assumption) only [f_X13_numberHere, lit_I, tw_int (k := 21) rfl, t2, Option.bind_some, numV, Nat.add_zero]
      rw [e52]
      unfold numH
      generalize numV (A 4) n t.2.1 (t.2.2 - t.2.1) = x at hv ⊢
      have hin : f_X13_in (I x) (I a) (I b) (TW m v A h) = some (I (bit ((decide (a ≤ x) && decide (x ≤ b)) = true)), TW m v A h) := by
        rw [inZ, bt_I (by omega) (by omega) (by omega)]
      have e86 : f_X13_numberHere_B86 (I a) (I b) (I x) (TW m v A h) = some ((match (if (decide (a ≤ x) && decide (x ≤ b)) = true then some x else none) with | some x => I x | none => -1), TW m v A h) := by
        cases hc : (decide (a ≤ x) && decide (x ≤ b)) with
        | true => simp (disch := first | omega | assumption) only [f_X13_numberHere_B86, f_X13_numberHere_B100, lit_I, hin, hc, Option.bind_some, bit_0, not_true_eq_false, if_false, I_10, if_true]
        | false => simp (disch := first | omega | assumption) only [f_X13_numberHere_B86, f_X13_numberHere_B100, lit_I, hin, hc, Option.bind_some, bit_0, Bool.false_eq_true, not_false_eq_true, if_true, if_false]
      by_cases c : t.2.2 - t.2.1 = 1
      · have e1 : (t.2.2 - t.2.1 == 1) = true := by simp [c]
        have e2 : (t.1 == 2 && (t.2.2 - t.2.1 == 1 || !(atT (A 4) n t.2.1 == 48)) && decide (a ≤ x) && decide (x ≤ b)) = (decide (a ≤ x) && decide (x ≤ b)) := by rw [e1, q]; rfl
        rw [e2]
        simp (disch := first | omega | assumption) only [f_X13_numberHere_B52, lit_I, tw_int (k := 20) rfl, tw_int (k := 21) rfl, tw_int (k := 22) rfl, t1, t2, t3, q, Option.bind_some, if_true, esub, c, e86]
      · by_cases c2 : atT (A 4) n t.2.1 = 48
        · have e2 : (t.1 == 2 && (t.2.2 - t.2.1 == 1 || !(atT (A 4) n t.2.1 == 48)) && decide (a ≤ x) && decide (x ≤ b)) = false := by simp [c, c2]
          rw [e2]
          simp (disch := first | omega | assumption) only [f_X13_numberHere_B52, f_X13_numberHere_B100, lit_I, tw_int (k := 20) rfl, tw_int (k := 21) rfl, tw_int (k := 22) rfl, t1, t2, t3, q, Option.bind_some, if_true, esub, I_eq, if_neg, tw_rcv, hat, c2, Bool.false_eq_true, if_false]
        · have e2 : (t.1 == 2 && (t.2.2 - t.2.1 == 1 || !(atT (A 4) n t.2.1 == 48)) && decide (a ≤ x) && decide (x ≤ b)) = (decide (a ≤ x) && decide (x ≤ b)) := by
            have : (atT (A 4) n t.2.1 == 48) = false := by simp [c2]
            rw [this, q]; simp
          rw [e2]
          simp (disch := first | omega | assumption) only [f_X13_numberHere_B52, lit_I, tw_int (k := 20) rfl, tw_int (k := 21) rfl, tw_int (k := 22) rfl, t1, t2, t3, q, Option.bind_some, if_true, esub, I_eq, if_neg, tw_rcv, hat, e86]
    · have hv := numV_le (tx := A 4) (n := n) (f := t.2.1) i
      have hdi := d2 (t.2.1 + i) (by omega) (by omega)
      have hatl := atT_lt (n := n) (i := t.2.1 + i) hA
      have h48 : 48 ≤ atT (A 4) n (t.2.1 + i) := by unfold isDig at hdi; simp at hdi; exact hdi.1
      have e1 : I (10 * numV (A 4) n t.2.1 i + atT (A 4) n (t.2.1 + i)) - I 48 = I (10 * numV (A 4) n t.2.1 i + (atT (A 4) n (t.2.1 + i) - 48)) := by rw [I_sub (by omega)]; congr 1; omega
      simp (disch := first | omega | assumption) only [f_X13_numberHere_L8, lit_I, tw_int (k := 22) rfl, tw_int (k := 20) rfl, t3, t1, q, Option.bind_some, I_le, if_neg, if_true, tw_rcv, hat, I_mul, I_add, e1, tw_less, numV, Nat.add_assoc]
    · have e : t.2.1 + (t.2.2 - t.2.1) = t.2.2 := by omega
      simp (disch := first | omega | assumption) only [f_X13_numberHere_L8, lit_I, e, tw_int (k := 22) rfl, t3, Option.bind_some, I_le, if_pos]
  · have e2 : numH (A 4) n t a b = none := by unfold numH; rw [if_neg]; simp [q]
    obtain ⟨f0, hF⟩ : ∃ f, FU = f + 1 := ⟨999999, FU_eq⟩
    rw [e2]
    simp (disch := first | omega | assumption) only [f_X13_numberHere, lit_I, tw_int (k := 21) rfl, t2, Option.bind_some]
    rw [hF]
    by_cases c : t.2.2 ≤ t.2.1
    · simp (disch := first | omega | assumption) only [f_X13_numberHere_L8, f_X13_numberHere_B52, f_X13_numberHere_B100, lit_I, tw_int (k := 22) rfl, tw_int (k := 20) rfl, t1, t3, Option.bind_some, I_le, I_eq, if_pos, if_neg, if_true]
    · simp (disch := first | omega | assumption) only [f_X13_numberHere_L8, f_X13_numberHere_B52, f_X13_numberHere_B100, lit_I, tw_int (k := 22) rfl, tw_int (k := 20) rfl, t1, t3, Option.bind_some, I_le, I_eq, if_pos, if_neg, if_true]
end TW71
