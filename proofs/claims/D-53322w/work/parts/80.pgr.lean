/-! PLAIN LAW: the class: reads of a page -/
set_option maxRecDepth 100000
/-- the cells of a block, those below n -/
def blTo (s : Nat → Nat) (b : Nat) : Nat → List Nat
  | 0 => []
  | n + 1 => if s (8 + n) = b then blTo s b n ++ [n] else blTo s b n
def bl (s : Nat → Nat) (b : Nat) : List Nat := blTo s b (nc s)
theorem blTo_len (s : Nat → Nat) (b : Nat) : ∀ n, (blTo s b n).length = sumTo (fun c => if s (8 + c) = b then 1 else 0) n := by
  intro n
  induction n with
  | zero => rfl
  | succ n ih => simp only [blTo, sumTo]; split <;> simp [ih]
theorem bl_len (s : Nat → Nat) (b : Nat) : (bl s b).length = bsz s b := blTo_len s b (nc s)
theorem blTo_mem {s : Nat → Nat} {b : Nat} : ∀ n x, x ∈ blTo s b n ↔ (x < n ∧ s (8 + x) = b) := by
  intro n
  induction n with
  | zero => intro x; simp [blTo]
  | succ n ih =>
    intro x
    simp only [blTo]
    split
    · rename_i h
      rw [List.mem_append, List.mem_singleton, ih]
      constructor
      · rintro (⟨h1, h2⟩ | rfl)
        · exact ⟨by omega, h2⟩
        · exact ⟨by omega, h⟩
      · rintro ⟨h1, h2⟩
        by_cases e : x = n
        · exact Or.inr e
        · exact Or.inl ⟨by omega, h2⟩
    · rename_i h
      rw [ih]
      constructor
      · rintro ⟨h1, h2⟩; exact ⟨by omega, h2⟩
      · rintro ⟨h1, h2⟩
        refine ⟨?_, h2⟩
        by_cases e : x = n
        · subst e; exact absurd h2 h
        · omega
theorem bl_mem {s : Nat → Nat} {b x : Nat} : x ∈ bl s b ↔ (x < nc s ∧ s (8 + x) = b) := blTo_mem _ _
/-- over a block's cells, as over all cells of the page -/
def lAny (P : Nat → Bool) : List Nat → Bool
  | [] => false
  | x :: l => P x || lAny P l
theorem any_bl {s : Nat → Nat} {b : Nat} {P : Nat → Bool} : (bl s b).any P = anyB (fun c => s (8 + c) == b && P c) (nc s) := by
  refine Bool.eq_iff_iff.mpr ?_
  rw [List.any_eq_true, anyB_iff]
  constructor
  · rintro ⟨x, hx, hp⟩
    obtain ⟨h1, h2⟩ := bl_mem.mp hx
    exact ⟨x, h1, by simp [h2, hp]⟩
  · rintro ⟨c, hc, hp⟩
    simp only [Bool.and_eq_true, beq_iff_eq] at hp
    exact ⟨c, bl_mem.mpr ⟨hc, hp.1⟩, hp.2⟩
/-- what can be read of a page: the row s; mm its members, ms the members of each block -/
def PgR (h : PH) (p mm : Nat) (ms : Nat → Nat) (s : Nat → Nat) : Prop :=
  (rcv 3 (some p) h = some () ∧ gfi 3 0 (some p) h = some (I (s 0)) ∧ gfi 3 1 (some p) h = some (I (s 1))) ∧
  (gfr 3 2 (some p) h = some (some (p + 1)) ∧ gfr 3 3 (some p) h = some (some (p + 2)) ∧ gfr 3 4 (some p) h = some (some (p + 3)) ∧ gfr 3 5 (some p) h = some (some (p + 4)) ∧ gfr 3 6 (some p) h = some (some mm)) ∧
  (∀ c, c < nc s → ald 0 (some (p + 1)) (I c) h = some (I (s (8 + c))) ∧ ald 0 (some (p + 2)) (I c) h = some (I (s (33 + c))) ∧ ald 1 (some (p + 3)) (I c) h = some (I (s (58 + c)))) ∧
  (∀ i, i < s 0 + s 1 → ald 1 (some (p + 4)) (I i) h = some (I (s (83 + i)))) ∧
  aln 3 (some mm) h = some (I (rkTo s (nc s))) ∧
  (∀ b, b < rkTo s (nc s) → alr 3 (some mm) (I b) h = some (some (ms b)) ∧ aln 0 (some (ms b)) h = some (I (bsz s b)) ∧ ∀ k x, (bl s b)[k]? = some x → ald 0 (some (ms b)) (I k) h = some (I x))
section PGR
variable {h : PH} {p mm : Nat} {ms : Nat → Nat} {s : Nat → Nat}
theorem PgR.rc (H : PgR h p mm ms s) : rcv 3 (some p) h = some () := H.1.1
theorem PgR.r0 (H : PgR h p mm ms s) : gfi 3 0 (some p) h = some (I (s 0)) := H.1.2.1
theorem PgR.r1 (H : PgR h p mm ms s) : gfi 3 1 (some p) h = some (I (s 1)) := H.1.2.2
theorem PgR.r2 (H : PgR h p mm ms s) : gfr 3 2 (some p) h = some (some (p + 1)) := H.2.1.1
theorem PgR.r3 (H : PgR h p mm ms s) : gfr 3 3 (some p) h = some (some (p + 2)) := H.2.1.2.1
theorem PgR.r4 (H : PgR h p mm ms s) : gfr 3 4 (some p) h = some (some (p + 3)) := H.2.1.2.2.1
theorem PgR.r5 (H : PgR h p mm ms s) : gfr 3 5 (some p) h = some (some (p + 4)) := H.2.1.2.2.2.1
theorem PgR.r6 (H : PgR h p mm ms s) : gfr 3 6 (some p) h = some (some mm) := H.2.1.2.2.2.2
theorem PgR.b (H : PgR h p mm ms s) {c : Nat} (hc : c < nc s) : ald 0 (some (p + 1)) (I c) h = some (I (s (8 + c))) := (H.2.2.1 c hc).1
theorem PgR.n (H : PgR h p mm ms s) {c : Nat} (hc : c < nc s) : ald 0 (some (p + 2)) (I c) h = some (I (s (33 + c))) := (H.2.2.1 c hc).2.1
theorem PgR.g (H : PgR h p mm ms s) {c : Nat} (hc : c < nc s) : ald 1 (some (p + 3)) (I c) h = some (I (s (58 + c))) := (H.2.2.1 c hc).2.2
theorem PgR.sh (H : PgR h p mm ms s) {i : Nat} (hi : i < s 0 + s 1) : ald 1 (some (p + 4)) (I i) h = some (I (s (83 + i))) := H.2.2.2.1 i hi
theorem PgR.ml (H : PgR h p mm ms s) : aln 3 (some mm) h = some (I (rkTo s (nc s))) := H.2.2.2.2.1
theorem PgR.mr (H : PgR h p mm ms s) {b : Nat} (hb : b < rkTo s (nc s)) : alr 3 (some mm) (I b) h = some (some (ms b)) := (H.2.2.2.2.2 b hb).1
theorem PgR.bl (H : PgR h p mm ms s) {b : Nat} (hb : b < rkTo s (nc s)) : aln 0 (some (ms b)) h = some (I (bsz s b)) := (H.2.2.2.2.2 b hb).2.1
theorem PgR.be (H : PgR h p mm ms s) {b k x : Nat} (hb : b < rkTo s (nc s)) (hx : (blTo s b (nc s))[k]? = some x) : ald 0 (some (ms b)) (I k) h = some (I x) := (H.2.2.2.2.2 b hb).2.2 k x hx
end PGR
/-! the class's functions of numbers -/
theorem betZ {x : Int32} {a b : Nat} {g : PH} : f_X0_isBetween x (I a) (I b) g = some (I (bit (bt x a b = true)), g) := by
  have := inZ (x := x) (a := a) (b := b) (g := g)
  simp only [f_X13_in] at this
  simp only [f_X0_isBetween]
  exact this
theorem cl_has {a k : Nat} {g : PH} (ha : a < 2147483648) (hk : k < 32) : f_X0_has (I a) (I k) g = some (I (bit (a.testBit k = true)), g) := by
  have := tw_has (h := g) ha hk
  simp only [f_X13_has] at this
  simp only [f_X0_has]
  exact this
theorem iabs_sub {a b : Nat} (ha : a < 1000000) (hb : b < 1000000) : iabs (I a - I b) = I (if b ≤ a then a - b else b - a) := by
  have e : (I a - I b).toInt = a - b := by
    rw [Int32.toInt_sub, I_toInt (show a < 2147483648 by omega), I_toInt (show b < 2147483648 by omega), Int.bmod_eq_of_le (by omega) (by omega)]
  have h0 : (0 : Int32).toInt = 0 := rfl
  unfold iabs
  by_cases c : b ≤ a
  · rw [if_pos (by rw [Int32.le_iff_toInt_le, e, h0]; omega), if_pos c, I_sub c]
  · rw [if_neg (by rw [Int32.le_iff_toInt_le, e, h0]; omega), if_neg c]
    have e2 : (0 : Int32) - (I a - I b) = I b - I a := by
      apply Int32.toInt_inj.mp
      rw [Int32.toInt_sub, e, h0, Int32.toInt_sub, I_toInt (show a < 2147483648 by omega), I_toInt (show b < 2147483648 by omega)]
      congr 1; omega
    rw [e2, I_sub (by omega)]
theorem adj_abs : ∀ C, C < 6 → 2 ≤ C → ∀ a, a < 25 → ∀ b, b < 25 → decide ((if b / C ≤ a / C then a / C - b / C else b / C - a / C) + (if b % C ≤ a % C then a % C - b % C else b % C - a % C) = 1) = adjb C a b := by decide +kernel
section PGF
variable {h : PH} {p mm : Nat} {ms : Nat → Nat} {s : Nat → Nat}
theorem cp_cells (H : PgR h p mm ms s) : f_X3_cells (some p) h = some (I (nc s), h) := by
  simp only [f_X3_cells, H.r0, H.r1, Option.bind_some, I_mul]; rfl
theorem cp_lines (H : PgR h p mm ms s) : f_X3_lines (some p) h = some (I (s 0 + s 1), h) := by
  simp only [f_X3_lines, H.r0, H.r1, Option.bind_some, I_add]
theorem cp_blocks (H : PgR h p mm ms s) : f_X3_blocks (some p) h = some (I (rkTo s (nc s)), h) := by
  simp only [f_X3_blocks, H.r6, H.ml, Option.bind_some]
theorem cp_isCell {x : Int32} (H : PgR h p mm ms s) (hP : PG' s) : f_X3_isCell (some p) x h = some (I (bit (bt x 0 (nc s - 1) = true)), h) := by
  have hn := nc_le hP
  simp (disch := omega) only [f_X3_isCell, H.rc, cp_cells H, Option.bind_some, lit_I, I_sub, betZ, gb_bit]
theorem cp_isLine {x : Int32} (H : PgR h p mm ms s) (hP : PG' s) : f_X3_isLine (some p) x h = some (I (bit (bt x 0 (s 0 + s 1 - 1) = true)), h) := by
  obtain ⟨a1, a2, a3, a4⟩ := hP
  simp (disch := omega) only [f_X3_isLine, H.rc, cp_lines H, Option.bind_some, lit_I, I_sub, betZ, gb_bit]
theorem cp_row {c : Nat} (H : PgR h p mm ms s) (hP : PG' s) (hc : c < nc s) : f_X3_rowOf (some p) (I c) h = some (I (dv c (s 1)), h) := by
  have hn := nc_le hP
  obtain ⟨a1, a2, a3, a4⟩ := hP
  simp (disch := omega) only [f_X3_rowOf, H.r1, Option.bind_some, nz_I, I_dv]
theorem cp_col {c : Nat} (H : PgR h p mm ms s) (hP : PG' s) (hc : c < nc s) : f_X3_columnOf (some p) (I c) h = some (I (md c (s 1)), h) := by
  have hn := nc_le hP
  obtain ⟨a1, a2, a3, a4⟩ := hP
  simp (disch := omega) only [f_X3_columnOf, H.r1, Option.bind_some, nz_I, I_dv, I_md]
theorem cp_lineOf {c : Nat} (H : PgR h p mm ms s) (hP : PG' s) (hc : c < nc s) : f_X3_lineOf (some p) (I c) (I 1) h = some (I (dv c (s 1)), h) ∧ f_X3_lineOf (some p) (I c) (I 0) h = some (I (s 0 + md c (s 1)), h) := by
  constructor
  · simp only [f_X3_lineOf, lit_I, I_10, if_false, H.rc, cp_row H hP hc, Option.bind_some]
  · simp only [f_X3_lineOf, lit_I, if_true, H.rc, H.r0, cp_col H hP hc, Option.bind_some, I_add]
/-- whether a cell is in a line -/
def inL (s : Nat → Nat) (c i : Nat) : Bool := if i < s 0 then dv c (s 1) == i else md c (s 1) == i - s 0
theorem cp_isIn {c i : Nat} (H : PgR h p mm ms s) (hP : PG' s) (hc : c < nc s) (hi : i < s 0 + s 1) : f_X3_isIn (some p) (I c) (I i) h = some (I (bit (inL s c i = true)), h) := by
  have hd := dv_lt hP hc
  have hPP := hP
  obtain ⟨a1, a2, a3, a4⟩ := hPP
  by_cases q : i < s 0
  · by_cases q2 : dv c (s 1) = i
    · have : inL s c i = true := by simp [inL, q, q2]
      simp (disch := omega) only [f_X3_isIn, H.r0, H.rc, Option.bind_some, I_le, if_neg, cp_row H hP hc, q2, if_true, lit_I, this, bit_T]
    · have : inL s c i = false := by simp [inL, q, q2]
      simp (disch := first | omega | assumption) only [f_X3_isIn, H.r0, H.rc, Option.bind_some, I_le, I_eq, if_neg, cp_row H hP hc, lit_I, this, bit_F]
  · by_cases q2 : md c (s 1) = i - s 0
    · have : inL s c i = true := by simp [inL, q, q2]
      simp (disch := omega) only [f_X3_isIn, H.r0, H.rc, Option.bind_some, I_le, if_pos, cp_col H hP hc, I_sub, q2, if_true, lit_I, this, bit_T]
    · have : inL s c i = false := by simp [inL, q, q2]
      simp (disch := first | omega | assumption) only [f_X3_isIn, H.r0, H.rc, Option.bind_some, I_le, I_eq, if_pos, if_neg, cp_col H hP hc, I_sub, lit_I, this, bit_F]
theorem cp_adj {a b : Nat} (H : PgR h p mm ms s) (hP : PG' s) (ha : a < nc s) (hb : b < nc s) : f_X3_areNeighbors (some p) (I a) (I b) h = some (I (bit (adjb (s 1) a b = true)), h) := by
  have hn := nc_le hP
  have da := dv_lt hP ha
  have db := dv_lt hP hb
  have hPP := hP
  obtain ⟨a1, a2, a3, a4⟩ := hPP
  have e := adj_abs (s 1) (by omega) a3 a (by omega) b (by omega)
  have e' : decide ((if dv b (s 1) ≤ dv a (s 1) then dv a (s 1) - dv b (s 1) else dv b (s 1) - dv a (s 1)) + (if md b (s 1) ≤ md a (s 1) then md a (s 1) - md b (s 1) else md b (s 1) - md a (s 1)) = 1) = adjb (s 1) a b := e
  have i1 := iabs_sub (a := dv a (s 1)) (b := dv b (s 1)) (by omega) (by omega)
  have i2 := iabs_sub (a := md a (s 1)) (b := md b (s 1)) (by omega) (by omega)
  simp (disch := omega) only [f_X3_areNeighbors, H.rc, cp_row H hP ha, cp_row H hP hb, cp_col H hP ha, cp_col H hP hb, Option.bind_some, i1, i2, I_add, lit_I]
  rw [← e']
  generalize hz : (if dv b (s 1) ≤ dv a (s 1) then dv a (s 1) - dv b (s 1) else dv b (s 1) - dv a (s 1)) + (if md b (s 1) ≤ md a (s 1) then md a (s 1) - md b (s 1) else md b (s 1) - md a (s 1)) = z
  have hz10 : z < 20 := by
    rw [← hz]
    split <;> split <;> omega
  by_cases q : z = 1
  · simp [q, bit]
  · have : ¬ I z = I 1 := by rw [I_eq (by omega) (by decide)]; exact q
    simp [q, this, bit]
theorem cp_members {c : Nat} (H : PgR h p mm ms s) (hN : Nrm s) (hc : c < nc s) : f_X3_members (some p) (I c) h = some (some (ms (s (8 + c))), h) ∧ s (8 + c) < rkTo s (nc s) := by
  have hlt : s (8 + c) < rkTo s (nc s) := by
    rw [hN c hc]
    have h4 := fst_spec hc
    have h5 := rkTo_mono (s := s) (show fst s c + 1 ≤ nc s by omega)
    have h6 : rkTo s (fst s c + 1) = rkTo s (fst s c) + bit (isF s (fst s c) = true) := rfl
    rw [bit_t (by unfold isF; rw [fst_fst hc]; simp)] at h6
    unfold rk; omega
  exact ⟨by simp only [f_X3_members, H.r6, H.r2, H.b hc, H.mr hlt, Option.bind_some], hlt⟩
theorem cp_size {c : Nat} (H : PgR h p mm ms s) (hN : Nrm s) (hc : c < nc s) : f_X3_size (some p) (I c) h = some (I (bsz s (s (8 + c))), h) := by
  obtain ⟨h1, h2⟩ := cp_members H hN hc
  simp only [f_X3_size, H.rc, h1, H.bl h2, Option.bind_some]
theorem cp_isNumber {c : Nat} {y : Int32} (H : PgR h p mm ms s) (hN : Nrm s) (hc : c < nc s) : f_X3_isNumber (some p) (I c) y h = some (I (bit (bt y 1 (bsz s (s (8 + c))) = true)), h) := by
  simp only [f_X3_isNumber, H.rc, cp_size H hN hc, Option.bind_some, lit_I, betZ, gb_bit]
theorem cp_untold (H : PgR h p mm ms s) (hP : PG' s) (hs : SB s) : f_X3_untold (some p) h = some (I (nemp s), h) := by
  have hn := nc_le hP
  unfold f_X3_untold
  refine loop_FU (fun k (q : Nat × Nat) => f_X3_untold_L4 k (some p) (I q.1) (I q.2) h) (fun k => (sumTo (fun c => if s (33 + c) = 0 then 1 else 0) k, k)) (nc s) _ (by omega) (fun k j hj => ?_) (fun k => ?_)
  · have h1 := hs (33 + j)
    by_cases q : s (33 + j) = 0
    · simp (disch := omega) only [f_X3_untold_L4, H.rc, H.r3, H.n hj, cp_cells H, Option.bind_some, I_le, if_neg, lit_I, q, if_true, I_add, sumTo]
    · simp (disch := first | omega | assumption) only [f_X3_untold_L4, H.rc, H.r3, H.n hj, cp_cells H, Option.bind_some, I_le, I_eq, if_neg, lit_I, I_add, sumTo]
  · simp (disch := omega) only [f_X3_untold_L4, H.rc, cp_cells H, Option.bind_some, I_le, if_pos]
    rfl
end PGF
