/-! PLAIN LAW: the reference's methods, page -/
set_option maxRecDepth 100000
def sumTo (f : Nat → Nat) : Nat → Nat
  | 0 => 0
  | n + 1 => sumTo f n + f n
def PG' (s : Nat → Nat) : Prop := 2 ≤ s 0 ∧ s 0 ≤ 5 ∧ 2 ≤ s 1 ∧ s 1 ≤ 5
def nc (s : Nat → Nat) : Nat := s 0 * s 1
def AB (A : Nat → Nat → Nat) : Prop := ∀ o j, A o j < 1000000
/-- a row of small numbers -/
def SB (s : Nat → Nat) : Prop := ∀ j, s j < 1000000
theorem nc_le {s : Nat → Nat} (h : PG' s) : 4 ≤ nc s ∧ nc s ≤ 25 := by
  obtain ⟨a, b, c, d⟩ := h
  exact ⟨Nat.mul_le_mul a c, Nat.mul_le_mul b d⟩
section TW1
variable {m : Nat} {v : Nat → Int32} {A : Nat → Nat → Nat} {h : PH}
theorem tw_s {j : Nat} (hj : j < 356) : ald 0 (some (m + 1)) (I j) (TW m v A h) = some (I (A 1 j)) := tw_ald (o := 1) (by decide) hj
theorem tw_cells : f_X13_cells (some m) (TW m v A h) = some (I (nc (A 1)), TW m v A h) := by
  simp (disch := omega) only [f_X13_cells, tw_r1, Option.bind_some, lit_I, tw_s, I_mul]
  rfl
theorem tw_blockOf {c : Nat} (hc : c < 25) : f_X13_blockOf (some m) (I c) (TW m v A h) = some (I (A 1 (8 + c)), TW m v A h) := by
  simp (disch := omega) only [f_X13_blockOf, tw_r1, Option.bind_some, lit_I, I_add, tw_s]
def bsz (s : Nat → Nat) (b : Nat) : Nat := sumTo (fun c => if s (8 + c) = b then 1 else 0) (nc s)
theorem tw_blockSize {b : Nat} (hb : b < 1000000) (hA : SB (A 1)) (hP : PG' (A 1)) : f_X13_blockSize (some m) (I b) (TW m v A h) = some (I (bsz (A 1) b), TW m v A h) := by
  have hn := nc_le hP
  unfold f_X13_blockSize
  refine loop_FU (fun k (p : Nat × Nat) => f_X13_blockSize_L4 k (some m) (I b) (I p.1) (I p.2) (TW m v A h)) (fun i => (sumTo (fun c => if A 1 (8 + c) = b then 1 else 0) i, i)) (nc (A 1)) _ (by omega) (fun k i hi => ?_) (fun k => ?_)
  · have h1 := hA (8 + i)
    simp (disch := omega) only [f_X13_blockSize_L4, tw_rcv, tw_cells, Option.bind_some, tw_blockOf, I_le, I_eq, if_neg, lit_I, I_add, sumTo]
    split <;> rfl
  · simp (disch := omega) only [f_X13_blockSize_L4, tw_rcv, tw_cells, Option.bind_some, I_le, if_pos]
    rfl
theorem tw_numberOf {c : Nat} (hc : c < 25) : f_X13_numberOf (some m) (I c) (TW m v A h) = some (I (A 1 (33 + c)), TW m v A h) := by
  simp (disch := omega) only [f_X13_numberOf, tw_r1, Option.bind_some, lit_I, I_add, tw_s]
/-- 1 or 0 -/
def bit (p : Prop) [Decidable p] : Nat := if p then 1 else 0
theorem bit_lt (p : Prop) [Decidable p] : bit p < 2 := by unfold bit; split <;> decide
theorem bit_0 {p : Prop} [Decidable p] : (I (bit p) = I 0) = ¬ p := by
  unfold bit
  split
  · rename_i hp; simp [hp]; decide
  · rename_i hp; simp [hp]
theorem bit_1 {p : Prop} [Decidable p] : (I (bit p) = I 1) = p := by
  unfold bit
  split
  · rename_i hp; simp [hp]
  · rename_i hp; simp [hp]; decide
theorem bit_t {p : Prop} [Decidable p] (hp : p) : bit p = 1 := if_pos hp
theorem bit_f {p : Prop} [Decidable p] (hp : ¬ p) : bit p = 0 := if_neg hp
theorem bit_congr {p q : Prop} [Decidable p] [Decidable q] (h : p ↔ q) : bit p = bit q := by unfold bit; simp only [h]
theorem gb_bit {p : Prop} [Decidable p] : gb (I (bit p)) = some () := by
  unfold bit gb
  split <;> rfl
theorem gb_1 : gb (I 1) = some () := rfl
theorem gb_0 : gb (I 0) = some () := rfl
theorem tw_in {a b c : Nat} (ha : a < 2147483648) (hb : b < 2147483648) (hc : c < 2147483648) {g : PH} : f_X13_in (I a) (I b) (I c) g = some (I (bit (b ≤ a ∧ a ≤ c)), g) := by
  simp only [f_X13_in, I_lt, ha, hb, hc, lit_I]
  by_cases h1 : a < b
  · rw [if_pos h1, bit_f (by omega)]
  · rw [if_neg h1]
    by_cases h2 : c < a
    · rw [if_pos h2, bit_f (by omega)]
    · rw [if_neg h2, bit_t (by omega)]
theorem nz_I {a : Nat} (ha : a < 2147483648) (h0 : 0 < a) : nz (I a) = some () := by
  unfold nz
  rw [if_neg]
  rw [lit_I, I_eq ha (by decide)]
  exact Nat.ne_of_gt h0
theorem tw_isCell {c : Nat} (hc : c < 1000000) (hP : PG' (A 1)) : f_X13_isCell (some m) (I c) (TW m v A h) = some (I (bit (c < nc (A 1))), TW m v A h) := by
  have hn := nc_le hP
  simp (disch := omega) only [f_X13_isCell, tw_rcv, tw_cells, Option.bind_some, lit_I, I_sub, tw_in, gb_bit]
  rw [bit_congr (q := c < nc (A 1)) (by omega)]
theorem tw_lines : f_X13_lines (some m) (TW m v A h) = some (I (A 1 0 + A 1 1), TW m v A h) := by
  simp (disch := omega) only [f_X13_lines, tw_r1, Option.bind_some, lit_I, tw_s, I_add]
theorem tw_mostIn {c : Nat} (hc : c < 25) (hA : SB (A 1)) (hP : PG' (A 1)) : f_X13_mostIn (some m) (I c) (TW m v A h) = some (I (bsz (A 1) (A 1 (8 + c))), TW m v A h) := by
  have h1 := hA (8 + c)
  simp (disch := omega) only [f_X13_mostIn, tw_rcv, Option.bind_some, tw_blockOf]
  rw [tw_blockSize h1 hA hP]
  simp only [Option.bind_some]
def maxTo (f : Nat → Nat) : Nat → Nat
  | 0 => 0
  | n + 1 => max (maxTo f n) (f n)
theorem maxTo_lt {f : Nat → Nat} {k : Nat} (h0 : 0 < k) (hf : ∀ i, f i < k) : ∀ n, maxTo f n < k := by
  intro n
  induction n with
  | zero => exact h0
  | succ n ih => have := hf n; simp only [maxTo]; omega
theorem tw_more {a b : Nat} (ha : a < 2147483648) (hb : b < 2147483648) {g : PH} : f_X13_more (I a) (I b) g = some (I (max a b), g) := by
  simp only [f_X13_more, I_le ha hb]
  by_cases h1 : a ≤ b
  · rw [if_pos h1, Nat.max_eq_right h1]
  · rw [if_neg h1, Nat.max_eq_left (by omega)]
theorem tw_less {a b : Nat} (ha : a < 2147483648) (hb : b < 2147483648) {g : PH} : f_X13_less (I a) (I b) g = some (I (min a b), g) := by
  simp only [f_X13_less, I_le hb ha]
  by_cases h1 : b ≤ a
  · rw [if_pos h1, Nat.min_eq_right h1]
  · rw [if_neg h1, Nat.min_eq_left (by omega)]
def nblk (s : Nat → Nat) : Nat := maxTo (fun c => s (8 + c)) (nc s) + 1
theorem tw_blocks (hA : SB (A 1)) (hP : PG' (A 1)) : f_X13_blocks (some m) (TW m v A h) = some (I (nblk (A 1)), TW m v A h) := by
  have hn := nc_le hP
  unfold f_X13_blocks
  have hm := maxTo_lt (f := fun c => A 1 (8 + c)) (k := 1000000) (by decide) (fun i => hA (8 + i))
  refine loop_FU (fun k (p : Nat × Nat) => f_X13_blocks_L4 k (some m) (I p.1) (I p.2) (TW m v A h)) (fun i => (maxTo (fun c => A 1 (8 + c)) i, i)) (nc (A 1)) _ (by omega) (fun k i hi => ?_) (fun k => ?_)
  · have h1 := hA (8 + i)
    have h2 := hm i
    simp (disch := omega) only [f_X13_blocks_L4, tw_rcv, tw_cells, Option.bind_some, tw_blockOf, tw_more, I_le, if_neg, lit_I, I_add, maxTo]
  · simp (disch := omega) only [f_X13_blocks_L4, tw_rcv, tw_cells, Option.bind_some, I_le, if_pos, lit_I, I_add]
    rfl
theorem ite_bit {z : Int32} {b : Bool} {g : PH} (e : decide (z = I 1) = b) : (if z = I 1 then some (I 1, g) else some (I 0, g)) = some (I (bit (b = true)), g) := by
  subst e
  by_cases hz : z = I 1
  · rw [if_pos hz, bit_t (by simp [hz])]
  · rw [if_neg hz, bit_f (by simp [hz])]
/-- neighbours on a page of this width -/
def adj (C a b : Nat) : Prop := (a / C = b / C ∧ (a % C + 1 = b % C ∨ b % C + 1 = a % C)) ∨ (a % C = b % C ∧ (a / C + 1 = b / C ∨ b / C + 1 = a / C))
def adjb (C a b : Nat) : Bool := (a / C == b / C && (a % C + 1 == b % C || b % C + 1 == a % C)) || (a % C == b % C && (a / C + 1 == b / C || b / C + 1 == a / C))
theorem nb_tw : ∀ C, C < 6 → 2 ≤ C → ∀ a, a < 25 → ∀ b, b < 25 → decide (((((I a / I C) - (I b / I C)) * ((I a / I C) - (I b / I C))) + (((I a - I a / I C * I C) - (I b - I b / I C * I C)) * ((I a - I a / I C * I C) - (I b - I b / I C * I C)))) = I 1) = adjb C a b := by decide +kernel
theorem tw_adj {a b : Nat} (ha : a < 25) (hb : b < 25) (hP : PG' (A 1)) : f_X13_areNeighbors (some m) (I a) (I b) (TW m v A h) = some (I (bit (adjb (A 1 1) a b = true)), TW m v A h) := by
  obtain ⟨-, -, h3, h4⟩ := hP
  have e := nb_tw (A 1 1) (by omega) h3 a ha b hb
  simp (disch := omega) only [f_X13_areNeighbors, tw_r1, Option.bind_some, lit_I, tw_s, nz_I]
  exact ite_bit e
end TW1
