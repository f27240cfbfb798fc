/-! PLAIN LAW: numbers -/
set_option maxRecDepth 100000
def I (n : Nat) : Int32 := Int32.ofNat n
theorem lit_I (n : Nat) : (OfNat.ofNat n : Int32) = I (OfNat.ofNat n) := rfl
theorem I_toInt {a : Nat} (h : a < 2147483648) : (I a).toInt = a := by
  unfold I
  rw [Int32.toInt_ofNat_of_lt h]
theorem I_clamp {a : Nat} (h : a < 2147483648) : (I a).toNatClampNeg = a := by
  show (I a).toInt.toNat = a
  rw [I_toInt h]; rfl
theorem I_add (a b : Nat) : I a + I b = I (a + b) := (Int32.ofNat_add a b).symm
theorem I_mul (a b : Nat) : I a * I b = I (a * b) := (Int32.ofNat_mul a b).symm
theorem I_lt {a b : Nat} (ha : a < 2147483648) (hb : b < 2147483648) : (I a < I b) = (a < b) := by
  rw [Int32.lt_iff_toInt_lt, I_toInt ha, I_toInt hb]; simp
theorem I_le {a b : Nat} (ha : a < 2147483648) (hb : b < 2147483648) : (I a ≤ I b) = (a ≤ b) := by
  rw [Int32.le_iff_toInt_le, I_toInt ha, I_toInt hb]; simp
theorem I_eq {a b : Nat} (ha : a < 2147483648) (hb : b < 2147483648) : (I a = I b) = (a = b) := by
  refine propext ⟨fun h => ?_, fun h => by rw [h]⟩
  have := congrArg Int32.toInt h
  rw [I_toInt ha, I_toInt hb] at this
  omega
theorem I_sub {a b : Nat} (h : b ≤ a) : I a - I b = I (a - b) := by
  have : I a = I (a - b) + I b := by rw [I_add]; congr 1; omega
  rw [this]
  exact Int32.add_sub_cancel _ _
theorem I_toBV (a : Nat) : (I a).toBitVec = BitVec.ofNat 32 a := rfl
theorem I_and (a b : Nat) : I a &&& I b = I (a &&& b) := by
  apply Int32.toBitVec_inj.mp
  simp only [Int32.toBitVec_and, I_toBV, BitVec.ofNat_and]
theorem I_or (a b : Nat) : I a ||| I b = I (a ||| b) := by
  apply Int32.toBitVec_inj.mp
  simp only [Int32.toBitVec_or, I_toBV, BitVec.ofNat_or]
theorem I_xor (a b : Nat) : I a ^^^ I b = I (a ^^^ b) := by
  apply Int32.toBitVec_inj.mp
  simp only [Int32.toBitVec_xor, I_toBV, BitVec.ofNat_xor]
theorem I_div {a b : Nat} (ha : a < 2147483648) (hb : b < 2147483648) : I a / I b = I (a / b) := by
  apply Int32.toInt_inj.mp
  rw [Int32.toInt_div, I_toInt ha, I_toInt hb, I_toInt (Nat.lt_of_le_of_lt (Nat.div_le_self a b) ha)]
  rw [← Int.ofNat_tdiv]
  have := Nat.lt_of_le_of_lt (Nat.div_le_self a b) ha
  generalize a / b = z at this ⊢
  exact Int.bmod_eq_of_le (by omega) (by omega)
theorem I_rem {a b : Nat} (ha : a < 2147483648) (hb : b < 2147483648) : I a - I a / I b * I b = I (a % b) := by
  rw [I_div ha hb, I_mul, I_sub (Nat.div_mul_le_self a b)]
  congr 1
  have := Nat.div_add_mod' a b
  omega
theorem I_and31 {b : Nat} (hb : b < 32) : I b &&& 31 = I b := by
  rw [lit_I, I_and]
  congr 1
  have := Nat.and_two_pow_sub_one_eq_mod b 5
  have e : (2 : Nat) ^ 5 - 1 = 31 := by decide
  rw [e] at this
  rw [this]
  exact Nat.mod_eq_of_lt hb
theorem sm32 : ∀ b, b < 32 → (BitVec.ofNat 32 b).smod 32 = BitVec.ofNat 32 b := by decide
theorem I_shl {a b : Nat} (hb : b < 32) : I a <<< (I b &&& 31) = I (a <<< b) := by
  rw [I_and31 hb]
  apply Int32.toBitVec_inj.mp
  rw [Int32.toBitVec_shiftLeft, I_toBV, I_toBV, I_toBV, sm32 b hb]
  apply BitVec.eq_of_toNat_eq
  rw [BitVec.shiftLeft_eq', BitVec.toNat_shiftLeft, BitVec.toNat_ofNat, BitVec.toNat_ofNat, BitVec.toNat_ofNat, Nat.shiftLeft_eq, Nat.shiftLeft_eq, Nat.mod_eq_of_lt (show b < 2 ^ 32 by omega), Nat.mod_mul_mod]
theorem I_shr {a b : Nat} (ha : a < 2147483648) (hb : b < 32) : I a >>> (I b &&& 31) = I (a >>> b) := by
  rw [I_and31 hb]
  apply Int32.toBitVec_inj.mp
  rw [Int32.toBitVec_shiftRight, I_toBV, I_toBV, I_toBV, sm32 b hb]
  rw [BitVec.sshiftRight_eq', BitVec.toNat_ofNat, Nat.mod_eq_of_lt (show b < 2 ^ 32 by omega), BitVec.sshiftRight_eq_of_msb_false (by
    rw [BitVec.msb_eq_decide, BitVec.toNat_ofNat]
    simp; omega)]
  apply BitVec.eq_of_toNat_eq
  rw [BitVec.toNat_ushiftRight, BitVec.toNat_ofNat, BitVec.toNat_ofNat, Nat.mod_eq_of_lt (show a < 2 ^ 32 by omega), Nat.mod_eq_of_lt]
  have := Nat.shiftRight_le a b
  omega
theorem I_shlI {a b : Nat} (hb : b < 32) : I a <<< (I b &&& I 31) = I (a <<< b) := I_shl hb
theorem I_shrI {a b : Nat} (ha : a < 2147483648) (hb : b < 32) : I a >>> (I b &&& I 31) = I (a >>> b) := I_shr ha hb
def andn (a b : Nat) : Nat := a ^^^ (a &&& b)
theorem I_andn (a b : Nat) : I a &&& (I b ^^^ (-1)) = I (andn a b) := by
  apply Int32.toBitVec_inj.mp
  have e : (-1 : Int32).toBitVec = BitVec.allOnes 32 := by decide
  simp only [Int32.toBitVec_and, Int32.toBitVec_xor, I_toBV, andn, BitVec.ofNat_xor, BitVec.ofNat_and, e]
  apply BitVec.eq_of_getLsbD_eq
  intro i hi
  simp only [BitVec.getLsbD_and, BitVec.getLsbD_xor, BitVec.getLsbD_allOnes, hi]
  cases (BitVec.ofNat 32 a).getLsbD i <;> cases (BitVec.ofNat 32 b).getLsbD i <;> rfl
theorem I_neg_ne {a b : Nat} (ha : a < 2147483648) (hb : b < 2147483648) (h0 : 0 < b) : ¬ I a = - I b := by
  intro h
  have := congrArg Int32.toInt h
  rw [Int32.toInt_neg, I_toInt ha, I_toInt hb, Int.bmod_eq_of_le (by omega) (by omega)] at this
  omega
theorem inb_I {i n : Nat} (h : i < 2147483648) : inb (I i) n = (i < n) := by
  unfold inb
  rw [I_toInt h]
  simp
theorem inbI {i n : Nat} (hi : i < n) (h : n < 2147483648) : inb (I i) n := by rw [inb_I (by omega)]; exact hi
/-- an index that counts up to n, each step the loop's own, the end its answer -/
theorem loop_up {α β : Type} (L : Nat → α → Option β) (st : Nat → α) (n : Nat) (res : Option β) (hs : ∀ k i, i < n → L (k + 1) (st i) = L k (st (i + 1))) (he : ∀ k, L (k + 1) (st n) = res) : ∀ k i, i ≤ n → n - i < k → L k (st i) = res := by
  intro k
  induction k with
  | zero => intro i _ h; omega
  | succ k ih =>
    intro i hi hk
    by_cases e : i = n
    · subst e; exact he k
    · rw [hs k i (by omega)]
      exact ih (i + 1) (by omega) (by omega)
theorem loop_FU {α β : Type} (L : Nat → α → Option β) (st : Nat → α) (n : Nat) (res : Option β) (hn : n < 1000000) (hs : ∀ k i, i < n → L (k + 1) (st i) = L k (st (i + 1))) (he : ∀ k, L (k + 1) (st n) = res) : L FU (st 0) = res := loop_up L st n res hs he FU 0 (Nat.zero_le _) (by rw [FU_eq]; omega)
