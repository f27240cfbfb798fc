/-! PLAIN LAW: the class: bits of numbers -/
set_option maxRecDepth 100000
theorem U_ofI (a : Nat) : (I a).toUInt32 = UInt32.ofNat a := rfl
theorem I_ushr {a k : Nat} (ha : a < 4294967296) (hk : k < 32) : ((I a).toUInt32 >>> ((I k).toUInt32 &&& (I 31).toUInt32)).toInt32 = I (a >>> k) := by
  apply Int32.toBitVec_inj.mp
  show ((I a).toUInt32 >>> ((I k).toUInt32 &&& (I 31).toUInt32)).toBitVec = (I (a >>> k)).toBitVec
  have e1 : ∀ k, k < 32 → ((I k).toUInt32 &&& (I 31).toUInt32) = UInt32.ofNat k := by decide
  rw [e1 k hk, U_ofI]
  apply BitVec.eq_of_toNat_eq
  have e2 : (UInt32.ofNat a >>> UInt32.ofNat k).toBitVec.toNat = (UInt32.ofNat a >>> UInt32.ofNat k).toNat := rfl
  rw [e2, UInt32.toNat_shiftRight, I_toBV, BitVec.toNat_ofNat]
  have e3 : (UInt32.ofNat a).toNat = a := UInt32.toNat_ofNat_of_lt ha
  have e4 : (UInt32.ofNat k).toNat = k := UInt32.toNat_ofNat_of_lt (by show k < 4294967296; omega)
  have h1 := Nat.shiftRight_le a k
  rw [e3, e4, Nat.mod_eq_of_lt hk, Nat.mod_eq_of_lt (by show a >>> k < 4294967296; omega)]
/-- small sets counted -/
noncomputable def bcI (x : Int32) : Int32 := match f_J3_bitCount x ((fun _ => none), 0, 0, ((fun _ => none), fun _ => none)) with | some q => q.1 | none => 0
theorem bc_any (x : Int32) (h : PH) : f_J3_bitCount x h = some (bcI x, h) := by
  unfold bcI f_J3_bitCount
  rfl
theorem bc_dec : ∀ a, a < 128 → bcI (I a) = I (pc a) := by decide +kernel
theorem cl_bitCount {a : Nat} {h : PH} (ha : a < 128) : f_J3_bitCount (I a) h = some (I (pc a), h) := by rw [bc_any, bc_dec a ha]
/-! the least -/
theorem lo_mask {a : Nat} (h0 : a ≠ 0) (h : a < 2147483648) : andn (a - 1) a = 2 ^ lo a - 1 := by
  obtain ⟨h1, h2, h3⟩ := lo_spec h0 h
  generalize lo a = l at h1 h2 h3 ⊢
  -- a is an odd multiple of 2 ^ l
  have hmod : a % 2 ^ l = 0 := by
    apply Nat.eq_of_testBit_eq
    intro k
    rw [Nat.testBit_mod_two_pow, Nat.zero_testBit]
    by_cases c : k < l
    · rw [h3 k c]; simp
    · simp [c]
  have hdiv : a = 2 ^ l * (a / 2 ^ l) := by have := Nat.div_add_mod a (2 ^ l); omega
  have hodd : (a / 2 ^ l) % 2 = 1 := by
    rw [Nat.testBit_eq_decide_div_mod_eq] at h2
    simpa using h2
  obtain ⟨m, hm⟩ : ∃ m, a / 2 ^ l = 2 * m + 1 := ⟨(a / 2 ^ l) / 2, by omega⟩
  have hp := Nat.two_pow_pos l
  have e1 : a - 1 = 2 ^ l * (2 * m) + (2 ^ l - 1) := by
    rw [hm] at hdiv
    rw [hdiv, Nat.mul_add, Nat.mul_one]
    omega
  apply Nat.eq_of_testBit_eq
  intro k
  rw [andn_tb, Nat.testBit_two_pow_sub_one]
  by_cases c : k < l
  · rw [e1, Nat.testBit_two_pow_mul_add _ (by omega), if_pos c, Nat.testBit_two_pow_sub_one, h3 k c]; simp [c]
  · rw [e1, Nat.testBit_two_pow_mul_add _ (by omega), if_neg c]
    have e2 : a.testBit k = (2 * m + 1).testBit (k - l) := by
      rw [hdiv, hm, Nat.testBit_two_pow_mul]; simp; omega
    rw [e2]
    have e3 : ((2 * m).testBit (k - l) && !(2 * m + 1).testBit (k - l)) = false := by
      cases k - l with
      | zero => simp
      | succ j =>
        rw [Nat.testBit_succ, Nat.testBit_succ, Nat.mul_div_cancel_left _ (by decide)]
        have : (2 * m + 1) / 2 = m := by omega
        rw [this]
        cases m.testBit j <;> rfl
    rw [e3]; simp [c]
noncomputable def ntI (y : Int32) : Option (Int32 × PH) := if 0 < y then (if y ≤ 65536 then (f_J3_numberOfTrailingZeros_B34 y 1 ((fun _ => none), 0, 0, ((fun _ => none), fun _ => none))) else (f_J3_numberOfTrailingZeros_B34 ((y.toUInt32 >>> ((16 : Int32).toUInt32 &&& Int32.toUInt32 31)).toInt32) (1 + 16) ((fun _ => none), 0, 0, ((fun _ => none), fun _ => none)))) else (some (y &&& 32, ((fun _ => none), 0, 0, ((fun _ => none), fun _ => none))))
noncomputable def ntF (y : Int32) : Int32 := match ntI y with | some q => q.1 | none => 0
theorem nt_dec : ∀ l, l < 31 → ntF (I (2 ^ l - 1)) = I l := by decide +kernel
theorem nt34 (i n : Int32) (h g : PH) : ∃ z, f_J3_numberOfTrailingZeros_B34 i n h = some (z, h) ∧ f_J3_numberOfTrailingZeros_B34 i n g = some (z, g) := by
  unfold f_J3_numberOfTrailingZeros_B34 f_J3_numberOfTrailingZeros_B49 f_J3_numberOfTrailingZeros_B62 f_J3_numberOfTrailingZeros_B74
  by_cases c1 : i ≤ 256
  · simp only [if_pos c1]
    by_cases c2 : i ≤ 16
    · simp only [if_pos c2]
      by_cases c3 : i ≤ 4
      · simp only [if_pos c3]; exact ⟨_, rfl, rfl⟩
      · simp only [if_neg c3]; exact ⟨_, rfl, rfl⟩
    · simp only [if_neg c2]
      generalize ((i.toUInt32 >>> ((4 : Int32).toUInt32 &&& Int32.toUInt32 31)).toInt32) = i2
      by_cases c3 : i2 ≤ 4
      · simp only [if_pos c3]; exact ⟨_, rfl, rfl⟩
      · simp only [if_neg c3]; exact ⟨_, rfl, rfl⟩
  · simp only [if_neg c1]
    generalize ((i.toUInt32 >>> ((8 : Int32).toUInt32 &&& Int32.toUInt32 31)).toInt32) = i1
    by_cases c2 : i1 ≤ 16
    · simp only [if_pos c2]
      by_cases c3 : i1 ≤ 4
      · simp only [if_pos c3]; exact ⟨_, rfl, rfl⟩
      · simp only [if_neg c3]; exact ⟨_, rfl, rfl⟩
    · simp only [if_neg c2]
      generalize ((i1.toUInt32 >>> ((4 : Int32).toUInt32 &&& Int32.toUInt32 31)).toInt32) = i2
      by_cases c3 : i2 ≤ 4
      · simp only [if_pos c3]; exact ⟨_, rfl, rfl⟩
      · simp only [if_neg c3]; exact ⟨_, rfl, rfl⟩
theorem nt_any (x y : Int32) (h : PH) (hy : (x ^^^ (-1)) &&& (x - 1) = y) : f_J3_numberOfTrailingZeros x h = some (ntF y, h) := by
  unfold f_J3_numberOfTrailingZeros ntF ntI
  rw [hy]
  by_cases c : 0 < y
  · simp only [if_pos c]
    by_cases c2 : y ≤ 65536
    · simp only [if_pos c2]
      obtain ⟨z, e1, e2⟩ := nt34 y 1 h ((fun _ => none), 0, 0, ((fun _ => none), fun _ => none))
      rw [e1, e2]
    · simp only [if_neg c2]
      obtain ⟨z, e1, e2⟩ := nt34 ((y.toUInt32 >>> ((16 : Int32).toUInt32 &&& Int32.toUInt32 31)).toInt32) (1 + 16) h ((fun _ => none), 0, 0, ((fun _ => none), fun _ => none))
      rw [e1, e2]
  · simp only [if_neg c]
theorem cl_least {a : Nat} {h : PH} (h0 : a ≠ 0) (ha : a < 2147483648) : f_X0_least (I a) h = some (I (lo a), h) := by
  have e : (I a ^^^ (-1)) &&& (I a - 1) = I (2 ^ lo a - 1) := by
    show (I a ^^^ (-1)) &&& (I a - I 1) = _
    rw [Int32.and_comm, I_sub (by omega)]
    exact (I_andn (a - 1) a).trans (by rw [lo_mask h0 ha])
  have hl := (lo_spec h0 ha).1
  simp only [f_X0_least, nt_any _ _ h e, nt_dec _ hl, Option.bind_some]
/-! the greatest -/
theorem log2_shr {a k l : Nat} (h1 : 2 ^ l ≤ a) (h2 : a < 2 ^ (l + 1)) (hk : k ≤ l) : 2 ^ (l - k) ≤ a >>> k ∧ a >>> k < 2 ^ (l - k + 1) := by
  rw [Nat.shiftRight_eq_div_pow]
  have hp := Nat.two_pow_pos k
  constructor
  · rw [Nat.le_div_iff_mul_le hp, ← Nat.pow_add, Nat.sub_add_cancel hk]; exact h1
  · rw [Nat.div_lt_iff_lt_mul hp, ← Nat.pow_add]
    have : l - k + 1 + k = l + 1 := by omega
    rw [this]; exact h2
theorem nl73 {i n l : Nat} {h : PH} (h1 : 2 ^ l ≤ i) (h2 : i < 2 ^ (l + 1)) (hl : l < 2) (hn : l ≤ n) : f_J3_numberOfLeadingZeros_B73 (I i) (I n) h = some (I (n - l), h) := by
  have hi : i < 4 := Nat.lt_of_lt_of_le h2 (Nat.pow_le_pow_right (show 0 < 2 by decide) (show l + 1 ≤ 2 by omega))
  have e : i >>> 1 = l := by
    rw [Nat.shiftRight_eq_div_pow]
    have : l = 0 ∨ l = 1 := by omega
    rcases this with rfl | rfl
    · have : i = 1 := by simp at h1 h2; omega
      subst this; decide
    · simp at h1
      omega
  have e2 := I_ushr (a := i) (k := 1) (by omega) (by decide)
  unfold f_J3_numberOfLeadingZeros_B73
  have e3 : ((I i).toUInt32 >>> ((1 : Int32).toUInt32 &&& Int32.toUInt32 31)).toInt32 = I (i >>> 1) := e2
  rw [e3, e, I_sub hn]
theorem I_addM {a b : Nat} (h : b ≤ a) : I a + (- I b) = I (a - b) := by rw [← Int32.sub_eq_add_neg, I_sub h]
theorem nl61 {i n l : Nat} {h : PH} (h1 : 2 ^ l ≤ i) (h2 : i < 2 ^ (l + 1)) (hl : l < 4) (hn : l ≤ n) : f_J3_numberOfLeadingZeros_B61 (I i) (I n) h = some (I (n - l), h) := by
  have hi : i < 16 := Nat.lt_of_lt_of_le h2 (Nat.pow_le_pow_right (show 0 < 2 by decide) (show l + 1 ≤ 4 by omega))
  unfold f_J3_numberOfLeadingZeros_B61
  by_cases c : l < 2
  · have : i < 4 := Nat.lt_of_lt_of_le h2 (Nat.pow_le_pow_right (show 0 < 2 by decide) (show l + 1 ≤ 2 by omega))
    rw [if_pos (show I i < (4 : Int32) by show I i < I 4; rw [I_lt (by omega) (by decide)]; exact this)]
    exact nl73 h1 h2 c hn
  · have : 4 ≤ i := Nat.le_trans (Nat.pow_le_pow_right (show 0 < 2 by decide) (show 2 ≤ l by omega)) h1
    rw [if_neg (show ¬ I i < (4 : Int32) by show ¬ I i < I 4; rw [I_lt (by omega) (by decide)]; omega)]
    have e2 : ((I i).toUInt32 >>> ((2 : Int32).toUInt32 &&& Int32.toUInt32 31)).toInt32 = I (i >>> 2) := I_ushr (a := i) (k := 2) (by omega) (by decide)
    have e3 : I n + (-2 : Int32) = I (n - 2) := I_addM (b := 2) (by omega)
    obtain ⟨g1, g2⟩ := log2_shr h1 h2 (k := 2) (by omega)
    rw [e2, e3, nl73 g1 g2 (by omega) (by omega)]
    have e4 : n - 2 - (l - 2) = n - l := by omega
    rw [e4]
theorem nl48 {i n l : Nat} {h : PH} (h1 : 2 ^ l ≤ i) (h2 : i < 2 ^ (l + 1)) (hl : l < 8) (hn : l ≤ n) : f_J3_numberOfLeadingZeros_B48 (I i) (I n) h = some (I (n - l), h) := by
  have hi : i < 256 := Nat.lt_of_lt_of_le h2 (Nat.pow_le_pow_right (show 0 < 2 by decide) (show l + 1 ≤ 8 by omega))
  unfold f_J3_numberOfLeadingZeros_B48
  by_cases c : l < 4
  · have : i < 16 := Nat.lt_of_lt_of_le h2 (Nat.pow_le_pow_right (show 0 < 2 by decide) (show l + 1 ≤ 4 by omega))
    rw [if_pos (show I i < (16 : Int32) by show I i < I 16; rw [I_lt (by omega) (by decide)]; exact this)]
    exact nl61 h1 h2 c hn
  · have : 16 ≤ i := Nat.le_trans (Nat.pow_le_pow_right (show 0 < 2 by decide) (show 4 ≤ l by omega)) h1
    rw [if_neg (show ¬ I i < (16 : Int32) by show ¬ I i < I 16; rw [I_lt (by omega) (by decide)]; omega)]
    have e2 : ((I i).toUInt32 >>> ((4 : Int32).toUInt32 &&& Int32.toUInt32 31)).toInt32 = I (i >>> 4) := I_ushr (a := i) (k := 4) (by omega) (by decide)
    have e3 : I n + (-4 : Int32) = I (n - 4) := I_addM (b := 4) (by omega)
    obtain ⟨g1, g2⟩ := log2_shr h1 h2 (k := 4) (by omega)
    rw [e2, e3, nl61 g1 g2 (by omega) (by omega)]
    have e4 : n - 4 - (l - 4) = n - l := by omega
    rw [e4]
theorem nl33 {i n l : Nat} {h : PH} (h1 : 2 ^ l ≤ i) (h2 : i < 2 ^ (l + 1)) (hl : l < 16) (hn : l ≤ n) : f_J3_numberOfLeadingZeros_B33 (I i) (I n) h = some (I (n - l), h) := by
  have hi : i < 65536 := Nat.lt_of_lt_of_le h2 (Nat.pow_le_pow_right (show 0 < 2 by decide) (show l + 1 ≤ 16 by omega))
  unfold f_J3_numberOfLeadingZeros_B33
  by_cases c : l < 8
  · have : i < 256 := Nat.lt_of_lt_of_le h2 (Nat.pow_le_pow_right (show 0 < 2 by decide) (show l + 1 ≤ 8 by omega))
    rw [if_pos (show I i < (256 : Int32) by show I i < I 256; rw [I_lt (by omega) (by decide)]; exact this)]
    exact nl48 h1 h2 c hn
  · have : 256 ≤ i := Nat.le_trans (Nat.pow_le_pow_right (show 0 < 2 by decide) (show 8 ≤ l by omega)) h1
    rw [if_neg (show ¬ I i < (256 : Int32) by show ¬ I i < I 256; rw [I_lt (by omega) (by decide)]; omega)]
    have e2 : ((I i).toUInt32 >>> ((8 : Int32).toUInt32 &&& Int32.toUInt32 31)).toInt32 = I (i >>> 8) := I_ushr (a := i) (k := 8) (by omega) (by decide)
    have e3 : I n + (-8 : Int32) = I (n - 8) := I_addM (b := 8) (by omega)
    obtain ⟨g1, g2⟩ := log2_shr h1 h2 (k := 8) (by omega)
    rw [e2, e3, nl48 g1 g2 (by omega) (by omega)]
    have e4 : n - 8 - (l - 8) = n - l := by omega
    rw [e4]
theorem cl_greatest {a : Nat} {h : PH} (h0 : a ≠ 0) (ha : a < 2147483648) : f_X0_greatest (I a) h = some (I (hi a), h) := by
  have h1 : 2 ^ hi a ≤ a := Nat.log2_self_le h0
  have h2 : a < 2 ^ (hi a + 1) := Nat.lt_log2_self
  have h3 : hi a < 31 := (hi_spec h0 ha).1
  have e : f_J3_numberOfLeadingZeros (I a) h = some (I (31 - hi a), h) := by
    generalize hi a = l at h1 h2 h3
    unfold f_J3_numberOfLeadingZeros
    rw [if_pos (show (0 : Int32) < I a by show I 0 < I a; rw [I_lt (by decide) ha]; omega)]
    by_cases c : l < 16
    · have : a < 65536 := Nat.lt_of_lt_of_le h2 (Nat.pow_le_pow_right (show 0 < 2 by decide) (show l + 1 ≤ 16 by omega))
      rw [if_pos (show I a < (65536 : Int32) by show I a < I 65536; rw [I_lt ha (by decide)]; exact this)]
      exact nl33 (n := 31) h1 h2 c (by omega)
    · have : 65536 ≤ a := Nat.le_trans (Nat.pow_le_pow_right (show 0 < 2 by decide) (show 16 ≤ l by omega)) h1
      rw [if_neg (show ¬ I a < (65536 : Int32) by show ¬ I a < I 65536; rw [I_lt ha (by decide)]; omega)]
      have e2 : ((I a).toUInt32 >>> ((16 : Int32).toUInt32 &&& Int32.toUInt32 31)).toInt32 = I (a >>> 16) := I_ushr (a := a) (k := 16) (by omega) (by decide)
      have e3 : (31 : Int32) + (-16 : Int32) = I (31 - 16) := I_addM (a := 31) (b := 16) (by decide)
      obtain ⟨g1, g2⟩ := log2_shr h1 h2 (k := 16) (by omega)
      rw [e2, e3, nl33 g1 g2 (by omega) (by omega)]
      have e4 : 31 - 16 - (l - 16) = 31 - l := by omega
      rw [e4]
  simp only [f_X0_greatest, e, Option.bind_some, lit_I]
  have e4 : I 31 - I (31 - hi a) = I (hi a) := by
    rw [I_sub (by omega)]
    have : 31 - (31 - hi a) = hi a := by omega
    rw [this]
  rw [e4]
