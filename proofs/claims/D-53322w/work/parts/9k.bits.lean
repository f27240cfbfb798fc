/-! PLAIN LAW: the class: all bits counted -/
set_option maxRecDepth 100000
theorem and_cat {x y m M : Nat} (hx : x < 256) (hm : m < 256) : (x + 256 * y) &&& (m + 256 * M) = (x &&& m) + 256 * (y &&& M) := by
  have h1 : ((x + 256 * y) &&& (m + 256 * M)) / 2 ^ 8 = y &&& M := by
    rw [Nat.and_div_two_pow]
    have e1 : (x + 256 * y) / 2 ^ 8 = y := by omega
    have e2 : (m + 256 * M) / 2 ^ 8 = M := by omega
    rw [e1, e2]
  have h2 : ((x + 256 * y) &&& (m + 256 * M)) % 2 ^ 8 = x &&& m := by
    rw [Nat.and_mod_two_pow]
    have e1 : (x + 256 * y) % 2 ^ 8 = x := by omega
    have e2 : (m + 256 * M) % 2 ^ 8 = m := by omega
    rw [e1, e2]
  omega
theorem and_c4 {a b c d m : Nat} (ha : a < 256) (hb : b < 256) (hc : c < 256) (hd : d < 256) (hm : m < 256) : (a + 256 * (b + 256 * (c + 256 * d))) &&& (m + 256 * (m + 256 * (m + 256 * m))) = (a &&& m) + 256 * ((b &&& m) + 256 * ((c &&& m) + 256 * (d &&& m))) := by
  rw [and_cat ha hm, and_cat hb hm, and_cat hc hm]
/-- a byte's steps -/
def b1 (b : Nat) : Nat := b - (b / 2 &&& 85)
def b2 (b : Nat) : Nat := (b &&& 51) + (b / 4 &&& 51)
def b3 (b : Nat) : Nat := (b + b / 16) &&& 15
def pcb (b : Nat) : Nat := sumTo (fun k => b >>> k &&& 1) 8
theorem b1_dec : ∀ b, b < 256 → (b / 2 &&& 85) ≤ b ∧ (b / 2 + 128 &&& 85) = (b / 2 &&& 85) ∧ b1 b < 256 ∧ b2 (b1 b) < 256 ∧ b2 (b1 b) % 16 ≤ 4 ∧ b2 (b1 b) / 16 ≤ 4 ∧ b3 (b2 (b1 b)) = pcb b ∧ pcb b ≤ 8 := by decide +kernel
theorem b2_dec : ∀ b, b < 256 → ∀ t, t < 4 → (b / 4 + 64 * t &&& 51) = (b / 4 &&& 51) := by decide +kernel
theorem b3_dec : ∀ b, b < 256 → b % 16 ≤ 4 → b / 16 ≤ 4 → ∀ t, t < 5 → (b + b / 16 + 16 * t &&& 15) = b3 b ∧ b + b / 16 + 16 * t < 256 := by decide +kernel
theorem b1_t {b t : Nat} (hb : b < 256) (ht : t < 2) : (b / 2 + 128 * t &&& 85) = (b / 2 &&& 85) := by
  have : t = 0 ∨ t = 1 := by omega
  rcases this with e | e <;> subst e
  · rfl
  · exact (b1_dec b hb).2.1
def sw1 (a : Nat) : Nat := a - (a / 2 &&& 1431655765)
def sw2 (a : Nat) : Nat := (a &&& 858993459) + (a / 4 &&& 858993459)
def sw3 (a : Nat) : Nat := (a + a / 16) &&& 252645135
def pcN (n x : Nat) : Nat := sumTo (fun k => x / 2 ^ k % 2) n
theorem sumTo_cat {f : Nat → Nat} {m : Nat} : ∀ n, sumTo f (m + n) = sumTo f m + sumTo (fun k => f (m + k)) n := by
  intro n
  induction n with
  | zero => rfl
  | succ n ih => show sumTo f (m + n) + f (m + n) = _; rw [ih]; show _ = sumTo f m + (sumTo (fun k => f (m + k)) n + f (m + n)); omega
theorem pcN_cat {a y n : Nat} (ha : a < 256) : pcN (8 + n) (a + 256 * y) = pcN 8 a + pcN n y := by
  unfold pcN
  rw [sumTo_cat]
  have e1 : sumTo (fun k => (a + 256 * y) / 2 ^ k % 2) 8 = sumTo (fun k => a / 2 ^ k % 2) 8 := sumTo_congr (fun k hk => by
    have : k = 0 ∨ k = 1 ∨ k = 2 ∨ k = 3 ∨ k = 4 ∨ k = 5 ∨ k = 6 ∨ k = 7 := by omega
    rcases this with e | e | e | e | e | e | e | e <;> subst e <;> simp only [Nat.reducePow] <;> omega)
  have e2 : sumTo (fun k => (a + 256 * y) / 2 ^ (8 + k) % 2) n = sumTo (fun k => y / 2 ^ k % 2) n := sumTo_congr (fun k hk => by
    show (a + 256 * y) / 2 ^ (8 + k) % 2 = y / 2 ^ k % 2
    rw [Nat.pow_add, ← Nat.div_div_eq_div_mul]
    have : (a + 256 * y) / 2 ^ 8 = y := by omega
    rw [this])
  rw [e1, e2]
theorem pc_pcN {x : Nat} : pc x = pcN 31 x := sumTo_congr (fun k _ => by rw [Nat.and_one_is_mod, Nat.shiftRight_eq_div_pow])
theorem pcb_pcN {x : Nat} : pcb x = pcN 8 x := sumTo_congr (fun k _ => by rw [Nat.and_one_is_mod, Nat.shiftRight_eq_div_pow])
theorem pc_bytes {a b c d : Nat} (ha : a < 256) (hb : b < 256) (hc : c < 256) (hd : d < 128) : pc (a + 256 * (b + 256 * (c + 256 * d))) = pcb a + pcb b + pcb c + pcb d := by
  rw [pc_pcN, show (31 : Nat) = 8 + (8 + (8 + 7)) from rfl, pcN_cat ha, pcN_cat hb, pcN_cat hc, pcb_pcN, pcb_pcN, pcb_pcN, pcb_pcN]
  have : pcN 8 d = pcN 7 d := by
    show pcN 7 d + d / 2 ^ 7 % 2 = pcN 7 d
    have : d / 2 ^ 7 = 0 := by omega
    omega
  rw [this]
  omega
theorem sw_all {x : Nat} (hx : x < 2147483648) : ∃ a b c d, a < 256 ∧ b < 256 ∧ c < 256 ∧ d < 128 ∧ x = a + 256 * (b + 256 * (c + 256 * d)) := ⟨x % 256, x / 256 % 256, x / 65536 % 256, x / 16777216, by omega, by omega, by omega, by omega, by omega⟩
theorem sw_pc {x : Nat} (hx : x < 2147483648) : (x / 2 &&& 1431655765) ≤ x ∧ sw1 x < 2147483648 ∧ sw2 (sw1 x) < 2147483648 ∧ (sw2 (sw1 x) + sw2 (sw1 x) / 16) < 2147483648 ∧ sw3 (sw2 (sw1 x)) < 2147483648 ∧ sw3 (sw2 (sw1 x)) + sw3 (sw2 (sw1 x)) / 256 < 2147483648 ∧ ((sw3 (sw2 (sw1 x)) + sw3 (sw2 (sw1 x)) / 256 + (sw3 (sw2 (sw1 x)) + sw3 (sw2 (sw1 x)) / 256) / 65536) &&& 63) = pc x := by
  obtain ⟨a, b, c, d, ha, hb, hc, hd', rfl⟩ := sw_all hx
  have hd : d < 256 := by omega
  rw [pc_bytes ha hb hc hd']
  obtain ⟨a1, -, a3, a4, a5, a6, a7, a8⟩ := b1_dec a ha
  obtain ⟨d1, -, d3, d4, d5, d6, d7, d8⟩ := b1_dec b hb
  obtain ⟨c1, -, c3, c4, c5, c6, c7, c8⟩ := b1_dec c hc
  obtain ⟨g1, -, g3, g4, g5, g6, g7, g8⟩ := b1_dec d hd
  have m1 : (1431655765 : Nat) = 85 + 256 * (85 + 256 * (85 + 256 * 85)) := by decide
  have m2 : (858993459 : Nat) = 51 + 256 * (51 + 256 * (51 + 256 * 51)) := by decide
  have m3 : (252645135 : Nat) = 15 + 256 * (15 + 256 * (15 + 256 * 15)) := by decide
  have s1 : ((a + 256 * (b + 256 * (c + 256 * d))) / 2 &&& 1431655765) = (a / 2 &&& 85) + 256 * ((b / 2 &&& 85) + 256 * ((c / 2 &&& 85) + 256 * (d / 2 &&& 85))) := by
    have e : (a + 256 * (b + 256 * (c + 256 * d))) / 2 = (a / 2 + 128 * (b % 2)) + 256 * ((b / 2 + 128 * (c % 2)) + 256 * ((c / 2 + 128 * (d % 2)) + 256 * (d / 2))) := by omega
    rw [e, m1, and_c4 (by omega) (by omega) (by omega) (by omega) (by decide), b1_t ha (by omega), b1_t hb (by omega), b1_t hc (by omega)]
  have t1 : sw1 (a + 256 * (b + 256 * (c + 256 * d))) = b1 a + 256 * (b1 b + 256 * (b1 c + 256 * b1 d)) := by
    unfold sw1 b1; rw [s1]; omega
  have l1 : b1 d ≤ d := by unfold b1; omega
  refine ⟨by rw [s1]; omega, by rw [t1]; omega, ?_⟩
  rw [t1]
  generalize b1 a = a' at *
  generalize b1 b = b' at *
  generalize b1 c = c' at *
  generalize b1 d = d' at *
  have t2 : sw2 (a' + 256 * (b' + 256 * (c' + 256 * d'))) = b2 a' + 256 * (b2 b' + 256 * (b2 c' + 256 * b2 d')) := by
    have e : (a' + 256 * (b' + 256 * (c' + 256 * d'))) / 4 = (a' / 4 + 64 * (b' % 4)) + 256 * ((b' / 4 + 64 * (c' % 4)) + 256 * ((c' / 4 + 64 * (d' % 4)) + 256 * (d' / 4))) := by omega
    unfold sw2 b2
    rw [e, m2, and_c4 a3 d3 c3 g3 (by decide), and_c4 (by omega) (by omega) (by omega) (by omega) (by decide), b2_dec a' a3 _ (by omega), b2_dec b' d3 _ (by omega), b2_dec c' c3 _ (by omega)]
    omega
  rw [t2]
  generalize b2 a' = A at *
  generalize b2 b' = B at *
  generalize b2 c' = C at *
  generalize b2 d' = D at *
  have hA := b3_dec A a4 a5 a6 (B % 16) (by omega)
  have hB := b3_dec B d4 d5 d6 (C % 16) (by omega)
  have hC := b3_dec C c4 c5 c6 (D % 16) (by omega)
  have hD := b3_dec D g4 g5 g6 0 (by omega)
  have t3 : sw3 (A + 256 * (B + 256 * (C + 256 * D))) = pcb a + 256 * (pcb b + 256 * (pcb c + 256 * pcb d)) := by
    have e : A + 256 * (B + 256 * (C + 256 * D)) + (A + 256 * (B + 256 * (C + 256 * D))) / 16 = (A + A / 16 + 16 * (B % 16)) + 256 * ((B + B / 16 + 16 * (C % 16)) + 256 * ((C + C / 16 + 16 * (D % 16)) + 256 * (D + D / 16 + 16 * 0))) := by omega
    unfold sw3
    rw [e, m3, and_c4 hA.2 hB.2 hC.2 hD.2 (by decide), hA.1, hB.1, hC.1, hD.1, a7, d7, c7, g7]
  rw [t3]
  generalize pcb a = p at *
  generalize pcb b = q at *
  generalize pcb c = r at *
  generalize pcb d = s at *
  have w : ∀ y, y &&& 63 = y % 64 := fun y => Nat.and_two_pow_sub_one_eq_mod y 6
  have v1 : (p + 256 * (q + 256 * (r + 256 * s))) / 256 = q + 256 * (r + 256 * s) := by omega
  rw [v1]
  have v2 : (p + 256 * (q + 256 * (r + 256 * s)) + (q + 256 * (r + 256 * s))) / 65536 = (r + s) + 256 * s := by omega
  rw [v2]
  refine ⟨by omega, by omega, by omega, by omega, ?_⟩
  rw [w]
  have v3 : p + 256 * (q + 256 * (r + 256 * s)) + (q + 256 * (r + 256 * s)) + (r + s + 256 * s) = (p + q + r + s) + 64 * (4 * (q + r + s) + 1024 * (r + s) + 262144 * s) := by omega
  rw [v3, Nat.add_mul_mod_self_left]
  exact Nat.mod_eq_of_lt (by omega)
theorem bc_all {x : Nat} (hx : x < 2147483648) : bcI (I x) = I (pc x) := by
  obtain ⟨q1, q2, q3, q4, q5, q6, q7⟩ := sw_pc hx
  have h := bc_any (I x) ((fun _ => none), 0, 0, ((fun _ => none), fun _ => none))
  have sr : ∀ y k, k < 32 → y < 2147483648 → (((I y).toUInt32 >>> ((I k).toUInt32 &&& (31 : Int32).toUInt32)).toInt32) = I (y >>> k) := fun y k h1 h2 => I_ushr (by omega) h1
  unfold f_J3_bitCount at h
  have e1 : (((I x).toUInt32 >>> ((1 : Int32).toUInt32 &&& (31 : Int32).toUInt32)).toInt32) = I (x / 2) := by
    rw [show (1 : Int32) = I 1 from rfl, sr x 1 (by decide) (by omega), Nat.shiftRight_eq_div_pow]
  have e2 : I x - (I (x / 2) &&& 1431655765) = I (sw1 x) := by
    rw [show (1431655765 : Int32) = I 1431655765 from rfl, I_and, I_sub q1]; rfl
  have e3 : (((I (sw1 x)).toUInt32 >>> ((2 : Int32).toUInt32 &&& (31 : Int32).toUInt32)).toInt32) = I (sw1 x / 4) := by
    rw [show (2 : Int32) = I 2 from rfl, sr _ 2 (by decide) (by omega), Nat.shiftRight_eq_div_pow]
  have e4 : (I (sw1 x) &&& 858993459) + (I (sw1 x / 4) &&& 858993459) = I (sw2 (sw1 x)) := by
    rw [show (858993459 : Int32) = I 858993459 from rfl, I_and, I_and, I_add]; rfl
  have e5 : (((I (sw2 (sw1 x))).toUInt32 >>> ((4 : Int32).toUInt32 &&& (31 : Int32).toUInt32)).toInt32) = I (sw2 (sw1 x) / 16) := by
    rw [show (4 : Int32) = I 4 from rfl, sr _ 4 (by decide) (by omega), Nat.shiftRight_eq_div_pow]
  have e6 : I (sw2 (sw1 x) + sw2 (sw1 x) / 16) &&& 252645135 = I (sw3 (sw2 (sw1 x))) := by
    rw [show (252645135 : Int32) = I 252645135 from rfl, I_and]; rfl
  have e7 : (((I (sw3 (sw2 (sw1 x)))).toUInt32 >>> ((8 : Int32).toUInt32 &&& (31 : Int32).toUInt32)).toInt32) = I (sw3 (sw2 (sw1 x)) / 256) := by
    rw [show (8 : Int32) = I 8 from rfl, sr _ 8 (by decide) (by omega), Nat.shiftRight_eq_div_pow]
  have e8 : (((I (sw3 (sw2 (sw1 x)) + sw3 (sw2 (sw1 x)) / 256)).toUInt32 >>> ((16 : Int32).toUInt32 &&& (31 : Int32).toUInt32)).toInt32) = I ((sw3 (sw2 (sw1 x)) + sw3 (sw2 (sw1 x)) / 256) / 65536) := by
    rw [show (16 : Int32) = I 16 from rfl, sr _ 16 (by decide) (by omega), Nat.shiftRight_eq_div_pow]
  simp only [e1, e2, e3, e4, e5, e6, e7, I_add, e8] at h
  rw [show (63 : Int32) = I 63 from rfl, I_and, q7] at h
  exact (congrArg Prod.fst (Option.some.inj h)).symm
theorem cl_bitCountL {a : Nat} {h : PH} (ha : a < 2147483648) : f_J3_bitCount (I a) h = some (I (pc a), h) := by rw [bc_any, bc_all ha]
