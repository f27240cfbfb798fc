/-! PLAIN LAW: the class: queues by a comparator -/
set_option maxRecDepth 100000
/-- the key of an element, by the comparator's class -/
def KK (kd c v : Nat) : Nat := if kd = 12 then c else if kd = 13 then 1000000 - c else if kd = 14 then (1000000 - v) * 1000000 + c else v * 1000000 + c
def elC (kd : Nat) : Nat := if kd = 20 then 21 else 15
/-- an element with its key -/
def ELX (kd : Nat) (h : PH) (κ : Nat → Nat) (e : Nat) : Prop := ∃ c v : Nat, h.1 e = some (.inr (elC kd, [.int (I c), .int (I v)])) ∧ c < 1000000 ∧ v < 1000000 ∧ κ e = KK kd c v
def kdOK (kd : Nat) : Prop := kd = 12 ∨ kd = 13 ∨ kd = 14 ∨ kd = 20
/-- the order -/
def sgn3 (a b : Nat) : Int32 := if a < b then -1 else if a = b then 0 else 1
theorem sgn3_lt {a b : Nat} : (sgn3 a b < 0) = (a < b) := by
  unfold sgn3
  by_cases h1 : a < b
  · rw [if_pos h1]; simp only [h1, eq_iff_iff, iff_true]; decide
  · rw [if_neg h1]
    by_cases h2 : a = b
    · rw [if_pos h2]; simp only [h1, eq_iff_iff, iff_false]; decide
    · rw [if_neg h2]; simp only [h1, eq_iff_iff, iff_false]; decide
theorem sgn3_gt {a b : Nat} : (0 < sgn3 a b) = (b < a) := by
  unfold sgn3
  by_cases h1 : a < b
  · rw [if_pos h1]
    have : ¬ b < a := by omega
    simp only [this, eq_iff_iff, iff_false]; decide
  · rw [if_neg h1]
    by_cases h2 : a = b
    · rw [if_pos h2]
      have : ¬ b < a := by omega
      simp only [this, eq_iff_iff, iff_false]; decide
    · rw [if_neg h2]
      have : b < a := by omega
      simp only [this, eq_iff_iff, iff_true]; decide
theorem sgn3_le {a b : Nat} : (sgn3 a b ≤ 0) = (a ≤ b) := by
  have := sgn3_gt (a := a) (b := b)
  rw [← Int32.not_lt, this]; simp
theorem J3cmp {a b : Nat} {h : PH} (ha : a < 1000000) (hb : b < 1000000) : f_J3_compare (I a) (I b) h = some (sgn3 a b, h) := by
  unfold f_J3_compare sgn3
  by_cases h1 : a < b
  · rw [if_neg (by rw [I_le (by omega) (by omega)]; omega), if_pos h1]
  · rw [if_pos (by rw [I_le (by omega) (by omega)]; omega), if_neg h1]
    by_cases h2 : a = b
    · subst h2; rw [if_pos rfl, if_pos rfl]
    · rw [if_neg (by rw [I_eq (by omega) (by omega)]; exact h2), if_neg h2]
theorem sgn3_mono {a b c d : Nat} (h : (a < b ↔ c < d) ∧ (a = b ↔ c = d)) : sgn3 a b = sgn3 c d := by
  unfold sgn3; simp only [h.1, h.2]
noncomputable def cmpF (kd : Nat) : Option Nat → Option Nat → Option Nat → PH → Option (Int32 × PH) := if kd = 12 then f_X15_compare else if kd = 13 then f_X16_compare else if kd = 14 then f_X17_compare else f_X23_compare
theorem cmp_all {kd cm e1 e2 : Nat} {h : PH} {κ : Nat → Nat} (hk : kdOK kd) (hc : h.1 cm = some (.inr (kd, []))) (E1 : ELX kd h κ e1) (E2 : ELX kd h κ e2) : cmpF kd (some cm) (some e1) (some e2) h = some (sgn3 (κ e1) (κ e2), h) := by
  obtain ⟨c1, v1, a1, a2, a3, a4⟩ := E1
  obtain ⟨c2, v2, b1, b2, b3, b4⟩ := E2
  have ck1 : chk (elC kd) (some e1) h = some () := by unfold chk; rw [if_pos (Or.inr (clo_at a1))]
  have ck2 : chk (elC kd) (some e2) h = some () := by unfold chk; rw [if_pos (Or.inr (clo_at b1))]
  have rc : rcv kd (some cm) h = some () := rcv_at hc
  have p1 : gfi (elC kd) 0 (some e1) h = some (I c1) := gfi_at a1 rfl
  have p2 : gfi (elC kd) 1 (some e1) h = some (I v1) := gfi_at a1 rfl
  have q1 : gfi (elC kd) 0 (some e2) h = some (I c2) := gfi_at b1 rfl
  have q2 : gfi (elC kd) 1 (some e2) h = some (I v2) := gfi_at b1 rfl
  rw [a4, b4]
  rcases hk with rfl | rfl | rfl | rfl
  · show f_X15_compare _ _ _ h = _
    have e : elC 12 = 15 := rfl
    rw [e] at ck1 ck2 p1 q1
    have k1 : KK 12 c1 v1 = c1 := rfl
    have k2 : KK 12 c2 v2 = c2 := rfl
    rw [k1, k2]
    simp only [f_X15_compare, f_X15_compare_2, ck1, ck2, rc, p1, q1, Option.bind_some, J3cmp a2 b2]
  · show f_X16_compare _ _ _ h = _
    have e : elC 13 = 15 := rfl
    rw [e] at ck1 ck2 p1 q1
    have k1 : KK 13 c1 v1 = 1000000 - c1 := rfl
    have k2 : KK 13 c2 v2 = 1000000 - c2 := rfl
    rw [k1, k2]
    simp only [f_X16_compare, f_X16_compare_2, ck1, ck2, rc, p1, q1, Option.bind_some, J3cmp b2 a2]
    rw [sgn3_mono]
    constructor <;> constructor <;> intro h <;> omega
  · show f_X17_compare _ _ _ h = _
    have e : elC 14 = 15 := rfl
    rw [e] at ck1 ck2 p1 q1 p2 q2
    have k1 : KK 14 c1 v1 = (1000000 - v1) * 1000000 + c1 := rfl
    have k2 : KK 14 c2 v2 = (1000000 - v2) * 1000000 + c2 := rfl
    rw [k1, k2]
    by_cases hv : v1 = v2
    · subst hv
      simp only [f_X17_compare, f_X17_compare_2, ck1, ck2, rc, p1, q1, p2, q2, Option.bind_some, J3cmp a2 b2, if_true]
      rw [sgn3_mono]
      constructor <;> constructor <;> intro h <;> omega
    · have hv' : ¬ I v1 = I v2 := by rw [I_eq (by omega) (by omega)]; exact hv
      simp only [f_X17_compare, f_X17_compare_2, ck1, ck2, rc, p1, q1, p2, q2, Option.bind_some, J3cmp b3 a3, hv', if_false]
      rw [sgn3_mono]
      constructor <;> constructor <;> intro h <;> omega
  · show f_X23_compare _ _ _ h = _
    have e : elC 20 = 21 := rfl
    rw [e] at ck1 ck2 p1 q1 p2 q2
    have k1 : KK 20 c1 v1 = v1 * 1000000 + c1 := rfl
    have k2 : KK 20 c2 v2 = v2 * 1000000 + c2 := rfl
    rw [k1, k2]
    by_cases hv : v1 = v2
    · subst hv
      simp only [f_X23_compare, f_X23_compare_2, ck1, ck2, rc, p1, q1, p2, q2, Option.bind_some, J3cmp a2 b2, if_true]
      rw [sgn3_mono]
      constructor <;> constructor <;> intro h <;> omega
    · have hv' : ¬ I v1 = I v2 := by rw [I_eq (by omega) (by omega)]; exact hv
      simp only [f_X23_compare, f_X23_compare_2, ck1, ck2, rc, p1, q1, p2, q2, Option.bind_some, J3cmp a3 b3, hv', if_false]
      rw [sgn3_mono]
      constructor <;> constructor <;> intro h <;> omega
/-- the comparator is called by its class -/
theorem cmp_disp {kd cm : Nat} {x y : Option Nat} {h : PH} {β : Type} (hk : kdOK kd) (hc : h.1 cm = some (.inr (kd, []))) (G : Int32 × PH → Option β) : (if clo (some cm) h = some 12 then (f_X15_compare (some cm) x y h).bind G else if clo (some cm) h = some 13 then (f_X16_compare (some cm) x y h).bind G else if clo (some cm) h = some 14 then (f_X17_compare (some cm) x y h).bind G else if clo (some cm) h = some 20 then (f_X23_compare (some cm) x y h).bind G else none) = (cmpF kd (some cm) x y h).bind G := by
  rw [clo_at hc]
  rcases hk with rfl | rfl | rfl | rfl <;> rfl
/-! heaps of numbers -/
def par (i : Nat) : Nat := (i - 1) / 2
def cnt (q : Nat → Nat) (n y : Nat) : Nat := sumTo (fun i => if q i = y then 1 else 0) n
def nqs (q : Nat → Nat) (i x : Nat) : Nat → Nat := fun j => if j = i then x else q j
def HP (κ q : Nat → Nat) (n : Nat) : Prop := ∀ i, 0 < i → i < n → κ (q (par i)) ≤ κ (q i)
theorem cnt_set {q : Nat → Nat} {n i x y : Nat} (hi : i < n) : cnt (nqs q i x) n y + (if q i = y then 1 else 0) = cnt q n y + (if x = y then 1 else 0) := by
  have := sumTo_upd (f := fun j => if q j = y then 1 else 0) (f' := fun j => if nqs q i x j = y then 1 else 0) hi (fun j hj => by simp only [nqs, if_neg hj])
  have e : (if nqs q i x i = y then 1 else 0) = (if x = y then 1 else 0) := by simp [nqs]
  simp only [e] at this
  exact this
theorem cnt_swap {q : Nat → Nat} {n i j y : Nat} (hi : i < n) (hj : j < n) (hij : i ≠ j) : cnt (nqs (nqs q i (q j)) j (q i)) n y = cnt q n y := by
  have h1 := cnt_set (q := q) (x := q j) (y := y) hi
  have h2 := cnt_set (q := nqs q i (q j)) (x := q i) (y := y) hj
  have e : nqs q i (q j) j = q j := by unfold nqs; rw [if_neg (Ne.symm hij)]
  rw [e] at h2
  omega
theorem cnt_pos {q : Nat → Nat} {y : Nat} : ∀ n, 0 < cnt q n y ↔ ∃ i, i < n ∧ q i = y := by
  intro n
  induction n with
  | zero => simp [cnt, sumTo]
  | succ n ih =>
    have e : cnt q (n + 1) y = cnt q n y + (if q n = y then 1 else 0) := rfl
    rw [e]
    constructor
    · intro h
      by_cases h1 : q n = y
      · exact ⟨n, by omega, h1⟩
      · rw [if_neg h1] at h
        obtain ⟨i, h2, h3⟩ := ih.mp (by omega)
        exact ⟨i, by omega, h3⟩
    · rintro ⟨i, h1, h2⟩
      by_cases h3 : i = n
      · subst h3; rw [if_pos h2]; omega
      · have := ih.mpr ⟨i, by omega, h2⟩; omega
theorem cnt_congr {q q' : Nat → Nat} {n y : Nat} (h : ∀ i, i < n → q i = q' i) : cnt q n y = cnt q' n y := sumTo_congr (fun i hi => by simp only [h i hi])
/-- the root is least -/
theorem HP_root {κ q : Nat → Nat} {n : Nat} (H : HP κ q n) : ∀ i, i < n → κ (q 0) ≤ κ (q i) := by
  intro i
  induction i using Nat.strongRecOn with
  | _ i ih =>
    intro hi
    by_cases h0 : i = 0
    · subst h0; exact Nat.le_refl _
    · have h1 := H i (by omega) hi
      have h2 := ih (par i) (by unfold par; omega) (by unfold par; omega)
      omega
