/-! PLAIN LAW: the reference's calls: pages -/
set_option maxRecDepth 100000
def na (x : Int32) : Nat := x.toNatClampNeg
def bt (x : Int32) (a b : Nat) : Bool := decide (I a ≤ x) && decide (x ≤ I b)
theorem bt_iff {x : Int32} {a b : Nat} : bt x a b = true ↔ (I a ≤ x ∧ x ≤ I b) := by simp [bt]
theorem bt_na {x : Int32} {a b : Nat} (ha : a < 2147483648) (hb : b < 2147483648) (h : bt x a b = true) : x = I (na x) ∧ a ≤ na x ∧ na x ≤ b := by
  obtain ⟨h1, h2⟩ := bt_iff.mp h
  rw [Int32.le_iff_toInt_le, I_toInt ha] at h1
  rw [Int32.le_iff_toInt_le, I_toInt hb] at h2
  have e : (na x : Int) = x.toInt := by show (x.toInt.toNat : Int) = x.toInt; omega
  refine ⟨Int32.toInt_inj.mp ?_, by omega, by omega⟩
  rw [I_toInt (by omega), e]
theorem bt_I {n a b : Nat} (hn : n < 2147483648) (ha : a < 2147483648) (hb : b < 2147483648) : bt (I n) a b = (decide (a ≤ n) && decide (n ≤ b)) := by
  simp only [bt, I_le ha hn, I_le hn hb]
theorem na_I {n : Nat} (hn : n < 2147483648) : na (I n) = n := I_clamp hn
theorem lt_nle {x y : Int32} : x < y ↔ ¬ y ≤ x := by
  rw [Int32.lt_iff_toInt_lt, Int32.le_iff_toInt_le]; omega
theorem inZ {x : Int32} {a b : Nat} {g : PH} : f_X13_in x (I a) (I b) g = some (I (bit (bt x a b = true)), g) := by
  simp only [f_X13_in, lit_I]
  by_cases h1 : x < I a
  · rw [if_pos h1, bit_f (fun h => lt_nle.mp h1 (bt_iff.mp h).1)]
  · rw [if_neg h1]
    have h1' : I a ≤ x := by
      by_cases h : I a ≤ x
      · exact h
      · exact absurd (lt_nle.mpr h) h1
    by_cases h2 : I b < x
    · rw [if_pos h2, bit_f (fun h => lt_nle.mp h2 (bt_iff.mp h).2)]
    · have h2' : x ≤ I b := by
        by_cases h : x ≤ I b
        · exact h
        · exact absurd (lt_nle.mpr h) h2
      rw [if_neg h2, bit_t (bt_iff.mpr ⟨h1', h2'⟩)]
section TWz
variable {m : Nat} {v : Nat → Int32} {A : Nat → Nat → Nat} {h : PH}
theorem isCellZ {x : Int32} (hP : PG' (A 1)) : f_X13_isCell (some m) x (TW m v A h) = some (I (bit (bt x 0 (nc (A 1) - 1) = true)), TW m v A h) := by
  have hn := nc_le hP
  simp (disch := omega) only [f_X13_isCell, tw_rcv, tw_cells, Option.bind_some, lit_I, I_sub, inZ, gb_bit]
theorem isLineZ {x : Int32} (hP : PG' (A 1)) : f_X13_isLine (some m) x (TW m v A h) = some (I (bit (bt x 0 (A 1 0 + A 1 1 - 1) = true)), TW m v A h) := by
  obtain ⟨a1, a2, a3, a4⟩ := hP
  simp (disch := omega) only [f_X13_isLine, tw_rcv, tw_lines, Option.bind_some, lit_I, I_sub, inZ, gb_bit]
theorem isNumberZ {x y : Int32} (hA : SB (A 1)) (hP : PG' (A 1)) : f_X13_isNumber (some m) x y (TW m v A h) = some (I (bit ((bt x 0 (nc (A 1) - 1) && bt y 1 (bsz (A 1) (A 1 (8 + na x)))) = true)), TW m v A h) := by
  have hn := nc_le hP
  cases h1 : bt x 0 (nc (A 1) - 1) with
  | true =>
    obtain ⟨e, -, h2⟩ := bt_na (by decide) (by omega) h1
    have hm := tw_mostIn (m := m) (v := v) (h := h) (c := na x) (by omega) hA hP
    rw [← e] at hm
    simp (disch := first | omega | assumption) only [tw_rcv, tw_r1, tw_r2, tw_r3, tw_r5, tw_r7, tw_r12, tw_r14, tw_r15, tw_r16, tw_r17, tw_r18, Option.bind_some, lit_I, I_add, I_mul, I_le, I_lt, I_eq, if_neg, if_pos, if_true, if_false, I_10, I_01, bit_T, bit_F, bit_F', bit_0, bit_1, gb_bit, tw_s, tw_rw, tw_cells, tw_blockOf, tw_numberOf, aset_eq, aset_ne, aset_aset, Bool.false_eq_true, not_true_eq_false, not_false_eq_true, f_X13_isNumber, isCellZ hP, h1, hm, inZ, Bool.true_and]
    cases h3 : bt y 1 (bsz (A 1) (A 1 (8 + na x))) <;> simp [bit]
  | false => simp (disch := first | omega | assumption) only [tw_rcv, tw_r1, tw_r2, tw_r3, tw_r5, tw_r7, tw_r12, tw_r14, tw_r15, tw_r16, tw_r17, tw_r18, Option.bind_some, lit_I, I_add, I_mul, I_le, I_lt, I_eq, if_neg, if_pos, if_true, if_false, I_10, I_01, bit_T, bit_F, bit_F', bit_0, bit_1, gb_bit, tw_s, tw_rw, tw_cells, tw_blockOf, tw_numberOf, aset_eq, aset_ne, aset_aset, Bool.false_eq_true, not_true_eq_false, not_false_eq_true, f_X13_isNumber, isCellZ hP, h1, Bool.false_and]
end TWz
/-! how many blocks there are -/
theorem maxTo_ge {f : Nat → Nat} : ∀ {n i}, i < n → f i ≤ maxTo f n := by
  intro n
  induction n with
  | zero => intro i h; omega
  | succ n ih =>
    intro i h
    simp only [maxTo]
    rcases Nat.lt_succ_iff_lt_or_eq.mp h with h1 | h1
    · have := ih h1; omega
    · subst h1; omega
theorem maxTo_le {f : Nat → Nat} {B : Nat} : ∀ {n}, (∀ i, i < n → f i ≤ B) → maxTo f n ≤ B := by
  intro n
  induction n with
  | zero => intro _; exact Nat.zero_le _
  | succ n ih => intro h; have h1 := h n (by omega); have h2 := ih (fun i hi => h i (by omega)); simp only [maxTo]; omega
theorem maxTo_congr {f g : Nat → Nat} : ∀ {n}, (∀ i, i < n → f i = g i) → maxTo f n = maxTo g n := by
  intro n
  induction n with
  | zero => intro _; rfl
  | succ n ih => intro hf; simp only [maxTo]; rw [ih (fun i hi => hf i (by omega)), hf n (by omega)]
theorem rkTo_last {s : Nat → Nat} (h0 : isF s 0 = true) : ∀ n, ∃ d, d ≤ n ∧ isF s d = true ∧ rkTo s (n + 1) = rkTo s d + 1 := by
  intro n
  induction n with
  | zero => exact ⟨0, Nat.le_refl _, h0, by show rkTo s 0 + bit (isF s 0 = true) = _; rw [bit_t h0]⟩
  | succ n ih =>
    have e : rkTo s (n + 1 + 1) = rkTo s (n + 1) + bit (isF s (n + 1) = true) := rfl
    by_cases h1 : isF s (n + 1) = true
    · exact ⟨n + 1, Nat.le_refl _, h1, by rw [e, bit_t h1]⟩
    · obtain ⟨d, h2, h3, h4⟩ := ih
      exact ⟨d, by omega, h3, by rw [e, bit_f h1, h4]⟩
theorem nblk_rk {s : Nat → Nat} (hP : PG' s) (hN : Nrm s) : nblk s = rkTo s (nc s) := by
  have hn := nc_le hP
  have h0 : isF s 0 = true := by
    have := fst_spec (s := s) (c := 0) (by omega)
    unfold isF; simp; omega
  obtain ⟨d, h1, h2, h3⟩ := rkTo_last h0 (nc s - 1)
  have e : nc s - 1 + 1 = nc s := by omega
  rw [e] at h3
  have hd : fst s d = d := by unfold isF at h2; simpa using h2
  have hge := maxTo_ge (f := fun c => s (8 + c)) (n := nc s) (i := d) (by omega)
  rw [hN d (by omega), rk, hd] at hge
  have hle : maxTo (fun c => s (8 + c)) (nc s) ≤ rkTo s (nc s) - 1 := maxTo_le (fun c hc => by
    rw [hN c hc]
    have h4 := fst_spec hc
    have h5 := rkTo_mono (s := s) (show fst s c + 1 ≤ nc s by omega)
    have h6 : rkTo s (fst s c + 1) = rkTo s (fst s c) + bit (isF s (fst s c) = true) := rfl
    rw [bit_t (by unfold isF; rw [fst_fst hc]; simp)] at h6
    unfold rk; omega)
  unfold nblk
  omega
/-! a page laid -/
def lay0 (R C : Nat) : Nat → Nat := fun k => if k = 0 then R else if k = 1 then C else if 8 ≤ k then (k - 8) / C else 0
def layOK (R C : Nat) : Bool := allB (fun c => lay0 R C (8 + c) == rk (lay0 R C) c && decide (bsz (lay0 R C) (lay0 R C (8 + c)) ≤ 6)) (R * C)
theorem lay_dec : ∀ R, R < 6 → 2 ≤ R → ∀ C, C < 6 → 2 ≤ C → layOK R C = true := by decide +kernel
/-- a page with its blocks in rows, nothing written -/
def sPage (s : Nat → Nat) (R C : Nat) : Nat → Nat := sHide (sLay s R C 25) 10
theorem sPage_Eq {s : Nat → Nat} {R C : Nat} : sPage s R C 0 = R ∧ sPage s R C 1 = C ∧ ∀ k, k < 8 + R * C → 8 ≤ k → R * C ≤ 25 → sPage s R C k = lay0 R C k := by
  refine ⟨rfl, rfl, fun k h1 h2 h3 => ?_⟩
  unfold sPage sHide sLay lay0
  rw [if_neg (by omega), if_neg (by omega), if_neg (by omega), if_pos (by omega), if_pos (by omega), if_neg (by omega), if_neg (by omega), if_pos h2]
theorem QInv_page0 {s : Nat → Nat} {R C : Nat} (h : s 2 < 32 ∧ ∀ r, r < 5 → 1 ≤ s (3 + r) ∧ s (3 + r) ≤ 9) (hR : 2 ≤ R ∧ R ≤ 5) (hC : 2 ≤ C ∧ C ≤ 5) : QInv (sPage s R C) ∧ Nrm (sPage s R C) := by
  obtain ⟨e0, e1, e8⟩ := sPage_Eq (s := s) (R := R) (C := C)
  have hRC : R * C ≤ 25 := Nat.mul_le_mul hR.2 hC.2
  have en : nc (sPage s R C) = R * C := by unfold nc; rw [e0, e1]
  have en0 : nc (lay0 R C) = R * C := rfl
  have hd := lay_dec R (by omega) hR.1 C (by omega) hC.1
  unfold layOK at hd
  rw [allB_iff] at hd
  have hlo : ∀ k, 2 ≤ k → k < 8 → sPage s R C k = s k := fun k h1 h2 => by
    unfold sPage sHide sLay; simp (disch := omega) only [if_neg]
  have hb : ∀ b, bsz (sPage s R C) b = bsz (lay0 R C) b := fun b => by
    unfold bsz; rw [en, en0]; exact sumTo_congr (fun i hi => by rw [e8 (8 + i) (by omega) (by omega) hRC])
  have hf : ∀ c, c < R * C → fst (sPage s R C) c = fst (lay0 R C) c := fun c hc => by
    unfold fst; rw [en, en0]
    rw [firstI_congr (fun d hd => by rw [e8 (8 + d) (by omega) (by omega) hRC, e8 (8 + c) (by omega) (by omega) hRC])]
  have hr : ∀ c, c < R * C → rk (sPage s R C) c = rk (lay0 R C) c := fun c hc => by
    have h1 := fst_spec (s := lay0 R C) (c := c) (by rw [en0]; exact hc)
    unfold rk rkTo
    rw [hf c hc]
    exact sumTo_congr (fun d hd => by unfold isF; rw [hf d (by omega)])
  have hz : ∀ c, c < R * C → sPage s R C (33 + c) = 0 ∧ sPage s R C (58 + c) = 0 := fun c hc => by
    unfold sPage sHide sLay
    constructor
    · rw [if_neg (by omega), if_neg (by omega), if_neg (by omega), if_neg (by omega), if_pos (by omega)]
    · rw [if_neg (by omega), if_neg (by omega), if_neg (by omega), if_neg (by omega), if_neg (by omega), if_pos (by omega)]
  refine ⟨⟨⟨by omega, by omega, by omega, by omega⟩, ⟨by rw [hlo 2 (by decide) (by decide)]; exact h.1, fun r hr' => by rw [hlo (3 + r) (by omega) (by omega)]; exact h.2 r hr'⟩, fun c hc => ?_, fun c d hc hd' _ _ _ => ?_, fun i hi => ?_⟩, fun c hc => ?_⟩
  · rw [en] at hc
    have h1 := hd c hc
    simp only [Bool.and_eq_true, decide_eq_true_eq] at h1
    rw [e8 (8 + c) (by omega) (by omega) hRC, hb, (hz c hc).1, (hz c hc).2]
    exact ⟨h1.2, Nat.zero_le _, by decide, fun h => by cases h⟩
  · rw [en] at hc; exact (hz c hc).1
  · rw [e0, e1] at hi
    unfold sPage sHide; rw [if_pos (by omega)]; decide
  · rw [en] at hc
    have h1 := hd c hc
    simp only [Bool.and_eq_true, beq_iff_eq] at h1
    rw [e8 (8 + c) (by omega) (by omega) hRC, hr c hc]
    exact h1.1
theorem QInv_page {s : Nat → Nat} {R C : Nat} (h : QInv s) (hR : 2 ≤ R ∧ R ≤ 5) (hC : 2 ≤ C ∧ C ≤ 5) : QInv (sPage s R C) ∧ Nrm (sPage s R C) := QInv_page0 h.2.1 hR hC
theorem sPage_SB {s : Nat → Nat} {R C : Nat} (h : SB s) (hR : R ≤ 5) (hC : C ≤ 5) : SB (sPage s R C) := by
  intro k
  have h1 := h k
  have h2 : (k - 8) / C ≤ k - 8 := Nat.div_le_self _ _
  unfold sPage sHide sLay
  generalize (k - 8) / C = z at h2
  repeat' split
  all_goals omega
theorem nup_SB {g : Nat → Nat} {j x : Nat} (h : SB g) (hx : x < 1000000) : SB (nup g j x) := nup_lt h hx
def o_setPage (g : GS) (x y : Int32) : Int32 × GS := if (bt x 2 5 && bt y 2 5) = true then (I (nblk (sReset (sPage g.1 (na x) (na y)))), (sReset (sPage g.1 (na x) (na y)), push g.2.1 g.1, g.2.2)) else (-1, g)
section TWp
variable {m : Nat} {v : Nat → Int32} {A : Nat → Nat → Nat} {h : PH} {g : GS}
theorem tw_p0 {x : Int32} : pf 11 0 (some m) (.int x) (TW m v A h) = some (TW m (vup v 0 x) A h) := tw_pf (k := 0) rfl
theorem TI_v0 {x : Int32} (hT : TI v A g) : TI (vup v 0 x) A g := by
  obtain ⟨h1, h2, h3, h4, h5, h6⟩ := hT
  exact ⟨h1, h2, h3, by rw [vup_ne _ (by decide)]; exact h4, by rw [vup_ne _ (by decide)]; exact h5, h6⟩
/-- the row kept -/
theorem tw_actT (hT : TI v A g) : ∃ v' A', f_X13_act (some m) (TW m v A h) = some (TW m v' A' h) ∧ TI v' A' (g.1, push g.2.1 g.1, g.2.2) ∧ VK v (fun k => if k = 4 then v 4 else v' k) ∧ (∀ o, o ≠ 3 → A' o = A o) := by
  obtain ⟨h1, h2, h3, h4, h5, h6⟩ := hT
  obtain ⟨g3, b1, b2, b3⟩ := tw_act (m := m) (h := h) h4 h3 h1
  rw [h2] at b1 b2
  refine ⟨_, _, b1, ⟨AB_set h1 b3, by rw [aset_ne (by decide)]; exact h2, by rw [aset_eq]; exact b2, vup_eq _ _, by rw [vup_ne _ (by decide)]; exact h5, by rw [aset_ne (by decide)]; exact h6⟩, fun k h7 h8 => ?_, fun o ho => aset_ne ho⟩
  by_cases e : k = 4
  · simp [e]
  · simp only [if_neg e, vup_ne _ e]
/-- the row put in place -/
theorem TI_set {s : Nat → Nat} (hT : TI v A g) (hs : SB s) : TI v (aset A 1 s) (s, g.2) := by
  obtain ⟨h1, h2, h3, h4, h5, h6⟩ := hT
  exact ⟨AB_set h1 hs, aset_eq, by rw [aset_ne (by decide)]; exact h3, h4, h5, by rw [aset_ne (by decide)]; exact h6⟩
theorem tw_resetT (hT : TI v A g) (hQ : QInv g.1) : ∃ A', f_X13_reset (some m) (TW m v A h) = some (TW m v A' h) ∧ TI v A' (sReset g.1, g.2) ∧ (∀ o, o ≠ 1 → o ≠ 5 → A' o = A o) ∧ A' 5 = wTo (fb g.1) (A 5) (nc g.1) := by
  have hT' := hT
  obtain ⟨h1, h2, h3, h4, h5, h6⟩ := hT
  have hr := tw_reset (m := m) (v := v) (h := h) (h1 1) (by rw [h2]; exact hQ.1) (by rw [h2]; exact hQ.NB)
  rw [h2] at hr
  refine ⟨_, hr, ?_, fun o o1 o5 => by rw [aset_ne o1, aset_ne o5], by rw [aset_ne (by decide), aset_eq]⟩
  have hs : SB g.1 := by rw [← h2]; exact h1 1
  have := TI_set (A := aset A 5 (wTo (fb g.1) (A 5) (nc g.1))) (g := g) (v := v) (s := sReset g.1) ⟨AB_set h1 (wTo_SB (fb_W7 hQ.NB) (h1 5)), by rw [aset_ne (by decide)]; exact h2, by rw [aset_ne (by decide)]; exact h3, h4, h5, by rw [aset_ne (by decide)]; exact h6⟩ (sReset_SB hs hQ)
  exact this
theorem tw_setPage {x y : Int32} (hT : TI v A g) (hI : RInv g.1) : ∃ v' A', f_X13_setPage (some m) x y (TW m v A h) = some ((o_setPage g x y).1, TW m v' A' h) ∧ TI v' A' (o_setPage g x y).2 := by
  unfold o_setPage
  cases h1 : bt x 2 5 with
  | false =>
    refine ⟨_, _, ?_, TI_v0 (x := I 0) hT⟩
    simp (disch := first | omega | assumption) only [tw_rcv, tw_r1, tw_r2, tw_r3, tw_r5, tw_r7, tw_r12, tw_r14, tw_r15, tw_r16, tw_r17, tw_r18, Option.bind_some, lit_I, I_add, I_mul, I_le, I_lt, I_eq, if_neg, if_pos, if_true, if_false, I_10, I_01, bit_T, bit_F, bit_F', bit_0, bit_1, gb_bit, tw_s, tw_rw, tw_cells, tw_blockOf, tw_numberOf, aset_eq, aset_ne, aset_aset, Bool.false_eq_true, not_true_eq_false, not_false_eq_true, f_X13_setPage, tw_p0, inZ, h1, Bool.false_and]
  | true =>
  cases h2 : bt y 2 5 with
  | false =>
    refine ⟨_, _, ?_, TI_v0 (x := I 0) hT⟩
    simp (disch := first | omega | assumption) only [tw_rcv, tw_r1, tw_r2, tw_r3, tw_r5, tw_r7, tw_r12, tw_r14, tw_r15, tw_r16, tw_r17, tw_r18, Option.bind_some, lit_I, I_add, I_mul, I_le, I_lt, I_eq, if_neg, if_pos, if_true, if_false, I_10, I_01, bit_T, bit_F, bit_F', bit_0, bit_1, gb_bit, tw_s, tw_rw, tw_cells, tw_blockOf, tw_numberOf, aset_eq, aset_ne, aset_aset, Bool.false_eq_true, not_true_eq_false, not_false_eq_true, f_X13_setPage, tw_p0, inZ, h1, h2, Bool.true_and]
  | true =>
    obtain ⟨ex, x1, x2⟩ := bt_na (by decide) (by decide) h1
    obtain ⟨ey, y1, y2⟩ := bt_na (by decide) (by decide) h2
    obtain ⟨v1, A1, a1, a2, a3, -⟩ := tw_actT (m := m) (h := h) (TI_v0 (x := I 0) hT)
    have hl := tw_lay (m := m) (v := v1) (A := A1) (h := h) (R := na x) (C := na y) x2 ⟨by omega, y2⟩
    rw [a2.2.1, ← ex, ← ey] at hl
    have hs : SB g.1 := by rw [← hT.2.1]; exact hT.1 1
    have hq := QInv_page (R := na x) (C := na y) hI.1.1 ⟨x1, x2⟩ ⟨y1, y2⟩
    have t2 := TI_set (s := sPage g.1 (na x) (na y)) a2 (sPage_SB hs x2 y2)
    obtain ⟨A3, c1, c2, c3, -⟩ := tw_resetT (m := m) (h := h) t2 hq.1
    have hb := tw_blocks (m := m) (v := v1) (A := A3) (h := h) (by rw [c2.2.1]; rw [← c2.2.1]; exact c2.1 1) (by rw [c2.2.1]; exact (PInv_sReset hq.1 hq.2).1.1)
    rw [c2.2.1] at hb
    refine ⟨v1, A3, ?_, c2⟩
    have hl' : f_X13_lay (some m) x y (TW m v1 A1 h) = some (TW m v1 (aset A1 1 (sPage g.1 (na x) (na y))) h) := hl
    simp (disch := first | omega | assumption) only [tw_rcv, tw_r1, tw_r2, tw_r3, tw_r5, tw_r7, tw_r12, tw_r14, tw_r15, tw_r16, tw_r17, tw_r18, Option.bind_some, lit_I, I_add, I_mul, I_le, I_lt, I_eq, if_neg, if_pos, if_true, if_false, I_10, I_01, bit_T, bit_F, bit_F', bit_0, bit_1, gb_bit, tw_s, tw_rw, tw_cells, tw_blockOf, tw_numberOf, aset_eq, aset_ne, aset_aset, Bool.false_eq_true, not_true_eq_false, not_false_eq_true, f_X13_setPage, tw_p0, inZ, h1, h2, a1, hl', c1, hb, Bool.true_and]
end TWp
