/-! PLAIN LAW: what holds of a row; the reference and its ghost -/
set_option maxRecDepth 100000
/-- what holds of a page, its answer, clues, rules, and the player's board; but the numbers of the blocks -/
def QInv (s : Nat → Nat) : Prop := PG' s ∧ (s 2 < 32 ∧ ∀ r, r < 5 → 1 ≤ s (3 + r) ∧ s (3 + r) ≤ 9) ∧ (∀ c, c < nc s → bsz s (s (8 + c)) ≤ 6 ∧ s (33 + c) ≤ bsz s (s (8 + c)) ∧ s (58 + c) ≤ 1 ∧ (s (58 + c) = 1 → s (33 + c) ≠ 0)) ∧ (∀ c d, c < nc s → d < nc s → c ≠ d → s (8 + c) = s (8 + d) → s (33 + c) = s (33 + d) → s (33 + c) = 0) ∧ (∀ i, i < s 0 + s 1 → s (83 + i) ≤ 1)
/-- the blocks have their numbers by their first cells -/
def Nrm (s : Nat → Nat) : Prop := ∀ c, c < nc s → s (8 + c) = rk s c
def BdI (s : Nat → Nat) : Prop := ∀ c, c < nc s → s (93 + c) < 128 ∧ (s (93 + c)).testBit 0 = false
def PInv (s : Nat → Nat) : Prop := QInv s ∧ Nrm s ∧ BdI s
/-- a snapshot's page -/
def slt (s : Nat → Nat) (q : Nat) : Nat → Nat := fun k => s (119 + 119 * q + k)
def RInv (s : Nat → Nat) : Prop := PInv s ∧ ∀ q, q < 2 → s (118 + 119 * q) ≤ 1 ∧ (s (118 + 119 * q) = 1 → PInv (slt s q))
/-- row, kept rows, how many characters, the text -/
abbrev GS : Type := (Nat → Nat) × List (Nat → Nat) × Nat × (Nat → Nat)
def TI (v : Nat → Int32) (A : Nat → Nat → Nat) (g : GS) : Prop := AB A ∧ A 1 = g.1 ∧ SV (A 3) g.2.1 ∧ v 4 = I g.2.1.length ∧ v 6 = I g.2.2.1 ∧ A 4 = g.2.2.2
theorem bsz_pos {s : Nat → Nat} {c : Nat} (hc : c < nc s) : 1 ≤ bsz s (s (8 + c)) := by
  have : sumTo (fun _ => 0) (nc s) < bsz s (s (8 + c)) := sumTo_slt (j := c) (fun _ _ => Nat.zero_le _) hc (by simp)
  omega
theorem QInv.NB {s : Nat → Nat} (h : QInv s) : NB s := by
  intro c hc
  have h1 := h.2.2.1 c hc
  have h2 := bsz_pos hc
  omega
theorem EqN356 {s t : Nat → Nat} (h : EqN 356 s t) (q : Nat) (hq : q < 2) : EqN 118 (slt s q) (slt t q) := fun k hk => h _ (by omega)
theorem bsz_Eq {s t : Nat → Nat} (h : EqN 118 s t) (hP : PG' s) {b : Nat} : bsz s b = bsz t b := by
  have hn := nc_le hP
  unfold bsz
  rw [nc_of (h 0 (by decide)) (h 1 (by decide))]
  have h2 : nc t = nc s := (nc_of (h 0 (by decide)) (h 1 (by decide))).symm
  exact sumTo_congr (fun i hi => by rw [h (8 + i) (by omega)])
theorem fst_Eq {s t : Nat → Nat} (h : EqN 118 s t) (hP : PG' s) {c : Nat} (hc : c < nc s) : fst s c = fst t c := by
  have hn := nc_le hP
  have h2 : nc s = nc t := nc_of (h 0 (by decide)) (h 1 (by decide))
  unfold fst
  rw [← h2, firstI_congr (fun d hd => by rw [h (8 + d) (by omega), h (8 + c) (by omega)])]
theorem rk_Eq {s t : Nat → Nat} (h : EqN 118 s t) (hP : PG' s) {c : Nat} (hc : c < nc s) : rk s c = rk t c := by
  have h1 := fst_spec hc
  unfold rk rkTo
  rw [← fst_Eq h hP hc]
  exact sumTo_congr (fun d hd => by unfold isF; rw [fst_Eq h hP (show d < nc s by omega)])
theorem PInv_Eq {s t : Nat → Nat} (h : EqN 118 s t) (hI : PInv s) : PInv t := by
  obtain ⟨⟨hP, ⟨h2, h3⟩, h4, h5, h6⟩, h7, h8⟩ := hI
  have hn := nc_le hP
  have en : nc t = nc s := (nc_of (h 0 (by decide)) (h 1 (by decide))).symm
  have hP' := hP
  obtain ⟨a1, a2, a3, a4⟩ := hP
  have e0 := h 0 (by decide)
  have e1 := h 1 (by decide)
  refine ⟨⟨PG_of e0.symm e1.symm hP', ⟨by rw [← h 2 (by decide)]; exact h2, fun r hr => by rw [← h (3 + r) (by omega)]; exact h3 r hr⟩, fun c hc => ?_, fun c d hc hd hcd => ?_, fun i hi => ?_⟩, fun c hc => ?_, fun c hc => ?_⟩
  · rw [en] at hc
    rw [← h (8 + c) (by omega), ← bsz_Eq h hP', ← h (33 + c) (by omega), ← h (58 + c) (by omega)]
    exact h4 c hc
  · rw [en] at hc hd
    rw [← h (8 + c) (by omega), ← h (8 + d) (by omega), ← h (33 + c) (by omega), ← h (33 + d) (by omega)]
    exact h5 c d hc hd hcd
  · rw [← e0, ← e1] at hi
    rw [← h (83 + i) (by omega)]
    exact h6 i hi
  · rw [en] at hc
    rw [← h (8 + c) (by omega), ← rk_Eq h hP' hc]
    exact h7 c hc
  · rw [en] at hc
    rw [← h (93 + c) (by omega)]
    exact h8 c hc
theorem RInv_Eq {s t : Nat → Nat} (h : EqN 356 s t) (hI : RInv s) : RInv t := by
  refine ⟨PInv_Eq (fun k hk => h k (by omega)) hI.1, fun q hq => ?_⟩
  rw [← h (118 + 119 * q) (by omega)]
  exact ⟨(hI.2 q hq).1, fun h1 => PInv_Eq (EqN356 h q hq) ((hI.2 q hq).2 h1)⟩
/-! the blocks numbered: the same blocks -/
theorem rkTo_mono {s : Nat → Nat} {a b : Nat} (h : a ≤ b) : rkTo s a ≤ rkTo s b := by
  induction b with
  | zero => have : a = 0 := by omega
            subst this; exact Nat.le_refl _
  | succ b ih =>
    rcases Nat.lt_or_ge b a with h1 | h1
    · have : a = b + 1 := by omega
      subst this; exact Nat.le_refl _
    · have := ih h1
      have e : rkTo s (b + 1) = rkTo s b + bit (isF s b = true) := rfl
      omega
theorem fst_fst {s : Nat → Nat} {c : Nat} (hc : c < nc s) : fst s (fst s c) = fst s c := by
  have h1 := fst_spec hc
  exact (fst_eq hc (by omega)).mpr h1.2.1
theorem rk_eq {s : Nat → Nat} {c d : Nat} (hc : c < nc s) (hd : d < nc s) : rk s c = rk s d ↔ s (8 + c) = s (8 + d) := by
  rw [← fst_eq hd hc]
  constructor
  · intro h
    unfold rk at h
    have key : ∀ a b, a < nc s → b < nc s → fst s a < fst s b → rkTo s (fst s a) < rkTo s (fst s b) := fun a b ha hb hlt => by
      have h1 := rkTo_mono (s := s) (show fst s a + 1 ≤ fst s b by omega)
      have e : rkTo s (fst s a + 1) = rkTo s (fst s a) + bit (isF s (fst s a) = true) := rfl
      rw [bit_t (by unfold isF; rw [fst_fst ha]; simp)] at e
      omega
    rcases Nat.lt_trichotomy (fst s c) (fst s d) with h1 | h1 | h1
    · have := key c d hc hd h1; omega
    · exact h1
    · have := key d c hd hc h1; omega
  · intro h; unfold rk; rw [h]
theorem sRen_ne {s : Nat → Nat} {k : Nat} (h : k < 8 ∨ 33 ≤ k) (hP : PG' s) : sRen s k = s k := by
  have hn := nc_le hP
  unfold sRen; rw [if_neg (by omega)]
theorem sRen_8 {s : Nat → Nat} {c : Nat} (hc : c < nc s) : sRen s (8 + c) = rk s c := by
  unfold sRen; rw [if_pos (by omega), Nat.add_sub_cancel_left]
theorem nc_sRen {s : Nat → Nat} (hP : PG' s) : nc (sRen s) = nc s := nc_of (sRen_ne (by omega) hP) (sRen_ne (by omega) hP)
theorem bsz_sRen {s : Nat → Nat} {c : Nat} (hP : PG' s) (hc : c < nc s) : bsz (sRen s) (sRen s (8 + c)) = bsz s (s (8 + c)) := by
  unfold bsz
  rw [nc_sRen hP]
  refine sumTo_congr (fun d hd => ?_)
  rw [sRen_8 hd, sRen_8 hc]
  simp only [rk_eq hd hc]
theorem fst_sRen {s : Nat → Nat} {c : Nat} (hP : PG' s) (hc : c < nc s) : fst (sRen s) c = fst s c := by
  unfold fst
  rw [nc_sRen hP, firstI_congr (fun d hd => ?_)]
  rw [sRen_8 hd, sRen_8 hc]
  exact Bool.eq_iff_iff.mpr (by simp only [beq_iff_eq, rk_eq hd hc])
theorem rk_sRen {s : Nat → Nat} {c : Nat} (hP : PG' s) (hc : c < nc s) : rk (sRen s) c = rk s c := by
  have h1 := fst_spec hc
  unfold rk rkTo
  rw [fst_sRen hP hc]
  exact sumTo_congr (fun d hd => by unfold isF; rw [fst_sRen hP (show d < nc s by omega)])
theorem QInv_sRen {s : Nat → Nat} (h : QInv s) : QInv (sRen s) ∧ Nrm (sRen s) := by
  obtain ⟨hP, ⟨h2, h3⟩, h4, h5, h6⟩ := h
  have hn := nc_le hP
  have en := nc_sRen hP
  have e0 : sRen s 0 = s 0 := sRen_ne (by omega) hP
  have e1 : sRen s 1 = s 1 := sRen_ne (by omega) hP
  have hP' := hP
  obtain ⟨a1, a2, a3, a4⟩ := hP
  refine ⟨⟨PG_of e0 e1 hP', ⟨by rw [sRen_ne (by omega) hP']; exact h2, fun r hr => by rw [sRen_ne (by omega) hP']; exact h3 r hr⟩, fun c hc => ?_, fun c d hc hd hcd => ?_, fun i hi => ?_⟩, fun c hc => ?_⟩
  · rw [en] at hc
    rw [bsz_sRen hP' hc, sRen_ne (k := 33 + c) (by omega) hP', sRen_ne (k := 58 + c) (by omega) hP']
    exact h4 c hc
  · rw [en] at hc hd
    rw [sRen_8 hc, sRen_8 hd, rk_eq hc hd, sRen_ne (k := 33 + c) (by omega) hP', sRen_ne (k := 33 + d) (by omega) hP']
    exact h5 c d hc hd hcd
  · rw [e0, e1] at hi
    rw [sRen_ne (by omega) hP']; exact h6 i hi
  · rw [en] at hc
    rw [sRen_8 hc, rk_sRen hP' hc]
/-! the reset -/
theorem sReset_lo {s : Nat → Nat} {k : Nat} (h : k < 93 ∨ 118 ≤ k) : sReset s k = s k := by
  unfold sReset sBrd; rw [if_neg (by omega)]
theorem nc_sReset {s : Nat → Nat} : nc (sReset s) = nc s := nc_of (sReset_lo (by omega)) (sReset_lo (by omega))
theorem sReset_93 {s : Nat → Nat} {c : Nat} (hP : PG' s) (hc : c < nc s) : sReset s (93 + c) = fb s c := by
  have hn := nc_le hP
  unfold sReset sBrd; rw [if_pos (by omega), Nat.add_sub_cancel_left, if_pos hc]
theorem fb_0 {s : Nat → Nat} {c : Nat} (h : QInv s) (hc : c < nc s) : (fb s c).testBit 0 = false := by
  obtain ⟨h1, h2, h3, h4⟩ := h.2.2.1 c hc
  unfold fb
  split
  · rename_i e
    rw [sh1_tb]; have := h4 e; simp; omega
  · have h5 := bsz_pos hc
    obtain ⟨k, hk⟩ : ∃ k, bsz s (s (8 + c)) = k + 1 := ⟨bsz s (s (8 + c)) - 1, by omega⟩
    rw [hk, Nat.one_shiftLeft, Nat.pow_succ, Nat.pow_succ]
    have : 2 ^ k * 2 * 2 - 2 = 2 * (2 ^ k * 2 - 1) := by have := Nat.two_pow_pos k; omega
    rw [this]
    simp [Nat.testBit]
theorem QInv_Eq93 {s t : Nat → Nat} (h : EqN 93 s t) (hI : QInv s) : QInv t := by
  obtain ⟨hP, ⟨h2, h3⟩, h4, h5, h6⟩ := hI
  have hn := nc_le hP
  have en : nc t = nc s := (nc_of (h 0 (by decide)) (h 1 (by decide))).symm
  have hP' := hP
  obtain ⟨a1, a2, a3, a4⟩ := hP
  have e0 := h 0 (by decide)
  have e1 := h 1 (by decide)
  have hb : ∀ b, bsz t b = bsz s b := fun b => by
    unfold bsz; rw [en]; exact sumTo_congr (fun i hi => by rw [h (8 + i) (by omega)])
  refine ⟨PG_of e0.symm e1.symm hP', ⟨by rw [← h 2 (by decide)]; exact h2, fun r hr => by rw [← h (3 + r) (by omega)]; exact h3 r hr⟩, fun c hc => ?_, fun c d hc hd hcd => ?_, fun i hi => ?_⟩
  · rw [en] at hc
    rw [← h (8 + c) (by omega), hb, ← h (33 + c) (by omega), ← h (58 + c) (by omega)]
    exact h4 c hc
  · rw [en] at hc hd
    rw [← h (8 + c) (by omega), ← h (8 + d) (by omega), ← h (33 + c) (by omega), ← h (33 + d) (by omega)]
    exact h5 c d hc hd hcd
  · rw [← e0, ← e1] at hi
    rw [← h (83 + i) (by omega)]
    exact h6 i hi
theorem Nrm_Eq {s t : Nat → Nat} (h : EqN 33 s t) (hP : PG' s) (hI : Nrm s) : Nrm t := by
  have hn := nc_le hP
  have en : nc t = nc s := (nc_of (h 0 (by decide)) (h 1 (by decide))).symm
  have hf : ∀ c, c < nc s → fst t c = fst s c := fun c hc => by
    unfold fst; rw [en]
    rw [firstI_congr (fun d hd => by rw [← h (8 + d) (by omega), ← h (8 + c) (by omega)])]
  intro c hc
  rw [en] at hc
  have h1 := fst_spec hc
  have e : rk t c = rk s c := by
    unfold rk rkTo
    rw [hf c hc]
    exact sumTo_congr (fun d hd => by unfold isF; rw [hf d (by omega)])
  rw [e, ← h (8 + c) (by omega)]
  exact hI c hc
theorem PInv_sReset {s : Nat → Nat} (h : QInv s) (hN : Nrm s) : PInv (sReset s) := by
  have e : EqN 93 s (sReset s) := fun k hk => (sReset_lo (by omega)).symm
  refine ⟨QInv_Eq93 e h, Nrm_Eq (fun k hk => e k (by omega)) h.1 hN, fun c hc => ?_⟩
  rw [nc_sReset] at hc
  rw [sReset_93 h.1 hc]
  exact ⟨fb_W7 h.NB c hc, fb_0 h hc⟩
theorem RInv_hi {s t : Nat → Nat} (hI : RInv s) (hP : PInv t) (he : ∀ k, 118 ≤ k → t k = s k) : RInv t := by
  refine ⟨hP, fun q hq => ?_⟩
  rw [he _ (by omega)]
  have e : slt t q = slt s q := by funext k; exact he _ (by omega)
  rw [e]; exact hI.2 q hq
theorem sReset_SB {s : Nat → Nat} (hs : SB s) (h : QInv s) : SB (sReset s) := by
  intro k
  have h1 := hs k
  unfold sReset sBrd
  split
  · split
    · rename_i h2 h3
      have := fb_W7 h.NB (k - 93) h3; omega
    · decide
  · exact h1
