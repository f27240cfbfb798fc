/-! PLAIN LAW: the class: turn -/
set_option maxRecDepth 100000
def ttn (R C c : Nat) : Nat := R * (c % C) + R - 1 - c / C
theorem ttn_dec : ∀ R, R < 6 → 2 ≤ R → ∀ C, C < 6 → 2 ≤ C → allB (fun c => decide (ttn R C c < R * C) && (trn R C (ttn R C c) == c) && (ttn R C (trn R C c) == c) && decide (trn R C c < R * C)) (R * C) = true := by decide +kernel
theorem ttn_ok {R C c : Nat} (hR : 2 ≤ R ∧ R ≤ 5) (hC : 2 ≤ C ∧ C ≤ 5) (hc : c < R * C) : ttn R C c < R * C ∧ trn R C (ttn R C c) = c ∧ ttn R C (trn R C c) = c ∧ trn R C c < R * C := by
  have := ttn_dec R (by omega) hR.1 C (by omega) hC.1
  rw [allB_iff] at this
  have h := this c hc
  simp only [Bool.and_eq_true, decide_eq_true_eq, beq_iff_eq] at h
  exact ⟨h.1.1.1, h.1.1.2, h.1.2, h.2⟩
/-- rows taken over in another order -/
def Ft (s : Nat → Nat) (n : Nat) (mu : Nat → Nat) (j : Nat) (F0 : F4) : F4 := (fun d => if d < n ∧ mu d < j then I (s (8 + mu d)) else F0.1 d, fun d => if d < n ∧ mu d < j then I (s (33 + mu d)) else F0.2.1 d, fun d => if d < n ∧ mu d < j then I (s (58 + mu d)) else F0.2.2.1 d, F0.2.2.2)
theorem upd_ft {f g : Nat → Int32} {n j k : Nat} {mu : Nat → Nat} {v : Int32} (hk : k < n) (hm : mu k = j) (hu : ∀ d, d < n → mu d = j → d = k) (hv : v = g j) : upd (fun d => if d < n ∧ mu d < j then g (mu d) else f d) k v = fun d => if d < n ∧ mu d < j + 1 then g (mu d) else f d := by
  subst hv
  funext d
  simp only [upd]
  by_cases z : d = k
  · subst z; rw [if_pos rfl, if_pos ⟨hk, by omega⟩, hm]
  · rw [if_neg z]
    by_cases w : d < n ∧ mu d < j
    · rw [if_pos w, if_pos ⟨w.1, by omega⟩]
    · rw [if_neg w, if_neg (fun q => ?_)]
      by_cases e : mu d = j
      · exact z (hu d q.1 e)
      · exact w ⟨q.1, by omega⟩
section OP9zx
variable {h : PH} {p q mm mm' : Nat} {ms s : Nat → Nat}
theorem trn_L18 {F0 : F4} (hp : h.1 p = some (pgo p mm' (I (s 1)) (I (s 0)))) (H : ∀ F', PgR (pgh h p F') q mm ms s) (hP : PG' s) (hg : ∀ c, c < nc s → s (58 + c) ≤ 1) :
    f_X3_turned_L18 FU (some q) (some p) (I 0) (pgh h p F0) = f_X3_turned_L63 FU (some q) (some p) 0 (pgh h p (Ft s (nc s) (trn (s 0) (s 1)) (nc s) F0)) := by
  have hnc := nc_le hP
  obtain ⟨a1, a2, a3, a4⟩ := id hP
  have e0 : F0 = Ft s (nc s) (trn (s 0) (s 1)) 0 F0 := by
    unfold Ft
    simp only [Nat.not_lt_zero, and_false, if_false]
  refine (congrArg (fun F => f_X3_turned_L18 FU (some q) (some p) (I 0) (pgh h p F)) e0).trans ?_
  refine loop_FU (fun k (j : Nat) => f_X3_turned_L18 k (some q) (some p) (I j) (pgh h p (Ft s (nc s) (trn (s 0) (s 1)) j F0))) (fun j => j) (nc s) _ (by omega) (fun k j hj => ?_) (fun k => ?_)
  · have HH := H (Ft s (nc s) (trn (s 0) (s 1)) j F0)
    obtain ⟨u1', u2, -, -⟩ := ttn_ok ⟨a1, a2⟩ ⟨a3, a4⟩ (show j < s 0 * s 1 from hj)
    have u1 : ttn (s 0) (s 1) j < nc s := u1'
    have hrow := cp_row HH hP hj
    have hcol := cp_col HH hP hj
    have hrp : rcv 3 (some p) (pgh h p (Ft s (nc s) (trn (s 0) (s 1)) j F0)) = some () := rcv_at ((pgh_o (Or.inl (Nat.le_refl _))).trans hp)
    have htk := pgh_take (i := ttn (s 0) (s 1) j) (j := j) hp HH (by have : nc s = s 0 * s 1 := rfl; omega) hj (hg _ hj) (fun F' => H F')
    have hdv : dv j (s 1) < s 0 := (dv_lt hP hj).1
    have eix : I (s 0) * I (md j (s 1)) + I (s 0) - 1 - I (dv j (s 1)) = I (ttn (s 0) (s 1) j) := by
      rw [I_mul, I_add, show (1 : Int32) = I 1 from rfl, I_sub (by omega), I_sub (by omega)]
      rfl
    have uq : ∀ d, d < nc s → trn (s 0) (s 1) d = j → d = ttn (s 0) (s 1) j := fun d hd e => by
      obtain ⟨-, -, v3, -⟩ := ttn_ok ⟨a1, a2⟩ ⟨a3, a4⟩ (show d < s 0 * s 1 from hd)
      rw [e] at v3; exact v3.symm
    have eF : (upd (Ft s (nc s) (trn (s 0) (s 1)) j F0).1 (ttn (s 0) (s 1) j) (I (s (8 + j))), upd (Ft s (nc s) (trn (s 0) (s 1)) j F0).2.1 (ttn (s 0) (s 1) j) (I (s (33 + j))), upd (Ft s (nc s) (trn (s 0) (s 1)) j F0).2.2.1 (ttn (s 0) (s 1) j) (I (s (58 + j))), (Ft s (nc s) (trn (s 0) (s 1)) j F0).2.2.2) = Ft s (nc s) (trn (s 0) (s 1)) (j + 1) F0 := by
      unfold Ft
      dsimp only
      rw [upd_ft (g := fun d => I (s (8 + d))) u1 u2 uq rfl, upd_ft (g := fun d => I (s (33 + d))) u1 u2 uq rfl, upd_ft (g := fun d => I (s (58 + d))) u1 u2 uq rfl]
    rw [eF] at htk
    show f_X3_turned_L18 (k + 1) _ _ (I j) _ = f_X3_turned_L18 k _ _ (I (j + 1)) _
    rw [f_X3_turned_L18, HH.rc, Option.bind_some, cp_cells HH, Option.bind_some, if_neg (by rw [I_le (by omega) (by omega)]; omega), HH.r0, Option.bind_some, HH.rc, Option.bind_some, hcol, Option.bind_some, HH.r0, Option.bind_some, HH.rc, Option.bind_some, hrow, Option.bind_some, hrp, Option.bind_some, eix, htk, Option.bind_some, show I j + 1 = I (j + 1) from I_add _ 1]
  · have HH := H (Ft s (nc s) (trn (s 0) (s 1)) (nc s) F0)
    show f_X3_turned_L18 (k + 1) _ _ (I (nc s)) _ = _
    rw [f_X3_turned_L18, HH.rc, Option.bind_some, cp_cells HH, Option.bind_some, if_pos (by rw [I_le (by omega) (by omega)]; exact Nat.le_refl _)]
/-- the rows' shown sums, from behind -/
def Fr4 (s : Nat → Nat) (j : Nat) (F0 : F4) : F4 := (F0.1, F0.2.1, F0.2.2.1, fun d => if s 1 + s 0 - j ≤ d ∧ d < s 1 + s 0 then I (s (83 + ltrn (s 0) (s 1) d)) else F0.2.2.2 d)
theorem trn_L63 {F0 : F4} (hp : h.1 p = some (pgo p mm' (I (s 1)) (I (s 0)))) (H : ∀ F', PgR (pgh h p F') q mm ms s) (hP : PG' s) (hg : ∀ i, i < s 0 + s 1 → s (83 + i) ≤ 1) :
    f_X3_turned_L63 FU (some q) (some p) (I 0) (pgh h p F0) = f_X3_turned_L103 FU (some q) (some p) 0 (pgh h p (Fr4 s (s 0) F0)) := by
  obtain ⟨a1, a2, a3, a4⟩ := id hP
  have e0 : F0 = Fr4 s 0 F0 := by
    unfold Fr4
    have : (fun d => if s 1 + s 0 - 0 ≤ d ∧ d < s 1 + s 0 then I (s (83 + ltrn (s 0) (s 1) d)) else F0.2.2.2 d) = F0.2.2.2 := by
      funext d; rw [if_neg (by omega)]
    rw [this]
  refine (congrArg (fun F => f_X3_turned_L63 FU (some q) (some p) (I 0) (pgh h p F)) e0).trans ?_
  refine loop_FU (fun k (j : Nat) => f_X3_turned_L63 k (some q) (some p) (I j) (pgh h p (Fr4 s j F0))) (fun j => j) (s 0) _ (by omega) (fun k j hj => ?_) (fun k => ?_)
  · have HH := H (Fr4 s j F0)
    have hr5 : gfr 3 5 (some p) (pgh h p (Fr4 s j F0)) = some (some (p + 4)) := gfr_at (x := some (p + 4)) ((pgh_o (Or.inl (Nat.le_refl _))).trans hp) rfl
    have ei : I (s 1) + I (s 0) - 1 - I j = I (s 1 + s 0 - 1 - j) := by
      rw [I_add, show (1 : Int32) = I 1 from rfl, I_sub (by omega), I_sub (by omega)]
    have hw := pgh_w4 (h := h) (p := p) (F := Fr4 s j F0) (i := s 1 + s 0 - 1 - j) (v := I (s (83 + j))) (by omega)
    have eF : ((Fr4 s j F0).1, (Fr4 s j F0).2.1, (Fr4 s j F0).2.2.1, upd (Fr4 s j F0).2.2.2 (s 1 + s 0 - 1 - j) (I (s (83 + j)))) = Fr4 s (j + 1) F0 := by
      unfold Fr4
      dsimp only
      have : upd (fun d => if s 1 + s 0 - j ≤ d ∧ d < s 1 + s 0 then I (s (83 + ltrn (s 0) (s 1) d)) else F0.2.2.2 d) (s 1 + s 0 - 1 - j) (I (s (83 + j))) = fun d => if s 1 + s 0 - (j + 1) ≤ d ∧ d < s 1 + s 0 then I (s (83 + ltrn (s 0) (s 1) d)) else F0.2.2.2 d := by
        funext d
        simp only [upd]
        by_cases z : d = s 1 + s 0 - 1 - j
        · rw [if_pos z, if_pos (by omega)]
          have : ltrn (s 0) (s 1) d = j := by unfold ltrn; rw [if_neg (by omega)]; omega
          rw [this]
        · rw [if_neg z]
          by_cases w : s 1 + s 0 - j ≤ d ∧ d < s 1 + s 0
          · rw [if_pos w, if_pos (by omega)]
          · rw [if_neg w, if_neg (by omega)]
      rw [this]
    rw [eF] at hw
    show f_X3_turned_L63 (k + 1) _ _ (I j) _ = f_X3_turned_L63 k _ _ (I (j + 1)) _
    rw [f_X3_turned_L63, HH.r0, Option.bind_some, if_neg (by rw [I_le (by omega) (by omega)]; omega), hr5, Option.bind_some, HH.r1, Option.bind_some, Option.bind_some, HH.r5, Option.bind_some, HH.sh (by omega), Option.bind_some, gb_le (hg j (by omega)), Option.bind_some, ei, hw, Option.bind_some, show I j + 1 = I (j + 1) from I_add _ 1]
  · have HH := H (Fr4 s (s 0) F0)
    show f_X3_turned_L63 (k + 1) _ _ (I (s 0)) _ = _
    rw [f_X3_turned_L63, HH.r0, Option.bind_some, if_pos (by rw [I_le (by omega) (by omega)]; exact Nat.le_refl _)]
theorem trn_L103 {F0 : F4} (hp : h.1 p = some (pgo p mm' (I (s 1)) (I (s 0)))) (H : ∀ F', PgR (pgh h p F') q mm ms s) (hP : PG' s) (hg : ∀ i, i < s 0 + s 1 → s (83 + i) ≤ 1) :
    f_X3_turned_L103 FU (some q) (some p) (I 0) (pgh h p F0) = (f_X3_renumber (some p) (pgh h p (Fs s (ltrn (s 0) (s 1)) (s 1) F0))).bind (fun h3 => some (some p, h3)) := by
  obtain ⟨a1, a2, a3, a4⟩ := id hP
  have e0 : F0 = Fs s (ltrn (s 0) (s 1)) 0 F0 := by
    unfold Fs
    simp only [Nat.not_lt_zero, if_false]
  refine (congrArg (fun F => f_X3_turned_L103 FU (some q) (some p) (I 0) (pgh h p F)) e0).trans ?_
  refine loop_FU (fun k (j : Nat) => f_X3_turned_L103 k (some q) (some p) (I j) (pgh h p (Fs s (ltrn (s 0) (s 1)) j F0))) (fun j => j) (s 1) _ (by omega) (fun k j hj => ?_) (fun k => ?_)
  · have HH := H (Fs s (ltrn (s 0) (s 1)) j F0)
    have hr5 : gfr 3 5 (some p) (pgh h p (Fs s (ltrn (s 0) (s 1)) j F0)) = some (some (p + 4)) := gfr_at (x := some (p + 4)) ((pgh_o (Or.inl (Nat.le_refl _))).trans hp) rfl
    have el : ltrn (s 0) (s 1) j = s 0 + j := by unfold ltrn; rw [if_pos hj]
    have hw := pgh_w4 (h := h) (p := p) (F := Fs s (ltrn (s 0) (s 1)) j F0) (i := j) (v := I (s (83 + ltrn (s 0) (s 1) j))) (by omega)
    rw [Fs_up, el] at hw
    show f_X3_turned_L103 (k + 1) _ _ (I j) _ = f_X3_turned_L103 k _ _ (I (j + 1)) _
    rw [f_X3_turned_L103, HH.r1, Option.bind_some, if_neg (by rw [I_le (by omega) (by omega)]; omega), hr5, Option.bind_some, HH.r5, Option.bind_some, HH.r0, Option.bind_some, I_add, HH.sh (by omega), Option.bind_some, gb_le (hg _ (by omega)), Option.bind_some, hw, Option.bind_some, show I j + 1 = I (j + 1) from I_add _ 1]
  · have HH := H (Fs s (ltrn (s 0) (s 1)) (s 1) F0)
    have hrp : rcv 3 (some p) (pgh h p (Fs s (ltrn (s 0) (s 1)) (s 1) F0)) = some () := rcv_at ((pgh_o (Or.inl (Nat.le_refl _))).trans hp)
    show f_X3_turned_L103 (k + 1) _ _ (I (s 1)) _ = _
    rw [f_X3_turned_L103, HH.r1, Option.bind_some, if_pos (by rw [I_le (by omega) (by omega)]; exact Nat.le_refl _), hrp, Option.bind_some]
end OP9zx
section OP9zx2
variable {m x : Nat} {h : PH} {g : GS} {ci : Nat → Nat} {nb : Nat}
theorem c_turn (C : CI m h x g) (hI : RInv g.1) (G : GC h ci nb) (hnb : nb ≤ hn h) : Res m x h (o_turn g) (f_X0_turn (some x) h) := by
  have hQ := hI.1.1
  have hN := hI.1.2.1
  have hP := hQ.1
  have hnc := nc_le hP
  obtain ⟨q1, q2, q3, q4⟩ := id hP
  obtain ⟨-, -, -, -, -, -, -, -, -, -, r0, -⟩ := C.look hP
  obtain ⟨h1, mm1, ms1, f1, fc1, fw1, fs1, a1, a2, a3, a4, a5, a6⟩ := ca_begin C hI.1
  have G1 : GC h1 ci (hn h1) := (G.keep hnb a4).mono (by omega)
  obtain ⟨h2, mm0, ms0, f0, b1, b2, b3, b4, b5, b6, b7, b8, b9⟩ := page_init (R := g.1 1) (C := g.1 0) ⟨q3, q4⟩ ⟨q1, q2⟩ G1
  have HB := a2.pg hP
  have HF := Old.PgR_pgh HB b5
  have hRC : g.1 1 * g.1 0 ≤ 25 := by rw [Nat.mul_comm]; exact hnc.2
  have hcm : g.1 1 * g.1 0 = nc g.1 := Nat.mul_comm _ _
  have hg58 : ∀ c, c < nc g.1 → g.1 (58 + c) ≤ 1 := fun c hc => (hQ.2.2.1 c hc).2.2.1
  have hs83 := hQ.2.2.2.2
  have eM0 : sTrn g.1 0 = g.1 1 := rfl
  have eM1 : sTrn g.1 1 = g.1 0 := rfl
  have enM : nc (sTrn g.1) = nc g.1 := hcm
  have htl : ∀ c, c < nc g.1 → trn (g.1 0) (g.1 1) c < nc g.1 := fun c hc => (ttn_ok ⟨q1, q2⟩ ⟨q3, q4⟩ (show c < g.1 0 * g.1 1 from hc)).2.2.2
  have W : PgW (sTrn g.1) (Fs g.1 (ltrn (g.1 0) (g.1 1)) (g.1 1) (Fr4 g.1 (g.1 0) (Ft g.1 (nc g.1) (trn (g.1 0) (g.1 1)) (nc g.1) (f0, fun _ => 0, fun _ => 0, fun _ => 0)))) := by
    refine ⟨fun c hc => ?_, fun i hi => ?_, fun d => ?_, ?_⟩
    · rw [enM] at hc
      obtain ⟨e1, e2, e3⟩ := reLay_8 (s := g.1) (f := trn (g.1 0) (g.1 1)) (l := ltrn (g.1 0) (g.1 1)) hRC (show c < g.1 1 * g.1 0 by omega)
      have hh : c < nc g.1 ∧ trn (g.1 0) (g.1 1) c < nc g.1 := ⟨hc, htl c hc⟩
      refine ⟨?_, ?_, ?_⟩
      · show (if c < nc g.1 ∧ trn (g.1 0) (g.1 1) c < nc g.1 then I (g.1 (8 + trn (g.1 0) (g.1 1) c)) else _) = _
        rw [if_pos hh]; exact congrArg I e1.symm
      · show (if c < nc g.1 ∧ trn (g.1 0) (g.1 1) c < nc g.1 then I (g.1 (33 + trn (g.1 0) (g.1 1) c)) else _) = _
        rw [if_pos hh]; exact congrArg I e2.symm
      · show (if c < nc g.1 ∧ trn (g.1 0) (g.1 1) c < nc g.1 then I (g.1 (58 + trn (g.1 0) (g.1 1) c)) else _) = _
        rw [if_pos hh]; exact congrArg I e3.symm
    · rw [eM0, eM1] at hi
      have e := reLay_83 (s := g.1) (f := trn (g.1 0) (g.1 1)) (l := ltrn (g.1 0) (g.1 1)) hRC hi
      show (if i < g.1 1 then I (g.1 (83 + ltrn (g.1 0) (g.1 1) i)) else (if g.1 1 + g.1 0 - g.1 0 ≤ i ∧ i < g.1 1 + g.1 0 then I (g.1 (83 + ltrn (g.1 0) (g.1 1) i)) else _)) = _
      by_cases z : i < g.1 1
      · rw [if_pos z]; exact congrArg I e.symm
      · rw [if_neg z, if_pos (by omega)]; exact congrArg I e.symm
    · show (if d < nc g.1 ∧ trn (g.1 0) (g.1 1) d < nc g.1 then I (g.1 (58 + trn (g.1 0) (g.1 1) d)) else 0) = 0 ∨ _
      by_cases z : d < nc g.1 ∧ trn (g.1 0) (g.1 1) d < nc g.1
      · have := b01_I (hg58 _ z.2)
        show (if d < nc g.1 ∧ trn (g.1 0) (g.1 1) d < nc g.1 then I (g.1 (58 + trn (g.1 0) (g.1 1) d)) else 0) = 0 ∨ (if d < nc g.1 ∧ trn (g.1 0) (g.1 1) d < nc g.1 then I (g.1 (58 + trn (g.1 0) (g.1 1) d)) else 0) = 1
        rw [if_pos z]; exact this
      · left; rw [if_neg z]
    · refine b01_fill (g := fun d => I (g.1 (83 + ltrn (g.1 0) (g.1 1) d))) (fun d => ?_) (fun d hd => b01_I (hs83 _ ?_))
      · show (if g.1 1 + g.1 0 - g.1 0 ≤ d ∧ d < g.1 1 + g.1 0 then I (g.1 (83 + ltrn (g.1 0) (g.1 1) d)) else 0) = 0 ∨ (if g.1 1 + g.1 0 - g.1 0 ≤ d ∧ d < g.1 1 + g.1 0 then I (g.1 (83 + ltrn (g.1 0) (g.1 1) d)) else 0) = 1
        by_cases z : g.1 1 + g.1 0 - g.1 0 ≤ d ∧ d < g.1 1 + g.1 0
        · rw [if_pos z]
          exact b01_I (hs83 _ (by unfold ltrn; rw [if_neg (by omega)]; omega))
        · left; rw [if_neg z]
      · unfold ltrn; rw [if_pos hd]; omega
  have h128 : ∀ d, d < nc (sTrn g.1) → sTrn g.1 (8 + d) < 128 := fun d hd => by
    rw [enM] at hd
    obtain ⟨e1, -⟩ := reLay_8 (s := g.1) (f := trn (g.1 0) (g.1 1)) (l := ltrn (g.1 0) (g.1 1)) hRC (show d < g.1 1 * g.1 0 by omega)
    have := Nrm_lt hP hN (htl d hd)
    unfold sTrn
    omega
  have G2 : GC h2 ci (hn h2) := (G1.low b5.2.1 (fun a ha => b5.2.2 a ha)).mono (by omega)
  obtain ⟨h3, h4, d1, d2, d3, d4, d5, d6, d7, d8⟩ := relay_fin (t := sTrn g.1) a2 b5 b8.1 b2 W (QInv_trn hQ) h128 G2 (reLay_lo (by decide) (by decide)) (fun r hr => reLay_lo (by omega) (by omega)) (fun k hk => reLay_hi hRC (by omega) (by omega))
  refine ⟨h4, ?_, d3, Keep_old a4 d4, by omega, by omega⟩
  obtain ⟨-, -, -, -, -, m6, -⟩ := a2.rd
  have e0 : nwO 3 7 [.int 0, .int 0, .null, .null, .null, .null, .null] h1 = some (some (hn h1 + 0), ov h1 [(.inr (3, [.int 0, .int 0, .null, .null, .null, .null, .null]), 7)]) := by
    have := ov_nwO (h := h1) (l := []) (ci := 3) (n := 7) (fs := [.int 0, .int 0, .null, .null, .null, .null, .null])
    rw [ov_nil] at this; exact this
  have HO := HB.ov (l := [(.inr (3, [.int 0, .int 0, .null, .null, .null, .null, .null]), 7)])
  have l18 := trn_L18 (h := h2) (p := hn h1) (F0 := (f0, fun _ => 0, fun _ => 0, fun _ => 0)) b2.1 HF hP hg58
  rw [pgh_self b2] at l18
  have l63 := trn_L63 (h := h2) (p := hn h1) (F0 := Ft g.1 (nc g.1) (trn (g.1 0) (g.1 1)) (nc g.1) (f0, fun _ => 0, fun _ => 0, fun _ => 0)) b2.1 HF hP hs83
  have l103 := trn_L103 (h := h2) (p := hn h1) (F0 := Fr4 g.1 (g.1 0) (Ft g.1 (nc g.1) (trn (g.1 0) (g.1 1)) (nc g.1) (f0, fun _ => 0, fun _ => 0, fun _ => 0))) b2.1 HF hP hs83
  have hmir : f_X3_turned (some (hn h + 2)) h1 = some (some (hn h1), h3) := by
    unfold f_X3_turned
    rw [e0, Option.bind_some, HO.1.r1, Option.bind_some, HO.1.r0, Option.bind_some, nn, Option.bind_some, b1, Option.bind_some]
    show f_X3_turned_L18 FU (some (hn h + 2)) (some (hn h1)) (I 0) h2 = _
    rw [l18]
    show f_X3_turned_L63 FU (some (hn h + 2)) (some (hn h1)) (I 0) _ = _
    rw [l63]
    show f_X3_turned_L103 FU (some (hn h + 2)) (some (hn h1)) (I 0) _ = _
    rw [l103, d1, Option.bind_some]
  unfold f_X0_turn
  rw [r0, Option.bind_some, a1, Option.bind_some, m6, Option.bind_some, HB.1.rc, Option.bind_some, hmir, Option.bind_some, d2, Option.bind_some, d7, Option.bind_some, d8, Option.bind_some]
  rfl
end OP9zx2
