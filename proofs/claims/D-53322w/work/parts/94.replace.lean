/-! PLAIN LAW: the class: the history grows by one -/
set_option maxRecDepth 100000
def pushA (la : List Nat) (st : Nat) : List Nat := (if la.length = 5 then la.tail else la) ++ [st]
theorem I_sub_toInt {a b : Nat} (ha : a < 1000000) (hb : b < 1000000) : (I a - I b).toInt = (a : Int) - b := by
  rw [Int32.toInt_sub, I_toInt (show a < 2147483648 by omega), I_toInt (show b < 2147483648 by omega), Int.bmod_eq_of_le (by omega) (by omega)]
theorem dq_sub {hd k : Nat} {h : PH} (hh : hd < 17) (hk : k < 17) : f_J15_sub (I ((hd + k) % 17)) (I hd) (I 17) h = some (I k, h) := by
  unfold f_J15_sub
  have hm : (hd + k) % 17 < 17 := Nat.mod_lt _ (by decide)
  have e := I_sub_toInt (a := (hd + k) % 17) (b := hd) (by omega) (by omega)
  by_cases q : hd ≤ (hd + k) % 17
  · rw [if_pos (by rw [Int32.le_iff_toInt_le, e]; show (0 : Int) ≤ _; omega), I_sub q]
    have : (hd + k) % 17 - hd = k := by omega
    rw [this]
  · rw [if_neg (by rw [Int32.le_iff_toInt_le, e]; show ¬ (0 : Int) ≤ _; omega)]
    have e2 : I ((hd + k) % 17) - I hd + I 17 = I k := by
      apply Int32.toInt_inj.mp
      rw [Int32.toInt_add, e, I_toInt (show 17 < 2147483648 by decide), I_toInt (show k < 2147483648 by omega), Int.bmod_eq_of_le (by omega) (by omega)]
      omega
    rw [e2]
theorem dq_inc {i : Nat} {h : PH} (hi : i < 17) : f_J15_inc (I i) (I 17) h = some (I ((i + 1) % 17), h) := by
  unfold f_J15_inc
  by_cases q : i = 16
  · subst q; simp (disch := first | omega | assumption) only [lit_I, I_add, I_lt, if_neg]
  · have e : (i + 1) % 17 = i + 1 := by omega
    rw [e]
    simp (disch := first | omega | assumption) only [lit_I, I_add, I_lt, if_pos]
theorem eok6 {h : PH} {a : Nat} {o : List Value} (ha : h.1 a = some (.inr (1, o))) : eok 6 h (some a) = true := by
  simp only [eok, cno, ha]; rfl
/-- the object's state is another one, the old is kept -/
theorem cq_replace {h : PH} {x st d da u v st' : Nat} {la : List Nat} (hx : h.1 x = some (eso st d u v)) (D : DqX h d da la) (hst : ∃ o, h.1 st = some (.inr (1, o))) (hla : ∀ a, a ∈ la → ∃ o, h.1 a = some (.inr (1, o))) :
    ∃ hd fe, f_X0_replace (some x) (some st') h = some (hset (hset (hset h da (rar 6 17 fe)) d (.inr (26, [.ref da, .int (I hd), .int (I ((hd + (pushA la st).length) % 17))]))) x (eso st' d u v)) ∧ hd < 17 ∧ (pushA la st).length ≤ 5 ∧ ∀ i a, (pushA la st)[i]? = some a → fe ((hd + i) % 17) = some a := by
  obtain ⟨hd, fe, a1, a2, a3, a4, a5⟩ := D
  obtain ⟨ost, hst⟩ := hst
  have hxd : x ≠ d := by intro e; subst e; rw [hx] at a3; cases a3
  have hxa : x ≠ da := by intro e; subst e; rw [hx] at a4; cases a4
  have hda : d ≠ da := by intro e; subst e; rw [a3] at a4; cases a4
  have hsta : st ≠ da := by intro e; subst e; rw [hst] at a4; cases a4
  have hstd : st ≠ d := by intro e; subst e; rw [hst] at a3; cases a3
  have x1 : gfr 0 1 (some x) h = some (some d) := gfr_at (x := some d) hx rfl
  have x0 : gfr 0 0 (some x) h = some (some st) := gfr_at (x := some st) hx rfl
  have d0 : gfr 26 0 (some d) h = some (some da) := gfr_at (x := some da) a3 rfl
  have d1 : gfi 26 1 (some d) h = some (I hd) := gfi_at a3 rfl
  have d2 : gfi 26 2 (some d) h = some (I ((hd + la.length) % 17)) := gfi_at a3 rfl
  have dl : aln 6 (some da) h = some (I 17) := aln_at a4
  have drc : rcv 26 (some d) h = some () := rcv_at a3
  have hsz : f_J15_size (some d) h = some (I la.length, h) := by
    simp only [f_J15_size, d0, d1, d2, dl, Option.bind_some, dq_sub a1 (show la.length < 17 by omega)]
  -- the adding at the end
  have hadd : ∀ (g : PH) (hd : Nat) (fe : Nat → Option Nat) (k : Nat), hd < 17 → k < 6 → g.1 x = some (eso st d u v) → g.1 d = some (.inr (26, [.ref da, .int (I hd), .int (I ((hd + k) % 17))])) → g.1 da = some (rar 6 17 fe) → g.1 st = some (.inr (1, ost)) → f_X0_replace_B22 (some x) (some st') g = some (hset (hset (hset g da (rar 6 17 (va_up fe ((hd + k) % 17) (some st)))) d (.inr (26, [.ref da, .int (I hd), .int (I ((hd + (k + 1)) % 17))]))) x (eso st' d u v)) := by
    intro g hd fe k b1 b2 b3 b4 b5 b6
    have hm : (hd + k) % 17 < 17 := Nat.mod_lt _ (by decide)
    have x1 : gfr 0 1 (some x) g = some (some d) := gfr_at (x := some d) b3 rfl
    have x0 : gfr 0 0 (some x) g = some (some st) := gfr_at (x := some st) b3 rfl
    have e1 : asr 6 (some da) (I ((hd + k) % 17)) (some st) g = some (hset g da (rar 6 17 (va_up fe ((hd + k) % 17) (some st)))) := asr_at b5 hm (by decide) (eok6 b6)
    have c4 : (hset g da (rar 6 17 (va_up fe ((hd + k) % 17) (some st)))).1 d = some (.inr (26, [.ref da, .int (I hd), .int (I ((hd + k) % 17))])) := (hset_ne hda).trans b4
    have e2 : pf 26 2 (some d) (.int (I ((hd + (k + 1)) % 17))) (hset g da (rar 6 17 (va_up fe ((hd + k) % 17) (some st)))) = some (hset (hset g da (rar 6 17 (va_up fe ((hd + k) % 17) (some st)))) d (.inr (26, [.ref da, .int (I hd), .int (I ((hd + (k + 1)) % 17))]))) := pf_at c4 (by simp)
    have e3 : aln 6 (some da) (hset g da (rar 6 17 (va_up fe ((hd + k) % 17) (some st)))) = some (I 17) := aln_at hset_at
    have e4 : ((hd + k) % 17 + 1) % 17 = (hd + (k + 1)) % 17 := by omega
    have e5 : ¬ I hd = I ((hd + (k + 1)) % 17) := by rw [I_eq (by omega) (by omega)]; omega
    have r0 : gfr 26 0 (some d) g = some (some da) := gfr_at (x := some da) b4 rfl
    have r2 : gfi 26 2 (some d) g = some (I ((hd + k) % 17)) := gfi_at b4 rfl
    have r1' : gfi 26 1 (some d) (hset g da (rar 6 17 (va_up fe ((hd + k) % 17) (some st)))) = some (I hd) := gfi_at c4 rfl
    have r2' : gfi 26 2 (some d) (hset g da (rar 6 17 (va_up fe ((hd + k) % 17) (some st)))) = some (I ((hd + k) % 17)) := gfi_at c4 rfl
    have c5 : (hset (hset g da (rar 6 17 (va_up fe ((hd + k) % 17) (some st)))) d (.inr (26, [.ref da, .int (I hd), .int (I ((hd + (k + 1)) % 17))]))).1 x = some (eso st d u v) := (hset_ne hxd).trans ((hset_ne hxa).trans b3)
    have e6 : pf 0 0 (some x) (.ref st') (hset (hset g da (rar 6 17 (va_up fe ((hd + k) % 17) (some st)))) d (.inr (26, [.ref da, .int (I hd), .int (I ((hd + (k + 1)) % 17))]))) = some (hset (hset (hset g da (rar 6 17 (va_up fe ((hd + k) % 17) (some st)))) d (.inr (26, [.ref da, .int (I hd), .int (I ((hd + (k + 1)) % 17))]))) x (eso st' d u v)) := pf_at c5 (by simp)
    have hal : f_J15_addLast (some d) (some st) g = some (hset (hset g da (rar 6 17 (va_up fe ((hd + k) % 17) (some st)))) d (.inr (26, [.ref da, .int (I hd), .int (I ((hd + (k + 1)) % 17))]))) := by
      simp only [f_J15_addLast, reduceCtorEq, if_false, r0, r2, e1, r1', r2', e3, Option.bind_some, dq_inc hm, e4, e2, e5]
    simp only [f_X0_replace_B22, x1, x0, rcv_at b4, hal, Option.bind_some, va_rf, e6]
  unfold f_X0_replace
  by_cases q : la.length = 5
  · obtain ⟨a0, lt, rfl⟩ : ∃ a0 lt, la = a0 :: lt := by
      cases la with
      | nil => simp at q
      | cons a0 lt => exact ⟨a0, lt, rfl⟩
    simp only [List.length_cons] at q
    have hlt : lt.length = 4 := by omega
    have ef : fe hd = some a0 := by
      have := a5 0 a0 rfl
      rwa [Nat.add_zero, Nat.mod_eq_of_lt a1] at this
    have e1 : alr 6 (some da) (I hd) h = some (some a0) := by rw [alr_at a4 a1 (by decide), ef]
    have e2 : asr 6 (some da) (I hd) none h = some (hset h da (rar 6 17 (va_up fe hd none))) := asr_at a4 a1 (by decide) rfl
    have e3 : aln 6 (some da) (hset h da (rar 6 17 (va_up fe hd none))) = some (I 17) := aln_at hset_at
    have c4 : (hset h da (rar 6 17 (va_up fe hd none))).1 d = some (.inr (26, [.ref da, .int (I hd), .int (I ((hd + (a0 :: lt).length) % 17))])) := (hset_ne hda).trans a3
    have e4 : pf 26 1 (some d) (.int (I ((hd + 1) % 17))) (hset h da (rar 6 17 (va_up fe hd none))) = some (hset (hset h da (rar 6 17 (va_up fe hd none))) d (.inr (26, [.ref da, .int (I ((hd + 1) % 17)), .int (I ((hd + (a0 :: lt).length) % 17))]))) := pf_at c4 (by simp)
    have hrm : f_J15_removeFirst (some d) h = some (some a0, hset (hset h da (rar 6 17 (va_up fe hd none))) d (.inr (26, [.ref da, .int (I ((hd + 1) % 17)), .int (I ((hd + (a0 :: lt).length) % 17))]))) := by
      simp only [f_J15_removeFirst, f_J15_pollFirst, f_J15_elementAt, drc, d0, d1, e1, Option.bind_some, reduceCtorEq, if_false, e2, e3, dq_inc a1, e4]
    obtain ⟨oa, hoa⟩ := hla a0 (by simp)
    have ha0d : a0 ≠ d := by intro e; subst e; rw [hoa] at a3; cases a3
    have ha0a : a0 ≠ da := by intro e; subst e; rw [hoa] at a4; cases a4
    have hchk : chk 1 (some a0) (hset (hset h da (rar 6 17 (va_up fe hd none))) d (.inr (26, [.ref da, .int (I ((hd + 1) % 17)), .int (I ((hd + (a0 :: lt).length) % 17))]))) = some () := by
      unfold chk
      rw [if_pos (Or.inr _)]
      exact clo_at ((hset_ne ha0d).trans ((hset_ne ha0a).trans hoa))
    have hk : (hd + (a0 :: lt).length) % 17 = ((hd + 1) % 17 + 4) % 17 := by simp only [List.length_cons, hlt]; omega
    have := hadd (hset (hset h da (rar 6 17 (va_up fe hd none))) d (.inr (26, [.ref da, .int (I ((hd + 1) % 17)), .int (I ((hd + (a0 :: lt).length) % 17))]))) ((hd + 1) % 17) (va_up fe hd none) 4 (Nat.mod_lt _ (by decide)) (by decide) ((hset_ne hxd).trans ((hset_ne hxa).trans hx)) (by rw [hset_at, hk]) ((hset_ne (Ne.symm hda)).trans hset_at) ((hset_ne hstd).trans ((hset_ne hsta).trans hst))
    have hpl : pushA (a0 :: lt) st = lt ++ [st] := by unfold pushA; rw [if_pos (by simp [hlt])]; rfl
    refine ⟨(hd + 1) % 17, va_up (va_up fe hd none) (((hd + 1) % 17 + 4) % 17) (some st), ?_, Nat.mod_lt _ (by decide), ?_, fun i a hi => ?_⟩
    · have hsz5 : f_J15_size (some d) h = some (I 5, h) := by rw [hsz]; simp [hlt]
      simp (disch := first | omega | assumption) only [x1, drc, Option.bind_some, hsz5, lit_I, if_true, hrm, hchk]
      rw [this, hpl, List.length_append, hlt]
      rw [hset_comm (a := d) (b := da) hda, hset_hset, hset_hset]
      rfl
    · rw [hpl, List.length_append, hlt]; exact Nat.le_refl 5
    · rw [hpl] at hi
      by_cases e : i = 4
      · subst e
        rw [List.getElem?_append_right (by omega), hlt] at hi
        simp at hi; subst hi
        exact va_up_self _ _ _
      · have hi4 : i < 4 := by
          have := (List.getElem?_eq_some_iff.mp hi).1
          rw [List.length_append, hlt] at this
          simp at this; omega
        rw [List.getElem?_append_left (by omega)] at hi
        rw [va_up_ne _ _ (by omega), va_up_ne _ _ (by omega)]
        have := a5 (i + 1) a (by simpa using hi)
        rw [← this]; congr 1; omega
  · have hpl : pushA la st = la ++ [st] := by unfold pushA; rw [if_neg q]
    have := hadd h hd fe la.length a1 (by omega) hx a3 a4 hst
    refine ⟨hd, va_up fe ((hd + la.length) % 17) (some st), ?_, a1, ?_, fun i a hi => ?_⟩
    · simp (disch := first | omega | assumption) only [x1, drc, Option.bind_some, hsz, lit_I, I_eq, if_neg]
      rw [this, hpl, List.length_append]
      rfl
    · rw [hpl, List.length_append]; simp only [List.length_cons, List.length_nil]; omega
    · rw [hpl] at hi
      by_cases e : i = la.length
      · subst e
        rw [List.getElem?_append_right (by omega)] at hi
        simp at hi; subst hi
        exact va_up_self _ _ _
      · have hi4 : i < la.length := by
          have := (List.getElem?_eq_some_iff.mp hi).1
          rw [List.length_append] at this
          simp at this; omega
        rw [List.getElem?_append_left (by omega)] at hi
        rw [va_up_ne _ _ (by omega)]
        exact a5 i a hi
