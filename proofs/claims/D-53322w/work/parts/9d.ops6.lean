/-! PLAIN LAW: the class: strikes -/
set_option maxRecDepth 100000
section SV9d
variable {h : PH} {p mm b v ra : Nat} {ms ru : Nat → Nat} {s w : Nat → Nat}
theorem cs_fr5 {rules c n : Nat} (C : CU h p mm ms s w b v ra ru) (hb : WB s w) (hru : rules < 1000000) (hc : c < nc s) (hn' : n ≤ 6) : ∀ (d r k : Nat) (q : Int32 × Int32 × Int32), r + d = 5 → d < k →
    ∃ q', f_X5_findRule_L5 k (some v) (some b) (I rules) (I c) (I n) (sol h v ra (I r, q)) = some (I (bit ((firstFrom (fun r => rules.testBit r && (causeC s w r c n).isSome) d r).isSome = true)), sol h v ra q') ∧ ∀ r', firstFrom (fun r => rules.testBit r && (causeC s w r c n).isSome) d r = some r' → q' = (I r', I c, I n, cz (causeC s w r' c n)) := by
  have hbr : brk s w = false := by
    refine Bool.eq_false_iff.mpr (fun z => ?_)
    unfold brk at z
    rw [anyB_iff] at z
    obtain ⟨c, hc, h0⟩ := z
    exact (hb c hc).1 (by simpa using h0)
  intro d
  induction d with
  | zero =>
    intro r k q hr hk
    obtain ⟨k, rfl⟩ : ∃ k', k = k' + 1 := ⟨k - 1, by omega⟩
    refine ⟨(I r, q), ?_, fun t ht => by simp [firstFrom] at ht⟩
    have e : (firstFrom (fun r => rules.testBit r && (causeC s w r c n).isSome) 0 r).isSome = false := rfl
    rw [e]
    simp (disch := first | omega | assumption) only [f_X5_findRule_L5, sv_1, Option.bind_some, lit_I, I_le, if_pos, Bool.false_eq_true, bit_F']
  | succ d ih =>
    intro r k q hr hk
    obtain ⟨k, rfl⟩ : ∃ k', k = k' + 1 := ⟨k - 1, by omega⟩
    have C1 := C.sol (q := (I r, q))
    have hib := cb_isBroken C1.1 C1.2.1 C1.2.2.2.1 C1.2.2.2.2.2.2.2.2.1
    rw [hbr] at hib
    have hhas := cl_has (g := sol h v ra (I r, q)) (show rules < 2147483648 by omega) (show r < 32 by omega)
    cases ht : rules.testBit r with
    | false =>
      rw [ht] at hhas
      obtain ⟨q2, g1, g2⟩ := ih (r + 1) k q (by omega) (by omega)
      have e : firstFrom (fun r => rules.testBit r && (causeC s w r c n).isSome) (d + 1) r = firstFrom (fun r => rules.testBit r && (causeC s w r c n).isSome) d (r + 1) := by simp [firstFrom, ht]
      rw [e]
      refine ⟨q2, ?_, g2⟩
      rw [← g1]
      simp (disch := first | omega | assumption) only [f_X5_findRule_L5, f_X5_findRule_B44, sv_1, sv_p1, C1.2.1.rc, hib, hhas, Option.bind_some, lit_I, I_le, if_neg, Bool.false_eq_true, bit_F', if_true, I_add]
    | true =>
      rw [ht] at hhas
      have hst := cs_isStrike (q2 := q.1) (q3 := q.2.1) (q4 := q.2.2) C hb (show r < 5 by omega) hc hn'
      cases hcs : (causeC s w r c n).isSome with
      | true =>
        rw [hcs] at hst
        have e : firstFrom (fun r => rules.testBit r && (causeC s w r c n).isSome) (d + 1) r = some r := by simp [firstFrom, ht, hcs]
        rw [e]
        refine ⟨(I r, I c, I n, cz (causeC s w r c n)), ?_, fun t ht => by cases ht; rfl⟩
        rw [show (some r : Option Nat).isSome = true from rfl]
        simp (disch := first | omega | assumption) only [f_X5_findRule_L5, sv_1, sv_rc, C1.2.1.rc, hib, hhas, hst, Option.bind_some, lit_I, I_le, if_neg, Bool.false_eq_true, bit_F', if_true, bit_T, I_10, if_false]
      | false =>
        rw [hcs] at hst
        obtain ⟨q2, g1, g2⟩ := ih (r + 1) k (I c, I n, cz (causeC s w r c n)) (by omega) (by omega)
        have e : firstFrom (fun r => rules.testBit r && (causeC s w r c n).isSome) (d + 1) r = firstFrom (fun r => rules.testBit r && (causeC s w r c n).isSome) d (r + 1) := by simp [firstFrom, hcs]
        rw [e]
        refine ⟨q2, ?_, g2⟩
        rw [← g1]
        simp (disch := first | omega | assumption) only [f_X5_findRule_L5, f_X5_findRule_B44, sv_1, sv_rc, sv_p1, C1.2.1.rc, hib, hhas, hst, Option.bind_some, lit_I, I_le, if_neg, Bool.false_eq_true, bit_F', if_true, bit_T, I_10, if_false, I_add]
theorem cs_findRule {c n : Nat} (C : CU h p mm ms s w b v ra ru) (hru : s 2 < 1000000) (hc : c < nc s) (hn' : n ≤ 6) (hbit : (w c).testBit n = true) :
    ∃ q', f_X5_findRule (some v) (some b) (I (s 2)) (I c) (I n) h = some (I (bit ((strk s w c n).isSome = true)), sol h v ra q') ∧ ∀ t, strk s w c n = some t → q' = (I t.1, I c, I n, I t.2) := by
  obtain ⟨q0, hq0⟩ := C.2.2.1.self
  have e1 : pf 5 1 (some v) (.int 0) h = some (sol h v ra (0, q0.2)) := by
    have := sv_p1 (h := h) (v := v) (ra := ra) (q := q0) (x := 0)
    rw [← hq0] at this
    exact this
  cases hbr : brk s w with
  | false =>
    have hb := WB_of C.2.2.2.2.2.2.2.2.1 hbr
    obtain ⟨q', g1, g2⟩ := cs_fr5 C hb hru hc hn' 5 0 FU q0.2 (by omega) (by rw [FU_eq]; omega)
    cases hf : firstFrom (fun r => (s 2).testBit r && (causeC s w r c n).isSome) 5 0 with
    | none =>
      have e : strk s w c n = none := by
        unfold strk firstI; rw [if_pos ⟨hbit, hbr⟩, hf]; rfl
      rw [e]
      rw [hf] at g1
      refine ⟨q', ?_, fun t ht => by cases ht⟩
      simp only [f_X5_findRule, e1, Option.bind_some]
      exact g1
    | some r =>
      have hfs := (firstFrom_some _ _ _).mp hf
      obtain ⟨z, hz⟩ := isSome_ex ((Bool.and_eq_true _ _ ▸ hfs.2.2.1).2)
      have e : strk s w c n = some (r, z) := by
        unfold strk firstI; rw [if_pos ⟨hbit, hbr⟩, hf]; simp [hz]
      rw [e]
      rw [hf] at g1
      refine ⟨q', ?_, fun t ht => ?_⟩
      · simp only [f_X5_findRule, e1, Option.bind_some]
        exact g1
      · cases ht
        rw [g2 r hf, hz]; rfl
  | true =>
    have e : strk s w c n = none := by unfold strk; rw [hbr]; simp
    rw [e]
    obtain ⟨f0, hF⟩ : ∃ f, FU = f + 1 := ⟨999999, FU_eq⟩
    have C1 := C.sol (q := (I 0, q0.2))
    have hib := cb_isBroken C1.1 C1.2.1 C1.2.2.2.1 C1.2.2.2.2.2.2.2.2.1
    rw [hbr] at hib
    refine ⟨(I 0, q0.2), ?_, fun t ht => by cases ht⟩
    simp only [f_X5_findRule, e1, Option.bind_some, hF]
    simp only [Option.isSome_none]
    simp (disch := first | omega | assumption) only [f_X5_findRule_L5, sv_1, C1.2.1.rc, hib, Option.bind_some, lit_I, I_le, if_neg, bit_0, not_true_eq_false, if_false, Bool.false_eq_true, bit_F']
end SV9d
/-- the solver's own cell is no other's -/
theorem CM_sol {m : Nat} {h : PH} {x st : Nat} {L : List (Nat → Nat)} {n : Nat} {tx : Nat → Nat} {d da u ua v ra : Nat} {ru : Nat → Nat} {la : List Nat} {q : Int32 × Int32 × Int32 × Int32} (C : CM m h x st L n tx d da u ua v ra ru la) : CM m (sol h v ra q) x st L n tx d da u ua v ra ru la ∧ Las m h (sol h v ra q) ∧ Keep h (sol h v ra q) := by
  obtain ⟨c1, c2, c3, c4, c5, c6, o1, o2, o3, o4, o5, o6, o7⟩ := C
  obtain ⟨⟨q0, hq⟩, -⟩ := id c5
  have hne : ∀ a (c : PC), h.1 a = some c → ki c ≠ 5 → (sol h v ra q).1 a = h.1 a := fun a c q1 q2 => hset_ne (fun e => by subst e; rw [hq] at q1; cases q1; exact q2 rfl)
  have LS : Las m h (sol h v ra q) := fun a A => by
    obtain ⟨z1, z2, c, z3, z4⟩ := A
    have e := hne a c z3 (frz_ne z4).2.1
    exact ⟨⟨z1, z2, c, e.trans z3, z4⟩, e⟩
  obtain ⟨hd, fe, a1, a2, a3, a4, a5⟩ := c2
  obtain ⟨cap, fb, z, d1, d2, d3, d4, d5, d6⟩ := c4
  refine ⟨⟨(hne _ _ c1 (by simp [ki, eso])).trans c1, ⟨hd, fe, a1, a2, (hne _ _ a3 (by simp [ki])).trans a3, (hne _ _ a4 (by simp [ki])).trans a4, a5⟩, c3.las LS, ⟨cap, fb, z, d1, d2, d3, (hne _ _ d4 (by simp [ki])).trans d4, (hne _ _ d5 (by simp [ki])).trans d5, d6⟩, VR_sol c5, ⟨(LS _ c6.1).1, fun k hk => (LS _ (c6.2 k hk)).1⟩, o1, o2, o3, o4, o5, o6, o7⟩, LS, (Keep.refl h).set (Or.inr ⟨_, hq, rfl⟩)⟩
/-- the solver of the object -/
theorem CI.solver {m x : Nat} {h : PH} {g : GS} (C : CI m h x g) : ∃ v ra ru, gfr 0 3 (some x) h = some (some v) ∧ VR h v ra ru ∧ v < hn h ∧ ∀ q, CI m (sol h v ra q) x g ∧ Las m h (sol h v ra q) ∧ Keep h (sol h v ra q) ∧ gfr 0 3 (some x) (sol h v ra q) = some (some v) := by
  obtain ⟨st, d, da, u, ua, v, ra, ru, la, CM0, S⟩ := C
  refine ⟨v, ra, ru, gfr_at (x := some v) CM0.1 rfl, CM0.2.2.2.2.1, CM0.2.2.2.2.2.2.2.2.2.2.2.1.1, fun q => ?_⟩
  obtain ⟨g1, g2, g3⟩ := CM_sol CM0 (q := q)
  exact ⟨⟨st, d, da, u, ua, v, ra, ru, la, g1, S.las g2⟩, g2, g3, gfr_at (x := some v) g1.1 rfl⟩
theorem PInv.W7 {s : Nat → Nat} (h : PInv s) : W7 s (bd s) := fun c hc => (h.2.2 c hc).1
theorem PInv.B0 {s : Nat → Nat} (h : PInv s) : B0 s (bd s) := fun c hc => (h.2.2 c hc).2
theorem CU_of {h : PH} {p mm b v ra : Nat} {ms ru s w : Nat → Nat} (H : PgR h p mm ms s) (B : BdR h b p s w) (V : VR h v ra ru) (hQ : QInv s) (hN : Nrm s) (hS : SB s) (hW : W7 s w) (hB : B0 s w) : CU h p mm ms s w b v ra ru := ⟨H, B, V, hQ.1, hQ.NB, hS, hN, hQ.2.2.2.2, hW, hB⟩
section MID9d
variable {m x n0 : Nat} {h : PH} {st sh sl p b co mm : Nat} {ms : Nat → Nat} {f : F4} {fc fw : Nat → Int32} {fs : Nat → Option Nat} {s : Nat → Nat} {L : List (Nat → Nat)} {n : Nat} {tx : Nat → Nat}
/-- the board changes -/
theorem Mid.board {f2 : Nat → Int32} {t : Nat → Nat} (M : Mid m x n0 h st sh sl p b co mm ms f fc fw fs s L n tx) (hP : PG' s) (ht : ∀ k, k < 93 ∨ 118 ≤ k → t k = s k) : Mid m x n0 (bdw h b f2) st sh sl p b co mm ms f fc f2 fs t L n tx ∧ Old (tr n0 h) (bdw h b f2) := by
  obtain ⟨-, ⟨⟨x1, x2, x3, ⟨y0, y1, y2, y3, y4⟩, x5, x6⟩, ⟨b1, b2, b3, b4, b5, b6⟩, cc, D⟩, -, -, A, hfc, -, -⟩ := id M
  have hne : ∀ a (c : PC), h.1 a = some c → ki c ≠ 1000 → (bdw h b f2).1 a = h.1 a := fun a c q1 q2 => hset_ne (fun e => by subst e; rw [x5.2] at q1; cases q1; exact q2 rfl)
  have e0 := ht 0 (Or.inl (by decide))
  have e1 := ht 1 (Or.inl (by decide))
  exact M.cell (a := b + 1) (cc := nar 0 25 f2) (t := t) (b' := b) (fc' := fc) (fw' := f2) (by omega) ⟨⟨(hne _ _ x1 (by simp [ki, sto])).trans x1, (hne _ _ x2 (by simp [ki])).trans x2, by rw [ht 2 (Or.inl (by decide))]; exact (hne _ _ x3 (by simp [ki, sho])).trans x3, by
      rw [e0, e1]
      exact ⟨(hne _ _ y0 (by simp [ki, pgo])).trans y0, (hset_ne (Ne.symm D.1)).trans y1, (hset_ne (Ne.symm D.2.1)).trans y2, (hne _ _ y3 (by simp [ki])).trans y3, (hne _ _ y4 (by simp [ki])).trans y4⟩, ⟨(hne _ _ x5.1 (by simp [ki])).trans x5.1, hset_at⟩, (hset_ne D.2.2.2.2).trans x6⟩, ⟨b1, b2, b3, b4, b5, b6⟩, cc, D⟩ e0 e1 (fun j h1 h2 => ht _ (by omega)) (fun j h1 => ht _ (by omega)) (M.mmne x5.2 (by simp [ki])) (fun j hj => ⟨(A.2 j hj).2.2.2.1, (A.2 j hj).2.2.2.1⟩) (fun r hr => by rw [ht _ (by omega)]; exact hfc r hr) hP
theorem Mid.dj (M : Mid m x n0 h st sh sl p b co mm ms f fc fw fs s L n tx) : DjB p ms s b := ⟨M.2.1.2.2.2.1, M.2.1.2.2.2.2.1, fun k hk => Ne.symm (M.2.2.2.2.1.2 k hk).2.2.2.1⟩
theorem Mid.bc (M : Mid m x n0 h st sh sl p b co mm ms f fc fw fs s L n tx) : BdC h b p fw := M.2.1.1.2.2.2.2.1
/-- the solver in the midst -/
theorem Mid.solver (M : Mid m x n0 h st sh sl p b co mm ms f fc fw fs s L n tx) : ∃ v ra ru, gfr 0 3 (some x) h = some (some v) ∧ VR h v ra ru ∧ v < n0 ∧ ∀ q, Mid m x n0 (sol h v ra q) st sh sl p b co mm ms f fc fw fs s L n tx := by
  obtain ⟨⟨d, da, u, ua, v, ra, ru, la, C⟩, ⟨⟨x1, x2, x3, ⟨y0, y1, y2, y3, y4⟩, x5, x6⟩, b1, cc, D⟩, W, R, A, hfc, S, hl⟩ := M
  have hx : h.1 x = some (eso st d u v) := C.1
  have hV : VR h v ra ru := C.2.2.2.2.1
  have hvn : v < n0 := C.2.2.2.2.2.2.2.2.2.2.2.1.1
  refine ⟨v, ra, ru, gfr_at (x := some v) hx rfl, hV, hvn, fun q => ?_⟩
  obtain ⟨g1, g2, g3⟩ := CM_sol C (q := q)
  obtain ⟨⟨q0, hq⟩, -⟩ := id hV
  have hne : ∀ a (c : PC), h.1 a = some c → ki c ≠ 5 → (sol h v ra q).1 a = h.1 a := fun a c q1 q2 => hset_ne (fun e => by subst e; rw [hq] at q1; cases q1; exact q2 rfl)
  have LS : Las m h (sol h v ra q) := fun a A => by
    obtain ⟨z1, z2, c, z3, z4⟩ := A
    have e := hne a c z3 (frz_ne z4).2.1
    exact ⟨⟨z1, z2, c, e.trans z3, z4⟩, e⟩
  refine ⟨⟨d, da, u, ua, v, ra, ru, la, g1⟩, ⟨⟨(hne _ _ x1 (by simp [ki, sto])).trans x1, (hne _ _ x2 (by simp [ki])).trans x2, (hne _ _ x3 (by simp [ki, sho])).trans x3, ⟨(hne _ _ y0 (by simp [ki, pgo])).trans y0, (hne _ _ y1 (by simp [ki])).trans y1, (hne _ _ y2 (by simp [ki])).trans y2, (hne _ _ y3 (by simp [ki])).trans y3, (hne _ _ y4 (by simp [ki])).trans y4⟩, ⟨(hne _ _ x5.1 (by simp [ki])).trans x5.1, (hne _ _ x5.2 (by simp [ki])).trans x5.2⟩, (hne _ _ x6 (by simp [ki])).trans x6⟩, b1, cc, D⟩, W, MbR_agree (A.1.lk (LS _ A.1).2) (fun k hk => (A.2 k hk).1.lk (LS _ (A.2 k hk).1).2) R, ⟨(LS _ A.1).1, fun k hk => ⟨(LS _ (A.2 k hk).1).1, (A.2 k hk).2⟩⟩, hfc, S.las g2, hl⟩
end MID9d
