/-! PLAIN LAW: the class: snapshots -/
set_option maxRecDepth 100000
theorem aln_kd {h : PH} {a t : Nat} {c : PC} {y : Int32} (hc : h.1 a = some c) (hl : aln t (some a) h = some y) : ki c = 1000 + t := by
  simp only [aln, ar, lk_own hc] at hl
  cases c with
  | inr o => simp at hl
  | inl o =>
    by_cases e : o.1 = t
    · show 1000 + o.1 = 1000 + t; omega
    · simp [e] at hl
/-- a sheet lasts where all cells last but the slots -/
theorem ShC.las2 {m : Nat} {h h' : PH} {sh : Nat} {s : Nat → Nat} (S : ShC m h sh s) (L : ∀ a c, Al m h a → h.1 a = some c → ki c ≠ 1004 → Al m h' a ∧ h'.1 a = h.1 a) : ShC m h' sh s := by
  obtain ⟨p, b, co, mm, ms, f, al, fc, fw, ⟨a1, a2⟩, ⟨x0, x1, x2, x3, x4⟩, W, M, ⟨⟨b1, b2⟩, b3⟩, ⟨c1, c2⟩, l1, l2, l3, l4, l5, l6, l7⟩ := S
  have q1 := L _ _ l1 a1 (by simp [ki, sho])
  have y0 := L _ _ (l2 p (by omega) (by omega)) x0 (by simp [ki, pgo])
  have y1 := L _ _ (l2 (p + 1) (by omega) (by omega)) x1 (by simp [ki])
  have y2 := L _ _ (l2 (p + 2) (by omega) (by omega)) x2 (by simp [ki])
  have y3 := L _ _ (l2 (p + 3) (by omega) (by omega)) x3 (by simp [ki])
  have y4 := L _ _ (l2 (p + 4) (by omega) (by omega)) x4 (by simp [ki])
  have q3 := L _ _ l3 b1 (by simp [ki])
  have q4 := L _ _ l4 b2 (by simp [ki])
  have q5 := L _ _ l5 c1 (by simp [ki])
  obtain ⟨cm, hcm, -⟩ := l6.2.2
  have q6 := L _ _ l6 hcm (by rw [aln_kd hcm M.1]; decide)
  have q7 : ∀ k, k < rkTo s (nc s) → Al m h' (ms k) ∧ h'.1 (ms k) = h.1 (ms k) := fun k hk => by
    obtain ⟨ck, hck, -⟩ := (l7 k hk).2.2
    exact L _ _ (l7 k hk) hck (by rw [aln_kd hck (M.2 k hk).2.1]; decide)
  refine ⟨p, b, co, mm, ms, f, al, fc, fw, ⟨q1.2.trans a1, a2⟩, ⟨y0.2.trans x0, y1.2.trans x1, y2.2.trans x2, y3.2.trans x3, y4.2.trans x4⟩, W, MbR_agree (l6.lk q6.2) (fun k hk => (l7 k hk).lk (q7 k hk).2) M, ⟨⟨q3.2.trans b1, q4.2.trans b2⟩, b3⟩, ⟨q5.2.trans c1, c2⟩, q1.1, fun a h1 h2 => ?_, q3.1, q4.1, q5.1, q6.1, fun k hk => (q7 k hk).1⟩
  have : a = p ∨ a = p + 1 ∨ a = p + 2 ∨ a = p + 3 ∨ a = p + 4 := by omega
  rcases this with rfl | rfl | rfl | rfl | rfl
  · exact y0.1
  · exact y1.1
  · exact y2.1
  · exact y3.1
  · exact y4.1
/-- a sheet lasts where all cells last but the states -/
theorem ShC.las3 {m : Nat} {h h' : PH} {sh : Nat} {s : Nat → Nat} (S : ShC m h sh s) (L : ∀ a c, Al m h a → h.1 a = some c → ki c ≠ 1 → Al m h' a ∧ h'.1 a = h.1 a) : ShC m h' sh s := by
  obtain ⟨p, b, co, mm, ms, f, al, fc, fw, ⟨a1, a2⟩, ⟨x0, x1, x2, x3, x4⟩, W, M, ⟨⟨b1, b2⟩, b3⟩, ⟨c1, c2⟩, l1, l2, l3, l4, l5, l6, l7⟩ := S
  have q1 := L _ _ l1 a1 (by simp [ki, sho])
  have y0 := L _ _ (l2 p (by omega) (by omega)) x0 (by simp [ki, pgo])
  have y1 := L _ _ (l2 (p + 1) (by omega) (by omega)) x1 (by simp [ki])
  have y2 := L _ _ (l2 (p + 2) (by omega) (by omega)) x2 (by simp [ki])
  have y3 := L _ _ (l2 (p + 3) (by omega) (by omega)) x3 (by simp [ki])
  have y4 := L _ _ (l2 (p + 4) (by omega) (by omega)) x4 (by simp [ki])
  have q3 := L _ _ l3 b1 (by simp [ki])
  have q4 := L _ _ l4 b2 (by simp [ki])
  have q5 := L _ _ l5 c1 (by simp [ki])
  obtain ⟨cm, hcm, -⟩ := l6.2.2
  have q6 := L _ _ l6 hcm (by rw [aln_kd hcm M.1]; decide)
  have q7 : ∀ k, k < rkTo s (nc s) → Al m h' (ms k) ∧ h'.1 (ms k) = h.1 (ms k) := fun k hk => by
    obtain ⟨ck, hck, -⟩ := (l7 k hk).2.2
    exact L _ _ (l7 k hk) hck (by rw [aln_kd hck (M.2 k hk).2.1]; decide)
  refine ⟨p, b, co, mm, ms, f, al, fc, fw, ⟨q1.2.trans a1, a2⟩, ⟨y0.2.trans x0, y1.2.trans x1, y2.2.trans x2, y3.2.trans x3, y4.2.trans x4⟩, W, MbR_agree (l6.lk q6.2) (fun k hk => (l7 k hk).lk (q7 k hk).2) M, ⟨⟨q3.2.trans b1, q4.2.trans b2⟩, b3⟩, ⟨q5.2.trans c1, c2⟩, q1.1, fun a h1 h2 => ?_, q3.1, q4.1, q5.1, q6.1, fun k hk => (q7 k hk).1⟩
  have : a = p ∨ a = p + 1 ∨ a = p + 2 ∨ a = p + 3 ∨ a = p + 4 := by omega
  rcases this with rfl | rfl | rfl | rfl | rfl
  · exact y0.1
  · exact y1.1
  · exact y2.1
  · exact y3.1
  · exact y4.1
/-- a sheet just made lasts -/
theorem ShC_shl {m mm : Nat} {h : PH} {s ms : Nat → Nat} {f : F4} {fc fw : Nat → Int32} {l : List (PC × Nat)} (hl : l = shl (hn h) mm (I (s 0)) (I (s 1)) f (I (s 2)) fc fw) (hm : m + 11 < hn h) (W : PgW s f) (M : MbR h mm ms s) (hmm : Al m h mm) (hms : ∀ k, k < rkTo s (nc s) → Al m h (ms k)) (hw : ∀ c, c < nc s → fw c = I (s (93 + c))) (hfc : ∀ r, r < 5 → fc r = I (s (3 + r))) : ShC m (ov h l) (hn h) s := by
  have O : Old h (ov h l) := Old.ov
  have hat : ∀ i c n, l[i]? = some (c, n) → (ov h l).1 (hn h + i) = some c := fun i c n hi => ov_at hi
  have hln : l.length = 9 := by rw [hl]; rfl
  have al1 : ∀ i (d : PC) n, l[i]? = some (d, n) → frz d = true → Al m (ov h l) (hn h + i) := fun i d n h1 h2 => ⟨by have := (List.getElem?_eq_some_iff.mp h1).1; rw [ov_hn]; omega, Or.inr (by omega), d, hat i d n h1, h2⟩
  refine ⟨hn h + 1, hn h + 7, hn h + 6, mm, ms, f, I (s 2), fc, fw, ⟨hat 0 _ 4 (by rw [hl]; rfl), rfl⟩, ⟨hat 1 _ 7 (by rw [hl]; rfl), hat 2 _ 25 (by rw [hl]; rfl), hat 3 _ 25 (by rw [hl]; rfl), hat 4 _ 25 (by rw [hl]; rfl), hat 5 _ 10 (by rw [hl]; rfl)⟩, W, MbR_ov ⟨hmm.1, fun k hk => (hms k hk).1⟩ M, ⟨⟨hat 7 _ 2 (by rw [hl]; rfl), hat 8 _ 25 (by rw [hl]; rfl)⟩, hw⟩, ⟨hat 6 _ 5 (by rw [hl]; rfl), hfc⟩, al1 0 _ 4 (by rw [hl]; rfl) rfl, fun a h1 h2 => ?_, al1 7 _ 2 (by rw [hl]; rfl) rfl, al1 8 _ 25 (by rw [hl]; rfl) rfl, al1 6 _ 5 (by rw [hl]; rfl) rfl, (O.las _ hmm).1, fun k hk => (O.las _ (hms k hk)).1⟩
  have : a = hn h + 1 ∨ a = hn h + 2 ∨ a = hn h + 3 ∨ a = hn h + 4 ∨ a = hn h + 5 := by omega
  rcases this with rfl | rfl | rfl | rfl | rfl
  · exact al1 1 _ 7 (by rw [hl]; rfl) rfl
  · exact al1 2 _ 25 (by rw [hl]; rfl) rfl
  · exact al1 3 _ 25 (by rw [hl]; rfl) rfl
  · exact al1 4 _ 25 (by rw [hl]; rfl) rfl
  · exact al1 5 _ 10 (by rw [hl]; rfl) rfl
theorem shl_sum {n mm : Nat} {r c : Int32} {f : F4} {al : Int32} {fc fw : Nat → Int32} : ((shl n mm r c f al fc fw).map Prod.snd).sum = 128 := rfl
/-- a lasting sheet is copied -/
theorem ShC.copy {m a : Nat} {h : PH} {s : Nat → Nat} (S : ShC m h a s) (hm : m + 11 < hn h) (hP : PInv s) : ∃ l, f_X2_copy (some a) h = some (some (hn h + 0), ov h l) ∧ l.length = 9 ∧ (l.map Prod.snd).sum = 128 ∧ ShC m (ov h l) (hn h) s ∧ ∃ o, l[0]? = some (.inr (2, .ref (hn h + 1) :: o), 4) := by
  obtain ⟨p, b, co, mm, ms, f, al, fc, fw, ⟨a1, rfl⟩, X, W, M, ⟨B, b3⟩, ⟨c1, c2⟩, l1, l2, l3, l4, l5, l6, l7⟩ := S
  obtain ⟨hQ, hN, hBd⟩ := hP
  have hnc := nc_le hQ.1
  refine ⟨_, cs_copySheet a1 X W M B c1 ⟨l1.1, (l2 _ (by omega) (Nat.le_refl _)).1, l4.1, l5.1⟩ ⟨l6.1, fun k hk => (l7 k hk).1⟩ hQ.1 hQ.NB hN (fun c hc => (hQ.2.2.1 c hc).2.2.1), rfl, rfl, ?_, _, rfl⟩
  exact ShC_shl rfl hm (PgW_cut W hQ.1) M l6 l7 (fun c hc => by rw [cut_lt (by omega)]; exact b3 c hc) (fun r hr => by rw [cut_lt (by omega)]; exact c2 r hr)
/-- a lasting sheet's page -/
theorem ShC.page {m a : Nat} {h : PH} {s : Nat → Nat} (S : ShC m h a s) (hP : PG' s) : ∃ p mm ms, gfr 2 0 (some a) h = some (some p) ∧ PgB h p mm ms s ∧ rcv 2 (some a) h = some () := by
  obtain ⟨p, b, co, mm, ms, f, al, fc, fw, ⟨a1, rfl⟩, X, W, M, ⟨B, b3⟩, ⟨c1, c2⟩, l1, l2, l3, l4, l5, l6, l7⟩ := S
  exact ⟨p, mm, ms, gfr_at (x := some p) a1 rfl, PgW_R X W M hP ⟨(l2 _ (by omega) (Nat.le_refl _)).1, l6.1, fun k hk => (l7 k hk).1⟩, rcv_at a1⟩
theorem cp_clues2 {h : PH} {p mm : Nat} {ms s : Nat → Nat} (H : PgR h p mm ms s) (hQ : QInv s) : f_X3_clues_2 (some p) h = some (I (ngiv s + nshw s), h) := by
  have e0 := cp_clues (kind := 0) H hQ (by decide)
  have e1 := cp_clues (kind := 1) H hQ (by decide)
  simp (disch := first | omega | assumption) only [f_X3_clues_2, lit_I, H.rc, e0, e1, Option.bind_some, if_true, I_add]
  rfl
/-- the new sheet, made to last -/
theorem Mid.shc {m x n0 : Nat} {h : PH} {st sh sl p b co mm : Nat} {ms : Nat → Nat} {f : F4} {fc fw : Nat → Int32} {fs : Nat → Option Nat} {s : Nat → Nat} {L : List (Nat → Nat)} {n : Nat} {tx : Nat → Nat} (M : Mid m x n0 h st sh sl p b co mm ms f fc fw fs s L n tx) (hw : ∀ c, c < nc s → fw c = I (s (93 + c))) : ShC m h sh s := by
  have hm := M.m11
  obtain ⟨⟨d, da, u, ua, v, ra, ru, la, C⟩, ⟨⟨x1, x2, x3, ⟨y0, y1, y2, y3, y4⟩, x5, x6⟩, ⟨b1, b2, b3, b4, b5, b6⟩, ⟨c1, c2, c3, c4, c5, c6⟩, -⟩, W, R, A, hfc, S, hl⟩ := M
  have al1 : ∀ a (d : PC), n0 ≤ a → a < hn h → h.1 a = some d → frz d = true → Al m h a := fun a d h1 h2 h3 h4 => ⟨h2, Or.inr (by omega), d, h3, h4⟩
  refine ⟨p, b, co, mm, ms, f, _, fc, fw, ⟨x3, rfl⟩, ⟨y0, y1, y2, y3, y4⟩, W, R, ⟨x5, hw⟩, ⟨x6, hfc⟩, al1 _ _ b2 c2 x3 rfl, fun a h1 h2 => ?_, al1 _ _ b5 (by omega) x5.1 rfl, al1 _ _ (by omega) c5 x5.2 rfl, al1 _ _ b6 c6 x6 rfl, A.1, fun k hk => (A.2 k hk).1⟩
  have : a = p ∨ a = p + 1 ∨ a = p + 2 ∨ a = p + 3 ∨ a = p + 4 := by omega
  rcases this with rfl | rfl | rfl | rfl | rfl
  · exact al1 _ _ b4 (by omega) y0 rfl
  · exact al1 _ _ (by omega) (by omega) y1 rfl
  · exact al1 _ _ (by omega) (by omega) y2 rfl
  · exact al1 _ _ (by omega) (by omega) y3 rfl
  · exact al1 _ _ (by omega) (by omega) y4 rfl
section OP9f
variable {m x : Nat} {h : PH} {g : GS}
theorem isSlotZ {y : Int32} : f_X0_isSlot y h = some (I (bit (bt y 0 1 = true)), h) := by
  simp only [f_X0_isSlot, lit_I, betZ, Option.bind_some, gb_bit]
theorem eok4 {h : PH} {a : Nat} {o : List Value} (ha : h.1 a = some (.inr (2, o))) : eok 4 h (some a) = true := by
  simp only [eok, cno, ha]; rfl
theorem c_take {y : Int32} (C : CI m h x g) (hI : RInv g.1) : Res m x h (o_take g y) (f_X0_take (some x) y h) := by
  have hQ := hI.1.1
  have hN := hI.1.2.1
  have hP := hQ.1
  have hnc := nc_le hP
  obtain ⟨-, -, -, -, -, -, -, -, -, -, r0, -⟩ := C.look hP
  unfold o_take
  cases hbt : bt y 0 1 with
  | false =>
    refine Res.same C ?_ rfl
    simp only [Bool.false_eq_true, if_false]
    simp (disch := first | omega | assumption) only [f_X0_take, isSlotZ, hbt, Option.bind_some, lit_I, Bool.false_eq_true, bit_F', if_true]
  | true =>
    obtain ⟨e1, -, e3⟩ := bt_na (by decide) (by decide) hbt
    generalize na y = q at *
    subst e1
    simp only [if_true]
    obtain ⟨h1, mm1, ms1, f1, fc1, fw1, fs1, a1, a2, a3, a4, a5, a6⟩ := ca_begin C hI.1
    have hm1 := a2.m11
    have hm2 : m + 11 < hn h1 := by omega
    obtain ⟨⟨d, da, u, ua, v, ra, ru, la, CMx⟩, ⟨⟨x1, x2, x3, X4, x5, x6⟩, bb, cc, D⟩, W, R, A, hfc, S, hl⟩ := id a2
    have SH := a2.shc a3
    obtain ⟨l, l1, l2, l3, l4, o, l5⟩ := SH.copy hm2 hI.1
    -- the slot is filled
    have hat : (ov h1 l).1 (hn h1 + 0) = some (.inr (2, .ref (hn h1 + 1) :: o)) := ov_at l5
    have hsl : (ov h1 l).1 (hn h + 10) = some (rar 4 2 fs1) := (ov_old (by omega)).trans x2
    have e2 : asr 4 (some (hn h + 10)) (I q) (some (hn h1 + 0)) (ov h1 l) = some (hset (ov h1 l) (hn h + 10) (rar 4 2 (va_up fs1 q (some (hn h1 + 0))))) := asr_at hsl (by omega) (by decide) (eok4 hat)
    generalize hh2 : hset (ov h1 l) (hn h + 10) (rar 4 2 (va_up fs1 q (some (hn h1 + 0)))) = h2 at e2
    have hn2 : hn h2 = hn h1 + 9 := by rw [← hh2, hset_hn, ov_hn, l2]
    have hs2 : hs h2 = hs h1 + 128 := by rw [← hh2, hset_hs, ov_hs, l3]
    have hne : ∀ a (c : PC), (ov h1 l).1 a = some c → ki c ≠ 1004 → h2.1 a = (ov h1 l).1 a := fun a c q1 q2 => by
      rw [← hh2]; exact hset_ne (fun e => by subst e; rw [hsl] at q1; cases q1; exact q2 rfl)
    have hne1 : ∀ a (c : PC), h1.1 a = some c → a < hn h1 → ki c ≠ 1004 → h2.1 a = h1.1 a := fun a c q1 q2 q3 => (hne a c ((ov_old q2).trans q1) q3).trans (ov_old q2)
    have OO : Old (tr (hn h) h1) h2 := ⟨by rw [hn2]; show hn h ≤ _; omega, by rw [← hh2]; rfl, fun a ha => by
      have h3 : a < hn h := ha
      rw [← hh2, hset_ne (by omega)]; exact ov_old (by omega)⟩
    have LS : Las m (tr (hn h) h1) h2 := OO.las
    -- all lasting cells but the slots
    have hShC : ∀ a s, ShC m (ov h1 l) a s → ShC m h2 a s := fun a s S0 => S0.las2 (fun b c A0 hc hk => by
      have e := hne b c hc hk
      obtain ⟨z1, z2, c, z3, z4⟩ := A0
      exact ⟨⟨(by rw [ov_hn, l2] at z1; omega), z2, c, e.trans z3, z4⟩, e⟩)
    have hP2 : PInv g.1 := hI.1
    have hrow : ∀ k, k < 118 → sTake g.1 q k = g.1 k := fun k hk => by unfold sTake; rw [if_neg (by omega), if_neg (by omega)]
    have hPt : PG' (sTake g.1 q) := by unfold PG'; rw [hrow 0 (by decide), hrow 1 (by decide)]; exact hP
    have hSL : SlC m h2 (va_up fs1 q (some (hn h1 + 0))) (sTake g.1 q) := by
      intro r hr
      by_cases e : r = q
      · subst e
        have e1 : sTake g.1 r (118 + 119 * r) = 1 := by unfold sTake; rw [if_pos rfl]
        refine ⟨fun z => (by rw [e1] at z; cases z), fun _ => ⟨hn h1 + 0, va_up_self _ _ _, ?_⟩⟩
        refine (hShC _ _ l4).row (fun k hk => ?_) hP
        show sTake g.1 r (119 + 119 * r + k) = g.1 k
        unfold sTake
        rw [if_neg (by omega), if_pos (by omega)]
        exact congrArg g.1 (by omega)
      · have e1 : ∀ k, (118 + 119 * r ≤ k ∧ k < 118 + 119 * r + 119) → sTake g.1 q k = g.1 k := fun k hk => by
          unfold sTake; rw [if_neg (by omega), if_neg (by omega)]
        have e2 := S r hr
        rw [e1 _ (by omega), va_up_ne _ _ e]
        refine ⟨e2.1, fun z => ?_⟩
        obtain ⟨a, h3, h4⟩ := e2.2 z
        refine ⟨a, h3, ?_⟩
        have hq := (hI.2 r hr)
        refine (h4.las LS).row (fun k hk => ?_) (hq.2 (by have := hq.1; omega)).1.1
        exact e1 _ (by omega)
    have hS2 : ShC m h2 (hn h + 1) (sTake g.1 q) := (hShC _ _ (SH.las Old.ov.las)).row hrow hP
    have hsl2 : h2.1 (hn h + 10) = some (rar 4 2 (va_up fs1 q (some (hn h1 + 0)))) := by rw [← hh2]; exact hset_at
    have hst2 : h2.1 (hn h) = some (sto (hn h + 1) (hn h + 10)) := (hne1 _ _ x1 (by omega) (by simp [ki, sto])).trans x1
    have hSt : StC m h2 (hn h) (sTake g.1 q) := ⟨hn h + 1, hn h + 10, _, hst2, hsl2, hS2, hSL, ⟨by omega, Or.inr (by omega), _, hst2, rfl⟩, ⟨by omega, Or.inr (by omega), _, hsl2, rfl⟩⟩
    refine ⟨h2, ?_, ⟨hn h, d, da, u, ua, v, ra, ru, la, CMx.old OO, hSt⟩, Keep_old a4 OO, by omega, by omega⟩
    obtain ⟨p2, mm2, ms2, g1, g2, g3⟩ := hS2.page hPt
    have hQt : QInv (sTake g.1 q) := QInv_Eq93 (fun k hk => (hrow k (by omega)).symm) hQ
    have hcl := cp_clues2 g2.1 hQt
    have hng : ngiv (sTake g.1 q) = ngiv g.1 := by
      unfold ngiv; rw [nc_of (hrow 0 (by decide)) (hrow 1 (by decide))]; exact sumTo_congr (fun c hc => hrow _ (by omega))
    have hns : nshw (sTake g.1 q) = nshw g.1 := by
      obtain ⟨w1, w2, w3, w4⟩ := hP
      unfold nshw; rw [hrow 0 (by decide), hrow 1 (by decide)]; exact sumTo_congr (fun c hc => hrow _ (by omega))
    rw [hng, hns] at hcl
    obtain ⟨-, m1, -, m3, m5, -⟩ := a2.rd
    rw [Nat.add_zero] at l1
    simp (disch := first | omega | assumption) only [f_X0_take, isSlotZ, hbt, Option.bind_some, lit_I, bit_T, I_10, if_false, r0, a1, m1, m3, m5, l1, e2, g1, g2.1.rc, hcl]
    rfl
theorem c_restore {y : Int32} (C : CI m h x g) (hI : RInv g.1) : Res m x h (o_restore g y) (f_X0_restore (some x) y h) := by
  have hQ := hI.1.1
  have hN := hI.1.2.1
  have hP := hQ.1
  have hnc := nc_le hP
  obtain ⟨st0, -, -, -, -, -, -, -, -, -, r0, r1, -⟩ := C.look hP
  unfold o_restore
  cases hbt : bt y 0 1 with
  | false =>
    refine Res.same C ?_ rfl
    simp only [Bool.false_eq_true, if_false]
    simp (disch := first | omega | assumption) only [f_X0_restore, isSlotZ, hbt, Option.bind_some, lit_I, Bool.false_eq_true, bit_F', if_true]
  | true =>
    obtain ⟨e1, -, e3⟩ := bt_na (by decide) (by decide) hbt
    generalize na y = q at *
    subst e1
    simp only [if_true]
    have hq1 := hI.2 q (by omega)
    -- the slot as it was
    obtain ⟨fs0, sl0, z1, z2, z3⟩ : ∃ (fs0 : Nat → Option Nat) (sl0 : Nat), gfr 1 1 (some st0) h = some (some sl0) ∧ alr 4 (some sl0) (I q) h = some (fs0 q) ∧ (g.1 (118 + 119 * q) = 0 → fs0 q = none) ∧ (g.1 (118 + 119 * q) ≠ 0 → ∃ a, fs0 q = some a) := by
      obtain ⟨st, d, da, u, ua, v, ra, ru, la, CM0, sh, sl, fs, t1, t2, -, S, -⟩ := id C
      have : gfr 0 0 (some x) h = some (some st) := gfr_at (x := some st) CM0.1 rfl
      rw [r1] at this; cases this
      exact ⟨fs, sl, gfr_at (x := some sl) t1 rfl, alr_at t2 (by omega) (by decide), (S q (by omega)).1, fun z => by obtain ⟨a, h1, -⟩ := (S q (by omega)).2 z; exact ⟨a, h1⟩⟩
    by_cases hz : g.1 (118 + 119 * q) = 0
    · rw [if_pos hz]
      have hno := z3.1 hz
      refine Res.same C ?_ rfl
      rw [hno] at z2
      simp (disch := first | omega | assumption) only [f_X0_restore, isSlotZ, hbt, Option.bind_some, lit_I, bit_T, I_10, if_false, r1, z1, z2, if_true]
    · rw [if_neg hz]
      obtain ⟨a0, ha0⟩ := z3.2 hz
      rw [ha0] at z2
      obtain ⟨h1, mm1, ms1, f1, fc1, fw1, fs1, a1, a2, a3, a4, a5, a6⟩ := ca_begin C hI.1
      have hm1 := a2.m11
      have hm2 : m + 11 < hn h1 := by omega
      obtain ⟨⟨d, da, u, ua, v, ra, ru, la, CMx⟩, ⟨⟨x1, x2, x3, X4, x5, x6⟩, bb, cc, D⟩, W, R, A, hfc, S, hl⟩ := id a2
      obtain ⟨a, ha, SHt⟩ := (S q (by omega)).2 hz
      have SH := SHt.las (old_tr hl).las
      have hPs := hq1.2 (by have := hq1.1; omega)
      obtain ⟨l, l1, l2, l3, l4, o, l5⟩ := SH.copy hm2 hPs
      have hst : (ov h1 l).1 (hn h) = some (sto (hn h + 1) (hn h + 10)) := (ov_old (by omega)).trans x1
      have hsl : (ov h1 l).1 (hn h + 10) = some (rar 4 2 fs1) := (ov_old (by omega)).trans x2
      have e2 : pf 1 0 (some (hn h)) (va_rf (some (hn h1 + 0))) (ov h1 l) = some (hset (ov h1 l) (hn h) (sto (hn h1) (hn h + 10))) := pf_at hst (by simp)
      generalize hh2 : hset (ov h1 l) (hn h) (sto (hn h1) (hn h + 10)) = h2 at e2
      have hn2 : hn h2 = hn h1 + 9 := by rw [← hh2, hset_hn, ov_hn, l2]
      have hs2 : hs h2 = hs h1 + 128 := by rw [← hh2, hset_hs, ov_hs, l3]
      have hne : ∀ a (c : PC), (ov h1 l).1 a = some c → ki c ≠ 1 → h2.1 a = (ov h1 l).1 a := fun a c q1 q2 => by
        rw [← hh2]; exact hset_ne (fun e => by subst e; rw [hst] at q1; cases q1; exact q2 rfl)
      have OO : Old (tr (hn h) h1) h2 := ⟨by rw [hn2]; show hn h ≤ _; omega, by rw [← hh2]; rfl, fun a ha => by
        have h3 : a < hn h := ha
        rw [← hh2, hset_ne (by omega)]; exact ov_old (by omega)⟩
      have hst2 : h2.1 (hn h) = some (sto (hn h1) (hn h + 10)) := by rw [← hh2]; exact hset_at
      have hsl2 : h2.1 (hn h + 10) = some (rar 4 2 fs1) := (hne _ _ hsl (by simp [ki])).trans hsl
      -- the sheet put back, in the new heap
      have hS1 : ShC m h2 (hn h1) (slt g.1 q) := by
        refine l4.las3 (fun b c A0 hc hk => ?_)
        have e := hne b c hc hk
        obtain ⟨w1, w2, c, w3, w4⟩ := A0
        exact ⟨⟨(by rw [ov_hn, l2] at w1; omega), w2, c, e.trans w3, w4⟩, e⟩
      have hrow : ∀ k, k < 118 → sBack g.1 q k = slt g.1 q k := fun k hk => by unfold sBack; rw [if_pos hk]; rfl
      have hhi : ∀ k, 118 ≤ k → sBack g.1 q k = g.1 k := fun k hk => by unfold sBack; rw [if_neg (by omega)]
      have hS2 : ShC m h2 (hn h1) (sBack g.1 q) := hS1.row hrow hPs.1.1
      have hSL : SlC m h2 fs1 (sBack g.1 q) := SlC.row (S.las OO.las) hhi
      have hSt : StC m h2 (hn h) (sBack g.1 q) := ⟨hn h1, hn h + 10, fs1, hst2, hsl2, hS2, hSL, ⟨by omega, Or.inr (by omega), _, hst2, rfl⟩, ⟨by omega, Or.inr (by omega), _, hsl2, rfl⟩⟩
      have CM2 := CMx.old OO
      refine ⟨h2, ?_, ⟨hn h, d, da, u, ua, v, ra, ru, la, CM2, hSt⟩, Keep_old a4 OO, by omega, by omega⟩
      have hQt : QInv (sBack g.1 q) := QInv_Eq93 (fun k hk => (hrow k (by omega)).symm) hPs.1
      obtain ⟨p2, mm2, ms2, g1, g2, g3⟩ := hS2.page hQt.1
      have hcl := cp_clues2 g2.1 hQt
      have hnc2 := nc_le hPs.1.1
      have hng : ngiv (sBack g.1 q) = ngiv (slt g.1 q) := by
        unfold ngiv; rw [nc_of (hrow 0 (by decide)) (hrow 1 (by decide))]; exact sumTo_congr (fun c hc => hrow _ (by omega))
      have hns : nshw (sBack g.1 q) = nshw (slt g.1 q) := by
        obtain ⟨w1, w2, w3, w4⟩ := hPs.1.1
        unfold nshw; rw [hrow 0 (by decide), hrow 1 (by decide)]; exact sumTo_congr (fun c hc => hrow _ (by omega))
      rw [hng, hns] at hcl
      obtain ⟨-, m1, -, m3, m5, -⟩ := a2.rd
      have z4 : alr 4 (some (hn h + 10)) (I q) h1 = some (some a) := by rw [alr_at x2 (by omega) (by decide), ha]
      have z5 : rcv 2 (some a) h1 = some () := (SH.page hPs.1.1).choose_spec.choose_spec.choose_spec.2.2
      have n0 : rcv 0 (some x) h2 = some () := rcv_at CM2.1
      have n1 : gfr 0 0 (some x) h2 = some (some (hn h)) := gfr_at (x := some (hn h)) CM2.1 rfl
      have n2 : gfr 1 0 (some (hn h)) h2 = some (some (hn h1)) := gfr_at (x := some (hn h1)) hst2 rfl
      simp (disch := first | omega | assumption) only [f_X0_restore, f_X0_page, isSlotZ, hbt, Option.bind_some, lit_I, bit_T, I_10, if_false, r0, r1, z1, z2, reduceCtorEq, a1, m1, m3, z4, z5, l1, e2, n0, n1, n2, g1, g2.1.rc, hcl]
      rfl
end OP9f
