/-! PLAIN LAW: the class: sheets and states copied -/
set_option maxRecDepth 100000
def sho (p b co : Nat) (al : Int32) : PC := .inr (2, [.ref p, .ref b, .int al, .ref co])
def sto (sh sl : Nat) : PC := .inr (1, [.ref sh, .ref sl])
/-- a sheet's cells, made at n -/
def shl (n mm : Nat) (r c : Int32) (f : F4) (al : Int32) (fc fw : Nat → Int32) : List (PC × Nat) := (sho (n + 1) (n + 7) (n + 6) al, 4) :: (pgl (n + 1) mm r c f ++ ((nar 0 5 fc, 5) :: bdl (n + 7) (n + 1) fw))
theorem PgW_R {h : PH} {p mm : Nat} {ms : Nat → Nat} {s : Nat → Nat} {f : F4} (X : PgX h p mm (I (s 0)) (I (s 1)) f) (W : PgW s f) (M : MbR h mm ms s) (hP : PG' s) (hb : p + 4 < hn h ∧ mm < hn h ∧ ∀ b, b < rkTo s (nc s) → ms b < hn h) : PgB h p mm ms s := by
  refine ⟨X.R W M hP, fun a ha => ?_⟩
  rcases ha with ha | rfl | ⟨b, h1, rfl⟩
  · omega
  · exact hb.2.1
  · exact hb.2.2 b h1
theorem MbR_ov {h : PH} {mm : Nat} {ms : Nat → Nat} {s : Nat → Nat} {l : List (PC × Nat)} (hb : mm < hn h ∧ ∀ b, b < rkTo s (nc s) → ms b < hn h) (M : MbR h mm ms s) : MbR (ov h l) mm ms s :=
  MbR_agree (ov_lk hb.1) (fun b h1 => ov_lk (hb.2 b h1)) M
theorem cs_copySheet {h : PH} {sh p b co mm : Nat} {ms : Nat → Nat} {s : Nat → Nat} {f : F4} {al : Int32} {fc fw : Nat → Int32} (hs : h.1 sh = some (sho p b co al)) (X : PgX h p mm (I (s 0)) (I (s 1)) f) (W : PgW s f) (M : MbR h mm ms s) (B : BdC h b p fw) (hc : h.1 co = some (nar 0 5 fc)) (hb : sh < hn h ∧ p + 4 < hn h ∧ b + 1 < hn h ∧ co < hn h) (hm : mm < hn h ∧ ∀ b, b < rkTo s (nc s) → ms b < hn h) (hP : PG' s) (hNB : NB s) (hN : Nrm s) (hG : ∀ c, c < nc s → s (58 + c) ≤ 1) : f_X2_copy (some sh) h = some (some (hn h + 0), ov h (shl (hn h) mm (I (s 0)) (I (s 1)) (f4cut f) al (cut 5 fc) (cut 25 fw))) := by
  have hn' := nc_le hP
  have e0 : f_X2_copy (some sh) h = f_X2_copy (some sh) (ov h []) := by rw [ov_nil]
  rw [e0]
  have g0 : ∀ l, gfr 2 0 (some sh) (ov h l) = some (some p) := fun l => by rw [ov_gfr_o hb.1]; exact gfr_at (x := some p) hs rfl
  have g1 : ∀ l, gfr 2 1 (some sh) (ov h l) = some (some b) := fun l => by rw [ov_gfr_o hb.1]; exact gfr_at (x := some b) hs rfl
  have g2 : ∀ l, gfi 2 2 (some sh) (ov h l) = some al := fun l => by rw [ov_gfi_o hb.1]; exact gfi_at hs rfl
  have g3 : ∀ l, gfr 2 3 (some sh) (ov h l) = some (some co) := fun l => by rw [ov_gfr_o hb.1]; exact gfr_at (x := some co) hs rfl
  have p0 : ∀ l, rcv 3 (some p) (ov h l) = some () := fun l => by rw [ov_rcv_o (by omega)]; exact rcv_at X.1
  have b1 : ∀ l, gfr 4 1 (some b) (ov h l) = some (some (b + 1)) := fun l => by rw [ov_gfr_o (by omega)]; exact gfr_at (x := some (b + 1)) B.1 rfl
  have b2 : ∀ l, ar 0 (some (b + 1)) (ov h l) = some (25, .inl fw) := fun l => by rw [ov_ar (by omega)]; exact ar_at B.2
  have c2 : ∀ l, ar 0 (some co) (ov h l) = some (5, .inl fc) := fun l => by rw [ov_ar (by omega)]; exact ar_at hc
  have X1 : ∀ l, PgX (ov h l) p mm (I (s 0)) (I (s 1)) f := fun l => ⟨(ov_old (by omega)).trans X.1, (ov_old (by omega)).trans X.2.1, (ov_old (by omega)).trans X.2.2.1, (ov_old (by omega)).trans X.2.2.2.1, (ov_old (by omega)).trans X.2.2.2.2⟩
  have cc : ∀ l, f_X3_copy (some p) (ov h l) = some (some (hn h + l.length), ov h (l ++ pgl (hn h + l.length) mm (I (s 0)) (I (s 1)) (f4cut f))) := fun l => by
    rw [cp_copy (X1 l) (by rw [ov_hn]; omega) W.2.2.1 W.2.2.2, ov_ov]; rfl
  have Wc := PgW_cut W hP
  have key : ∀ (x1 : Value) (g : Nat → Int32), f_X2_reset (some (hn h + 0)) (ov h ((.inr (2, [.ref (hn h + 1), x1, .int (I 31), .ref (hn h + 6)]), 4) :: (pgl (hn h + 1) mm (I (s 0)) (I (s 1)) (f4cut f) ++ [(nar 0 5 g, 5)]))) = some (ov h ((.inr (2, [.ref (hn h + 1), .ref (hn h + 7), .int (I 31), .ref (hn h + 6)]), 4) :: (pgl (hn h + 1) mm (I (s 0)) (I (s 1)) (f4cut f) ++ ((nar 0 5 g, 5) :: bdl (hn h + 7) (hn h + 1) (fbI s (nc s)))))) := by
    intro x1 g
    have hX : PgX (ov h ((.inr (2, [.ref (hn h + 1), x1, .int (I 31), .ref (hn h + 6)]), 4) :: (pgl (hn h + 1) mm (I (s 0)) (I (s 1)) (f4cut f) ++ [(nar 0 5 g, 5)]))) (hn h + 1) mm (I (s 0)) (I (s 1)) (f4cut f) := PgX_pgl (l := [(.inr (2, [.ref (hn h + 1), x1, .int (I 31), .ref (hn h + 6)]), 4)]) (l2 := [(nar 0 5 g, 5)])
    have hB := PgW_R hX Wc (MbR_ov hm M) hP ⟨by rw [ov_hn]; simp [pgl], by rw [ov_hn]; omega, fun b hb => by have := hm.2 b hb; rw [ov_hn]; omega⟩
    rw [cs_reset (sh := hn h + 0) (p := hn h + 1) (ov_at (i := 0) (n := 4) rfl) (by rw [ov_hn]; simp [pgl]) hB hP hNB hN hG, ov_set (i := 0) (n := 4) rfl, ov_ov]
    rfl
  have c25 : ∀ (f : Nat → Int32), va_cpy f (fbI s (nc s)) 0 0 25 = cut 25 f := fun f => cpy_cut2 (fun j hj => by unfold fbI; rw [if_neg (by omega)])
  have c5 : ∀ (f : Nat → Int32), va_cpy f (upd (upd (upd (upd (upd (fun x => I 0) 0 (I 1)) 1 (I 2)) 2 (I 3)) 3 (I 4)) 4 (I 5)) 0 0 5 = cut 5 f := fun f => cpy_cut2 (fun j hj => by
    simp only [upd]
    rw [if_neg (by omega), if_neg (by omega), if_neg (by omega), if_neg (by omega), if_neg (by omega)]; rfl)
  unfold f_X2_copy
  simp (disch := first | omega | assumption) only [ov_nwO, ov_nwi, ov_nwr, ov_pfC, ovpf, ov_gfiC, ov_gfrC, ov_rcvC, ovob, List.length_cons, List.length_nil, Nat.reduceAdd, Nat.zero_add, List.nil_append, List.cons_append, List.getElem?_cons_zero, List.getElem?_cons_succ, List.getElem?_nil, List.set_cons_zero, List.set_cons_succ, Option.bind_some, Option.map_some, lit_I, va_rf, vI, vR, true_and, Nat.reduceLT, Nat.reduceLeDiff, Nat.reduceEqDiff, if_true, if_false, nn, ov_ov, ov_asiC, ovasi, inb_I, I_clamp, g0, p0, cc]
  unfold f_X2_init
  simp only [pgl] at key ⊢
  simp (disch := first | omega | assumption) only [ov_nwO, ov_nwi, ov_nwr, ov_pfC, ovpf, ov_gfiC, ov_gfrC, ov_rcvC, ovob, List.length_cons, List.length_nil, Nat.reduceAdd, Nat.zero_add, List.nil_append, List.cons_append, List.getElem?_cons_zero, List.getElem?_cons_succ, List.getElem?_nil, List.set_cons_zero, List.set_cons_succ, Option.bind_some, Option.map_some, lit_I, va_rf, vI, vR, true_and, Nat.reduceLT, Nat.reduceLeDiff, Nat.reduceEqDiff, if_true, if_false, nn, ov_ov, ov_asiC, ovasi, inb_I, I_clamp, g0]
  simp only [List.cons_append, List.nil_append] at key
  rw [key]
  simp only [bdl]
  simp (disch := first | omega | assumption) only [ov_nwO, ov_nwi, ov_nwr, ov_pfC, ovpf, ov_gfiC, ov_gfrC, ov_rcvC, ovob, List.length_cons, List.length_nil, Nat.reduceAdd, Nat.zero_add, List.nil_append, List.cons_append, List.getElem?_cons_zero, List.getElem?_cons_succ, List.getElem?_nil, List.set_cons_zero, List.set_cons_succ, Option.bind_some, Option.map_some, lit_I, va_rf, vI, vR, true_and, Nat.reduceLT, Nat.reduceLeDiff, Nat.reduceEqDiff, if_true, if_false, nn, ov_ov, ov_asiC, ovasi, inb_I, I_clamp, g0, g1, b1]
  rw [ov_aci (i := 8) (b2 _) rfl (by decide) (by decide) (by decide) (fun j _ => fits0 _)]
  simp (disch := first | omega | assumption) only [ov_nwO, ov_nwi, ov_nwr, ov_pfC, ovpf, ov_gfiC, ov_gfrC, ov_rcvC, ovob, List.length_cons, List.length_nil, Nat.reduceAdd, Nat.zero_add, List.nil_append, List.cons_append, List.getElem?_cons_zero, List.getElem?_cons_succ, List.getElem?_nil, List.set_cons_zero, List.set_cons_succ, Option.bind_some, Option.map_some, lit_I, va_rf, vI, vR, true_and, Nat.reduceLT, Nat.reduceLeDiff, Nat.reduceEqDiff, if_true, if_false, nn, ov_ov, ov_asiC, ovasi, inb_I, I_clamp, g0, g2, g3, b1, c25]
  rw [ov_aci (i := 6) (c2 _) rfl (by decide) (by decide) (by decide) (fun j _ => fits0 _)]
  simp (disch := first | omega | assumption) only [ov_nwO, ov_nwi, ov_nwr, ov_pfC, ovpf, ov_gfiC, ov_gfrC, ov_rcvC, ovob, List.length_cons, List.length_nil, Nat.reduceAdd, Nat.zero_add, List.nil_append, List.cons_append, List.getElem?_cons_zero, List.getElem?_cons_succ, List.getElem?_nil, List.set_cons_zero, List.set_cons_succ, Option.bind_some, Option.map_some, lit_I, va_rf, vI, vR, true_and, Nat.reduceLT, Nat.reduceLeDiff, Nat.reduceEqDiff, if_true, if_false, nn, ov_ov, ov_asiC, ovasi, inb_I, I_clamp, c5]
  rfl
def cutr (n : Nat) (f : Nat → Option Nat) : Nat → Option Nat := fun j => if j < n then f j else none
theorem cpy_cutr {f : Nat → Option Nat} {n : Nat} : va_cpy f (fun _ => none) 0 0 n = cutr n f := by
  funext j
  unfold va_cpy cutr
  by_cases e : j < n
  · simp [e]
  · simp [e]
/-- a state's cells, made at n -/
def stl (n mm : Nat) (r c : Int32) (f : F4) (al : Int32) (fc fw : Nat → Int32) (fs : Nat → Option Nat) : List (PC × Nat) := (sto (n + 1) (n + 10), 2) :: (shl (n + 1) mm r c f al fc fw ++ [(rar 4 2 fs, 2)])
/-- what is in a slot is a sheet -/
def SlX (h : PH) (fs : Nat → Option Nat) : Prop := ∀ q, q < 2 → ∀ a, fs q = some a → a < hn h ∧ ∃ o, h.1 a = some (.inr (2, o))
theorem cs_copyState {h : PH} {st sh sl p b co mm : Nat} {ms : Nat → Nat} {s : Nat → Nat} {f : F4} {al : Int32} {fc fw : Nat → Int32} {fs : Nat → Option Nat} (ht : h.1 st = some (sto sh sl)) (hl : h.1 sl = some (rar 4 2 fs)) (hS : SlX h fs) (hs : h.1 sh = some (sho p b co al)) (X : PgX h p mm (I (s 0)) (I (s 1)) f) (W : PgW s f) (M : MbR h mm ms s) (B : BdC h b p fw) (hc : h.1 co = some (nar 0 5 fc)) (hb : sh < hn h ∧ p + 4 < hn h ∧ b + 1 < hn h ∧ co < hn h) (hm : mm < hn h ∧ ∀ b, b < rkTo s (nc s) → ms b < hn h) (hst : st < hn h ∧ sl < hn h) (hP : PG' s) (hNB : NB s) (hN : Nrm s) (hG : ∀ c, c < nc s → s (58 + c) ≤ 1) : f_X1_copy (some st) h = some (some (hn h + 0), ov h (stl (hn h) mm (I (s 0)) (I (s 1)) (f4cut f) al (cut 5 fc) (cut 25 fw) (cutr 2 fs))) := by
  have e0 : f_X1_copy (some st) h = f_X1_copy (some st) (ov h []) := by rw [ov_nil]
  rw [e0]
  have g0 : ∀ l, gfr 1 0 (some st) (ov h l) = some (some sh) := fun l => by rw [ov_gfr_o hst.1]; exact gfr_at (x := some sh) ht rfl
  have g1 : ∀ l, gfr 1 1 (some st) (ov h l) = some (some sl) := fun l => by rw [ov_gfr_o hst.1]; exact gfr_at (x := some sl) ht rfl
  have g2 : ∀ l, rcv 2 (some sh) (ov h l) = some () := fun l => by rw [ov_rcv_o hb.1]; exact rcv_at hs
  have s2 : ∀ l, ar 4 (some sl) (ov h l) = some (2, .inr (.inr (.inr (.inr fs)))) := fun l => by rw [ov_ar hst.2]; exact ar_at hl
  have cc : ∀ l, f_X2_copy (some sh) (ov h l) = some (some (hn h + l.length), ov h (l ++ shl (hn h + l.length) mm (I (s 0)) (I (s 1)) (f4cut f) al (cut 5 fc) (cut 25 fw))) := fun l => by
    have B1 : BdC (ov h l) b p fw := ⟨(ov_old (by omega)).trans B.1, (ov_old (by omega)).trans B.2⟩
    have X1 : PgX (ov h l) p mm (I (s 0)) (I (s 1)) f := ⟨(ov_old (by omega)).trans X.1, (ov_old (by omega)).trans X.2.1, (ov_old (by omega)).trans X.2.2.1, (ov_old (by omega)).trans X.2.2.2.1, (ov_old (by omega)).trans X.2.2.2.2⟩
    rw [cs_copySheet (h := ov h l) ((ov_old hb.1).trans hs) X1 W (MbR_ov hm M) B1 ((ov_old hb.2.2.2).trans hc) (by rw [ov_hn]; omega) ⟨by rw [ov_hn]; omega, fun b h1 => by have := hm.2 b h1; rw [ov_hn]; omega⟩ hP hNB hN hG, ov_ov]; rfl
  have c2 : ∀ f : Nat → Option Nat, va_cpy f (fun _ => none) 0 0 2 = cutr 2 f := fun f => cpy_cutr
  unfold f_X1_copy
  simp (disch := first | omega | assumption) only [ov_nwO, ov_nwi, ov_nwr, ov_pfC, ovpf, ov_gfiC, ov_gfrC, ov_rcvC, ovob, List.length_cons, List.length_nil, Nat.reduceAdd, Nat.zero_add, List.nil_append, List.cons_append, List.getElem?_cons_zero, List.getElem?_cons_succ, List.getElem?_nil, List.set_cons_zero, List.set_cons_succ, Option.bind_some, Option.map_some, lit_I, va_rf, vI, vR, true_and, Nat.reduceLT, Nat.reduceLeDiff, Nat.reduceEqDiff, if_true, if_false, nn, ov_ov, ov_asiC, ovasi, inb_I, I_clamp, g0, g2, cc]
  unfold f_X1_init
  simp only [shl, pgl, bdl]
  simp (disch := first | omega | assumption) only [ov_nwO, ov_nwi, ov_nwr, ov_pfC, ovpf, ov_gfiC, ov_gfrC, ov_rcvC, ovob, List.length_cons, List.length_nil, Nat.reduceAdd, Nat.zero_add, List.nil_append, List.cons_append, List.getElem?_cons_zero, List.getElem?_cons_succ, List.getElem?_nil, List.set_cons_zero, List.set_cons_succ, Option.bind_some, Option.map_some, lit_I, va_rf, vI, vR, true_and, Nat.reduceLT, Nat.reduceLeDiff, Nat.reduceEqDiff, if_true, if_false, nn, ov_ov, ov_asiC, ovasi, inb_I, I_clamp, g1]
  rw [acr_at (k := 2) (s2 _) (ov_at (i := 10) (n := 2) rfl) (by decide) (by decide) (by decide) (fun j hj => ?_), ov_set (i := 10) (n := 2) rfl]
  · simp (disch := first | omega | assumption) only [ov_nwO, ov_nwi, ov_nwr, ov_pfC, ovpf, ov_gfiC, ov_gfrC, ov_rcvC, ovob, List.length_cons, List.length_nil, Nat.reduceAdd, Nat.zero_add, List.nil_append, List.cons_append, List.getElem?_cons_zero, List.getElem?_cons_succ, List.getElem?_nil, List.set_cons_zero, List.set_cons_succ, Option.bind_some, Option.map_some, lit_I, va_rf, vI, vR, true_and, Nat.reduceLT, Nat.reduceLeDiff, Nat.reduceEqDiff, if_true, if_false, nn, ov_ov, ov_asiC, ovasi, inb_I, I_clamp, c2]
    rfl
  · cases e : fs j with
    | none => rfl
    | some a =>
      obtain ⟨a1, o, a2⟩ := hS j hj a e
      simp only [eok, cno, ov_old a1, a2]
      rfl
