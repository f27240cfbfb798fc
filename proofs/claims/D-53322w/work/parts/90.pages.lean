/-! PLAIN LAW: the class: pages as cells, their copies, boards made -/
set_option maxRecDepth 100000
def pgo (p mm : Nat) (r c : Int32) : PC := .inr (3, [.int r, .int c, .ref (p + 1), .ref (p + 2), .ref (p + 3), .ref (p + 4), .ref mm])
/-- four rows: blocks, numbers, given, shown -/
abbrev F4 : Type := (Nat → Int32) × (Nat → Int32) × (Nat → Int32) × (Nat → Int32)
def PgX (h : PH) (p mm : Nat) (r c : Int32) (f : F4) : Prop := h.1 p = some (pgo p mm r c) ∧ h.1 (p + 1) = some (nar 0 25 f.1) ∧ h.1 (p + 2) = some (nar 0 25 f.2.1) ∧ h.1 (p + 3) = some (nar 1 25 f.2.2.1) ∧ h.1 (p + 4) = some (nar 1 10 f.2.2.2)
def b01 (f : Nat → Int32) : Prop := ∀ j, f j = 0 ∨ f j = 1
def PgW (s : Nat → Nat) (f : F4) : Prop := (∀ c, c < nc s → f.1 c = I (s (8 + c)) ∧ f.2.1 c = I (s (33 + c)) ∧ f.2.2.1 c = I (s (58 + c))) ∧ (∀ i, i < s 0 + s 1 → f.2.2.2 i = I (s (83 + i))) ∧ b01 f.2.2.1 ∧ b01 f.2.2.2
/-- the members -/
def MbR (h : PH) (mm : Nat) (ms : Nat → Nat) (s : Nat → Nat) : Prop := aln 3 (some mm) h = some (I (rkTo s (nc s))) ∧ ∀ b, b < rkTo s (nc s) → alr 3 (some mm) (I b) h = some (some (ms b)) ∧ aln 0 (some (ms b)) h = some (I (bsz s b)) ∧ ∀ k x, (bl s b)[k]? = some x → ald 0 (some (ms b)) (I k) h = some (I x)
theorem MbR_agree {h h' : PH} {mm : Nat} {ms : Nat → Nat} {s : Nat → Nat} (hm : lk h' mm = lk h mm) (hb : ∀ b, b < rkTo s (nc s) → lk h' (ms b) = lk h (ms b)) (M : MbR h mm ms s) : MbR h' mm ms s := by
  refine ⟨?_, fun b hb' => ?_⟩
  · rw [← M.1]; simp only [aln, ar, hm]
  · obtain ⟨g1, g2, g3⟩ := M.2 b hb'
    have e := hb b hb'
    refine ⟨?_, ?_, fun k x hx => ?_⟩
    · rw [← g1]; simp only [alr, ar, hm]
    · rw [← g2]; simp only [aln, ar, e]
    · rw [← g3 k x hx]; simp only [ald, ar, e]
theorem MbR_row {h : PH} {mm : Nat} {ms : Nat → Nat} {s t : Nat → Nat} (h0 : t 0 = s 0) (h1 : t 1 = s 1) (hb : ∀ c, c < nc s → t (8 + c) = s (8 + c)) (M : MbR h mm ms s) : MbR h mm ms t := by
  have hn : nc t = nc s := nc_of h0 h1
  have e2 : ∀ b n, n ≤ nc s → blTo t b n = blTo s b n := by
    intro b n
    induction n with
    | zero => intro _; rfl
    | succ n ih => intro hk; simp only [blTo]; rw [hb n (by omega), ih (by omega)]
  have e1 : ∀ b, bsz t b = bsz s b := fun b => by rw [← bl_len, ← bl_len]; unfold bl; rw [hn, e2 b _ (Nat.le_refl _)]
  have ef : ∀ c, c < nc s → fst t c = fst s c := by
    intro c hc
    unfold fst
    rw [hn, firstI_congr (fun d hd => by rw [hb d hd, hb c hc])]
  have er : rkTo t (nc t) = rkTo s (nc s) := by
    rw [hn]
    unfold rkTo
    refine sumTo_congr (fun d hd => ?_)
    unfold isF
    rw [ef d hd]
  have el : ∀ b, bl t b = bl s b := fun b => by unfold bl; rw [hn, e2 b _ (Nat.le_refl _)]
  unfold MbR
  rw [er]
  refine ⟨M.1, fun b hb' => ?_⟩
  rw [e1, el]
  exact M.2 b hb'
theorem PgX.R {h : PH} {p mm : Nat} {ms : Nat → Nat} {s : Nat → Nat} {f : F4} (X : PgX h p mm (I (s 0)) (I (s 1)) f) (W : PgW s f) (M : MbR h mm ms s) (hP : PG' s) : PgR h p mm ms s := by
  have hn := nc_le hP
  obtain ⟨a1, a2, a3, a4⟩ := hP
  obtain ⟨x0, x1, x2, x3, x4⟩ := X
  refine ⟨⟨rcv_at x0, gfi_at x0 rfl, gfi_at x0 rfl⟩, ⟨gfr_at (x := some (p + 1)) x0 rfl, gfr_at (x := some (p + 2)) x0 rfl, gfr_at (x := some (p + 3)) x0 rfl, gfr_at (x := some (p + 4)) x0 rfl, gfr_at (x := some mm) x0 rfl⟩, fun c hc => ?_, fun i hi => ?_, M.1, M.2⟩
  · obtain ⟨w1, w2, w3⟩ := W.1 c hc
    rw [ald_at x1 (by omega) (by decide), ald_at x2 (by omega) (by decide), ald_at x3 (by omega) (by decide), w1, w2, w3]
    exact ⟨by trivial, by trivial, by trivial⟩
  · rw [ald_at x4 (by omega) (by decide), W.2.1 i hi]
def f4cut (f : F4) : F4 := (cut 25 f.1, cut 25 f.2.1, cut 25 f.2.2.1, cut 10 f.2.2.2)
theorem b01_cut {f : Nat → Int32} {n : Nat} (h : b01 f) : b01 (cut n f) := by
  intro j; unfold cut; split
  · exact h j
  · exact Or.inl rfl
theorem PgW_cut {s : Nat → Nat} {f : F4} (W : PgW s f) (hP : PG' s) : PgW s (f4cut f) := by
  have hn := nc_le hP
  obtain ⟨a1, a2, a3, a4⟩ := hP
  refine ⟨fun c hc => ?_, fun i hi => ?_, b01_cut W.2.2.1, b01_cut W.2.2.2⟩
  · show cut 25 f.1 c = _ ∧ cut 25 f.2.1 c = _ ∧ cut 25 f.2.2.1 c = _
    rw [cut_lt (by omega), cut_lt (by omega), cut_lt (by omega)]; exact W.1 c hc
  · show cut 10 f.2.2.2 i = _
    rw [cut_lt (by omega)]; exact W.2.1 i hi
/-- a page's cells, made at n -/
def pgl (n mm : Nat) (r c : Int32) (f : F4) : List (PC × Nat) := [(pgo n mm r c, 7), (nar 0 25 f.1, 25), (nar 0 25 f.2.1, 25), (nar 1 25 f.2.2.1, 25), (nar 1 10 f.2.2.2, 10)]
theorem cp_copy {h : PH} {p mm : Nat} {r c : Int32} {f : F4} (X : PgX h p mm r c f) (hp : p + 4 < hn h) (h1 : b01 f.2.2.1) (h2 : b01 f.2.2.2) : f_X3_copy (some p) h = some (some (hn h), ov h (pgl (hn h) mm r c (f4cut f))) := by
  obtain ⟨x0, x1, x2, x3, x4⟩ := X
  have n0 : (0 : Nat) ≤ 100000 := by decide
  have g0 : ∀ l, gfi 3 0 (some p) (ov h l) = some r := fun l => by rw [ov_gfi_o (by omega)]; exact gfi_at x0 rfl
  have g1 : ∀ l, gfi 3 1 (some p) (ov h l) = some c := fun l => by rw [ov_gfi_o (by omega)]; exact gfi_at x0 rfl
  have g2 : ∀ l, gfr 3 2 (some p) (ov h l) = some (some (p + 1)) := fun l => by rw [ov_gfr_o (by omega)]; exact gfr_at (x := some (p + 1)) x0 rfl
  have g3 : ∀ l, gfr 3 3 (some p) (ov h l) = some (some (p + 2)) := fun l => by rw [ov_gfr_o (by omega)]; exact gfr_at (x := some (p + 2)) x0 rfl
  have g4 : ∀ l, gfr 3 4 (some p) (ov h l) = some (some (p + 3)) := fun l => by rw [ov_gfr_o (by omega)]; exact gfr_at (x := some (p + 3)) x0 rfl
  have g5 : ∀ l, gfr 3 5 (some p) (ov h l) = some (some (p + 4)) := fun l => by rw [ov_gfr_o (by omega)]; exact gfr_at (x := some (p + 4)) x0 rfl
  have g6 : ∀ l, gfr 3 6 (some p) (ov h l) = some (some mm) := fun l => by rw [ov_gfr_o (by omega)]; exact gfr_at (x := some mm) x0 rfl
  have s1 : ∀ l, ar 0 (some (p + 1)) (ov h l) = some (25, .inl f.1) := fun l => by rw [ov_ar (by omega)]; exact ar_at x1
  have s2 : ∀ l, ar 0 (some (p + 2)) (ov h l) = some (25, .inl f.2.1) := fun l => by rw [ov_ar (by omega)]; exact ar_at x2
  have s3 : ∀ l, ar 1 (some (p + 3)) (ov h l) = some (25, .inl f.2.2.1) := fun l => by rw [ov_ar (by omega)]; exact ar_at x3
  have s4 : ∀ l, ar 1 (some (p + 4)) (ov h l) = some (10, .inl f.2.2.2) := fun l => by rw [ov_ar (by omega)]; exact ar_at x4
  have e0 : f_X3_copy (some p) h = f_X3_copy (some p) (ov h []) := by rw [ov_nil]
  rw [e0]
  unfold f_X3_copy f_X3_init_2
  have c25 : ∀ (n : Nat) (f : Nat → Int32), va_cpy f (fun _ => I 0) 0 0 n = cut n f := fun n f => cpy_cut
  simp (disch := first | omega | assumption) only [ov_nwO, ov_nwi, ov_nwr, ov_pfC, ovpf, ov_gfiC, ov_gfrC, ov_rcvC, ovob, List.length_cons, List.length_nil, Nat.reduceAdd, Nat.zero_add, List.nil_append, List.cons_append, List.getElem?_cons_zero, List.getElem?_cons_succ, List.getElem?_nil, List.set_cons_zero, List.set_cons_succ, Option.bind_some, Option.map_some, lit_I, va_rf, vI, vR, true_and, Nat.reduceLT, Nat.reduceLeDiff, Nat.reduceEqDiff, if_true, if_false, nn, ov_ov, ov_asiC, ovasi, inb_I, I_clamp, g0, g1, g2, g3, g4, g5, g6]
  rw [ov_aci (i := 1) (s1 _) rfl (by decide) (by decide) (by decide) (fun j _ => fits0 _)]
  simp (disch := first | omega | assumption) only [ov_nwO, ov_nwi, ov_nwr, ov_pfC, ovpf, ov_gfiC, ov_gfrC, ov_rcvC, ovob, List.length_cons, List.length_nil, Nat.reduceAdd, Nat.zero_add, List.nil_append, List.cons_append, List.getElem?_cons_zero, List.getElem?_cons_succ, List.getElem?_nil, List.set_cons_zero, List.set_cons_succ, Option.bind_some, Option.map_some, lit_I, va_rf, vI, vR, true_and, Nat.reduceLT, Nat.reduceLeDiff, Nat.reduceEqDiff, if_true, if_false, nn, ov_ov, ov_asiC, ovasi, inb_I, I_clamp, g0, g1, g2, g3, g4, g5, g6]
  rw [ov_aci (i := 2) (s2 _) rfl (by decide) (by decide) (by decide) (fun j _ => fits0 _)]
  simp (disch := first | omega | assumption) only [ov_nwO, ov_nwi, ov_nwr, ov_pfC, ovpf, ov_gfiC, ov_gfrC, ov_rcvC, ovob, List.length_cons, List.length_nil, Nat.reduceAdd, Nat.zero_add, List.nil_append, List.cons_append, List.getElem?_cons_zero, List.getElem?_cons_succ, List.getElem?_nil, List.set_cons_zero, List.set_cons_succ, Option.bind_some, Option.map_some, lit_I, va_rf, vI, vR, true_and, Nat.reduceLT, Nat.reduceLeDiff, Nat.reduceEqDiff, if_true, if_false, nn, ov_ov, ov_asiC, ovasi, inb_I, I_clamp, g0, g1, g2, g3, g4, g5, g6]
  rw [ov_aci (i := 3) (s3 _) rfl (by decide) (by decide) (by decide) (fun j _ => fits1 (h1 j))]
  simp (disch := first | omega | assumption) only [ov_nwO, ov_nwi, ov_nwr, ov_pfC, ovpf, ov_gfiC, ov_gfrC, ov_rcvC, ovob, List.length_cons, List.length_nil, Nat.reduceAdd, Nat.zero_add, List.nil_append, List.cons_append, List.getElem?_cons_zero, List.getElem?_cons_succ, List.getElem?_nil, List.set_cons_zero, List.set_cons_succ, Option.bind_some, Option.map_some, lit_I, va_rf, vI, vR, true_and, Nat.reduceLT, Nat.reduceLeDiff, Nat.reduceEqDiff, if_true, if_false, nn, ov_ov, ov_asiC, ovasi, inb_I, I_clamp, g0, g1, g2, g3, g4, g5, g6]
  rw [ov_aci (i := 4) (s4 _) rfl (by decide) (by decide) (by decide) (fun j _ => fits1 (h2 j))]
  simp (disch := first | omega | assumption) only [ov_nwO, ov_nwi, ov_nwr, ov_pfC, ovpf, ov_gfiC, ov_gfrC, ov_rcvC, ovob, List.length_cons, List.length_nil, Nat.reduceAdd, Nat.zero_add, List.nil_append, List.cons_append, List.getElem?_cons_zero, List.getElem?_cons_succ, List.getElem?_nil, List.set_cons_zero, List.set_cons_succ, Option.bind_some, Option.map_some, lit_I, va_rf, vI, vR, true_and, Nat.reduceLT, Nat.reduceLeDiff, Nat.reduceEqDiff, if_true, if_false, nn, ov_ov, ov_asiC, ovasi, inb_I, I_clamp, c25]
  rfl
theorem PgX_pgl {h : PH} {mm : Nat} {r c : Int32} {f : F4} {l l2 : List (PC × Nat)} : PgX (ov h (l ++ (pgl (hn h + l.length) mm r c f ++ l2))) (hn h + l.length) mm r c f := by
  have e : ∀ i, i < 5 → (l ++ (pgl (hn h + l.length) mm r c f ++ l2))[l.length + i]? = (pgl (hn h + l.length) mm r c f)[i]? := by
    intro i hi
    rw [List.getElem?_append_right (by omega), Nat.add_sub_cancel_left, List.getElem?_append_left (by simpa [pgl] using hi)]
  refine ⟨ov_at (n := 7) ((e 0 (by decide)).trans rfl), ov_at (n := 25) ((e 1 (by decide)).trans rfl), ov_at (n := 25) ((e 2 (by decide)).trans rfl), ov_at (n := 25) ((e 3 (by decide)).trans rfl), ov_at (n := 10) ((e 4 (by decide)).trans rfl)⟩
/-- where a page lies -/
def PFt (p mm : Nat) (ms : Nat → Nat) (s : Nat → Nat) (a : Nat) : Prop := (p ≤ a ∧ a ≤ p + 4) ∨ a = mm ∨ ∃ b, b < rkTo s (nc s) ∧ a = ms b
theorem PgR_agree {h h' : PH} {p mm : Nat} {ms : Nat → Nat} {s : Nat → Nat} (he : ∀ a, PFt p mm ms s a → lk h' a = lk h a) (H : PgR h p mm ms s) : PgR h' p mm ms s := by
  have q0 : lk h' p = lk h p := he p (Or.inl ⟨by omega, by omega⟩)
  have q1 : lk h' (p + 1) = lk h (p + 1) := he _ (Or.inl ⟨by omega, by omega⟩)
  have q2 : lk h' (p + 2) = lk h (p + 2) := he _ (Or.inl ⟨by omega, by omega⟩)
  have q3 : lk h' (p + 3) = lk h (p + 3) := he _ (Or.inl ⟨by omega, by omega⟩)
  have q4 : lk h' (p + 4) = lk h (p + 4) := he _ (Or.inl ⟨by omega, by omega⟩)
  have M := MbR_agree (h := h) (h' := h') (he mm (Or.inr (Or.inl rfl))) (fun b hb => he _ (Or.inr (Or.inr ⟨b, hb, rfl⟩))) (s := s) (ms := ms) ⟨H.2.2.2.2.1, H.2.2.2.2.2⟩
  obtain ⟨⟨c1, c2, c3⟩, ⟨d1, d2, d3, d4, d5⟩, e1, e2, -⟩ := H
  refine ⟨⟨?_, ?_, ?_⟩, ⟨?_, ?_, ?_, ?_, ?_⟩, fun c hc => ?_, fun i hi => ?_, M.1, M.2⟩
  · rw [← c1]; simp only [rcv_ob, ob, q0]
  · rw [← c2]; simp only [gfi, ob, q0]
  · rw [← c3]; simp only [gfi, ob, q0]
  · rw [← d1]; simp only [gfr, ob, q0]
  · rw [← d2]; simp only [gfr, ob, q0]
  · rw [← d3]; simp only [gfr, ob, q0]
  · rw [← d4]; simp only [gfr, ob, q0]
  · rw [← d5]; simp only [gfr, ob, q0]
  · obtain ⟨f1, f2, f3⟩ := e1 c hc
    rw [← f1, ← f2, ← f3]
    simp only [ald, ar, q1, q2, q3]
    exact ⟨by trivial, by trivial, by trivial⟩
  · rw [← e2 i hi]; simp only [ald, ar, q4]
/-- a page that lies in the old part -/
def PgB (h : PH) (p mm : Nat) (ms : Nat → Nat) (s : Nat → Nat) : Prop := PgR h p mm ms s ∧ ∀ a, PFt p mm ms s a → a < hn h
theorem PgB.ov {h : PH} {p mm : Nat} {ms : Nat → Nat} {s : Nat → Nat} {l : List (PC × Nat)} (H : PgB h p mm ms s) : PgB (ov h l) p mm ms s :=
  ⟨PgR_agree (fun a ha => ov_lk (H.2 a ha)) H.1, fun a ha => by have := H.2 a ha; rw [ov_hn]; omega⟩
