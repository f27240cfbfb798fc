/-! THE PURE WORLD: exceptions (the class of exceptions made, thrown, passed on, caught); vx_L, vx_rows follow the kit's EXCEPTIONS text -/
set_option maxRecDepth 100000
def xw_own : List Cond := Bundle.throwableAtoms ++ Bundle.throwableSAtoms ++ Bundle.chainSAtoms "java/lang/Exception" [] ++
  [.methodLink "EdgeSums$TokenException" 3 (Bundle.initS "java/lang/Exception"), .selects "EdgeSums$TokenException" Bundle.tFill0 Bundle.tFill0, .selects "EdgeSums$TokenException" Bundle.tFill Bundle.tFill,
   .fieldLink Bundle.tN 198 Bundle.tN "backtrace" "Ljava/lang/Object;", .lays Bundle.tN Bundle.tN "backtrace" "Ljava/lang/Object;", .instantiable "EdgeSums$TokenException" 7]
def xw_sU : Cond := .laysStatic Bundle.tN "UNASSIGNED_STACK" Bundle.steD
def xw_sN : Cond := .laysStatic Bundle.tN "SUPPRESSED_SENTINEL" Bundle.listD
theorem xw_1 : xw_own.all (fun w => (w.onTables && w.keepsFace) || decide (w = xw_sU) || decide (w = xw_sN)) = true := by decide +kernel
theorem xw_3 : xw_own.all (fun w => decide (w ∈ lw_tbl)) = true := by decide +kernel
theorem KU.face {K : KT} {U : State} (hF : FK K) (hU : KU K U) {w : Cond} (hw : w ∈ lw_tbl) (h : (w.onTables && w.keepsFace) = true) (a : Array Value) : w.before a U = true := by
  have h0 := hF.1 w hw
  simp only [Bool.and_eq_true] at h
  have h1 := Cond.before_shiftedFace (State.Shifted.of_warmed hU.1) w h.2 h0
  exact va_tabs (u := (KT.s0 K).setVm U.vm) h.1 rfl h1
theorem KU.stat {K : KT} {U : State} (hF : FK K) (hU : KU K U) {C n d : String} (hw : Cond.laysStatic C n d ∈ lw_tbl) (ar : Array Value) : (Cond.laysStatic C n d).before ar U = true := by
  obtain ⟨c, k, i, f, a, cell, h1, h2, h3, h4, h5, h6, h7, h8, h9⟩ := Cond.laysStatic_spec (hF.1 _ hw)
  obtain ⟨k', hi', he⟩ := State.fieldFound?_setVm hU.al h2
  have h5' : U.heap[a]? = some cell := by rw [hU.2.2 a (Array.getElem?_eq_some_iff.mp h5).1]; exact h5
  show (Cond.laysStatic C n d).holds ar U none U [] = true
  exact Cond.laysStatic_of (c := c) (k := k') (i := i) (f := f) (a := a) (cell := cell) (by rw [hU.al.findClass]; exact h1) hi' h3 (by rw [he]; exact h4) h5' h6 h7 h8 (by rw [he]; exact h9)
theorem xw_all {K : KT} {U : State} (hF : FK K) (hU : KU K U) (ar : Array Value) : ∀ w ∈ xw_own, w.before ar U = true := by
  intro w hw
  have h1 := List.all_eq_true.mp xw_1 w hw
  have h3 := List.all_eq_true.mp xw_3 w hw
  simp only [Bool.or_eq_true, decide_eq_true_eq] at h1 h3
  rcases h1 with (h1 | h1) | h1
  · exact hU.face hF h3 h1 ar
  · subst h1; exact hU.stat hF h3 ar
  · subst h1; exact hU.stat hF h3 ar
theorem ck18 : CK 18 RX21 TX21 7 := ⟨rfl, in_X21, ⟨tyX21, tyX21_ok⟩, nmX21⟩
def sup21 (h : PH) (a : Nat) : PH := hset h a (.inr (18, [.ref a, va_rf (hk h 2), va_rf (hk h 3), va_rf (hk h 115), .null, .int 0, .int 0]))
theorem rf_isRef (x : Option Nat) : (va_rf x).isRef = true := by cases x <;> rfl
section SUP
variable {K : KT} {p : Program} {e : Env} {R : Room} {s : State} {m : MethodId} {args : Array Value} {below : List Frame} {meth : Method} {c : Code} {H : Heap} {locs : List Loc} {cells slots : Nat} {Q : State → Prop}
set_option maxHeartbeats 1000000 in
/-- super(text) of the exception: Exception's and Throwable's constructors -/
theorem W_super {pc : Nat} {ls : Array Slot} {rest : List Value} {h : PH} {a : Nat} {cX : ClassId} {kX : Class} (hF : FK K) (hx : p.tables.exec = Jvm.exec) (hown : s.vm.findClass "EdgeSums$TokenException" = some m.cls) (hU : KU K s)
    (hH : HR K h H) (hS : va_S (pA K) s.heap H locs) (hsize : ls.size = c.maxLocals) (hc : h.1 a = some (.inr (18, [.null, .null, .null, .null, .null, .int 0, .int 0])))
    (hfX : s.vm.findClass "EdgeSums$TokenException" = some cX) (hkX : s.vm.classes[cX]? = some kX) (hcell : H[a]? = some (blank cX kX))
    (hdg : decode c.code pc = .ok (.invokespecial 3, 3)) (hfr : 3 < R.frames) (hlo : (rest.map fun v => v.category).sum + 55 ≤ R.locals)
    (kk : ∀ (H1 : Heap) (locs1 : List Loc), HR K (sup21 h a) H1 → va_S (pA K) s.heap H1 locs1 → W p (KT.l K) e R s m args below meth c H1 locs1 cells slots Q (F0 m (pc + 3) ls rest)) :
    W p (KT.l K) e R s m args below meth c H locs cells slots Q (F0 m pc ls (va_rf (hk h 115) :: .ref a :: rest)) := by
  intro W hW X
  subst hW
  have howns : e.platform.frameOwnsMonitors = true := by rw [X.admits.platform]
  have hfin : e.platform.finalization = false := by rw [X.admits.platform]
  have hpl : e.platform.magicAccessors = ({} : Platform).magicAccessors := by rw [X.admits.platform]
  have htr : e.platform.stackTraces = false := Launch.traces_off hF.2.2.2.2.2.2.2.2.2 X.admits
  have hA := xw_all hF hU args
  have a' : ∀ x, x ∈ xw_own → x.holds args s none s [] = true := fun x hx => hA x hx
  obtain ⟨T, Z0, L, -, Y⟩ := ThrowableC.of_atoms (args := args) (s := s) howns hfin hpl (fun x hx => hA x (by simp [xw_own, hx]))
  obtain ⟨Z, M, LZ, LM, hnZ⟩ := Init0T.ofS_atoms (args := args) hpl L Y (fun x hx => hA x (by simp [xw_own, hx]))
  obtain ⟨P1, Ps, hlen, L1, hL, hP1m, hlink1, hlink⟩ := Bundle.chainS (args := args) hpl hnZ [] "java/lang/Exception" (by decide) (fun _ h => nomatch h) (fun x hx => hA x (by simp only [xw_own, List.mem_append]; exact Or.inl (Or.inr hx)))
  obtain ⟨c1, kX', hc1, hk9, hord, -, -, hn7⟩ := Cond.instantiable_spec (a' (.instantiable "EdgeSums$TokenException" 7) (by simp [xw_own]))
  cases Option.some.inj (hc1.symm.trans hfX)
  cases Option.some.inj (hkX.symm.trans hk9)
  have hsel0 : selectMethod e.platform s.vm cX T.fill0 = .method T.fill0 := by
    obtain ⟨c2, r2, m2, q1, q2, q3, q4, -⟩ := Cond.selects_spec (a' (.selects "EdgeSums$TokenException" Bundle.tFill0 Bundle.tFill0) (by simp [xw_own]))
    cases Option.some.inj (q1.symm.trans hfX)
    cases Option.some.inj (q2.symm.trans (State.methodFound?_of_named Y.fill0 (by decide)))
    cases Option.some.inj (q3.symm.trans Y.fill0)
    rw [Launch.admits_selectMethod X.admits]; exact q4
  have hselF : selectMethod e.platform s.vm cX T.fill = .method T.fill := by
    obtain ⟨c2, r2, m2, q1, q2, q3, q4, -⟩ := Cond.selects_spec (a' (.selects "EdgeSums$TokenException" Bundle.tFill Bundle.tFill) (by simp [xw_own]))
    cases Option.some.inj (q1.symm.trans hfX)
    cases Option.some.inj (q2.symm.trans (State.methodFound?_of_named Y.fill (by decide)))
    cases Option.some.inj (q3.symm.trans Y.fill)
    rw [Launch.admits_selectMethod X.admits]; exact q4
  have hG : hg h = KT.G K := hH.2.2.1
  have eU : hk h 2 = (KT.G K).2 2 := by rw [← hG]; rfl
  have eN : hk h 3 = (KT.G K).2 3 := by rw [← hG]; rfl
  have zU := ((hF.2.2.2.2.2.1 2 _ rfl).moved hU.al)
  have zN := ((hF.2.2.2.2.2.1 3 _ rfl).moved hU.al)
  rw [← eU] at zU
  rw [← eN] at zN
  have hold : ∀ q : Nat, q < KT.bs K → W.heap[q]? = (KT.s0 K).heap[q]? := fun q hq => (hS.2.1 q (Nat.lt_of_lt_of_le hq hU.2.1) (Nat.not_le.mpr hq)).trans (hU.2.2 q hq)
  obtain ⟨cf, kf, fi, fU, aU, cellS, z1, z2, z3, z4, z5, z6, z7, z8⟩ := zU
  obtain ⟨cf2, kf2, fi2, fN, aN, cellN, y1, y2, y3, y4, y5, y6, y7, y8⟩ := zN
  have ez := Option.some.inj (z1.symm.trans Y.unassigned)
  simp only [Prod.mk.injEq] at ez
  obtain ⟨rfl, rfl, rfl, rfl⟩ := ez
  have ey := Option.some.inj (y1.symm.trans Y.sentinel)
  simp only [Prod.mk.injEq] at ey
  obtain ⟨rfl, rfl, rfl, rfl⟩ := ey
  cases Option.some.inj (z4.symm.trans L.statics)
  cases Option.some.inj (y4.symm.trans L.statics)
  cases Option.some.inj (z5.symm.trans y5)
  have hcellS : W.heap[T.aS]? = some cellS := by rw [hold _ (Nat.not_le.mp z8)]; exact z5
  have hneS : T.aS ≠ a := fun q => by
    rw [q] at hcellS
    cases Option.some.inj (hcellS.symm.trans hcell)
    cases z6
  have hknownS : cellS.vm ≠ .unknown := fun q => by rw [q] at z6; cases z6
  obtain ⟨ci198, i198, fB, hk198, hg198, ha198, hsB, -, hnB, htB, hffB⟩ := Cond.ownField (t := .object "java/lang/Object") Y.found L.cls (by decide +kernel) (a' (.fieldLink Bundle.tN 198 Bundle.tN "backtrace" "Ljava/lang/Object;") (by simp [xw_own])) (a' (.lays Bundle.tN Bundle.tN "backtrace" "Ljava/lang/Object;") (by simp [xw_own])) e.platform hpl
  obtain ⟨iM, hffM⟩ := Y.msg
  have hts := hU.w hF args
  have hKn := (hU.K hF).1 18 _ rfl
  have hD1 : (KT.D K).1 18 = cX := Option.some.inj (hKn.2.1.symm.trans hfX)
  have ly : ∀ k, k < 7 → (Cond.lays RX21 (TX21 k).1 (TX21 k).2.1 (TX21 k).2.2.1).before args s = true ∨ (Cond.laysFinal RX21 (TX21 k).1 (TX21 k).2.1 (TX21 k).2.2.1).before args s = true := fun k hk => u_lays hts in_X21 hk
  obtain ⟨gC1, gC2, gC3, gC4, gC, sC⟩ := hKn.1 0 (by decide)
  obtain ⟨gS1, gS2, gS3, gS4, gS, sS⟩ := hKn.1 1 (by decide)
  obtain ⟨gP1, gP2, gP3, gP4, gP, sP⟩ := hKn.1 2 (by decide)
  obtain ⟨gM1, gM2, gM3, gM4, gM, sM⟩ := hKn.1 3 (by decide)
  obtain ⟨gB1, gB2, gB3, gB4, gB, sB⟩ := hKn.1 4 (by decide)
  have qC : T.fCause.slot = (KT.D K).2 18 0 := by
    have e := Option.some.inj (gC.symm.trans Y.cause)
    simp only [Prod.mk.injEq] at e
    rw [← e.2.2.2]; exact sC
  have qS : T.fStack.slot = (KT.D K).2 18 1 := by
    have e := Option.some.inj (gS.symm.trans Y.stack)
    simp only [Prod.mk.injEq] at e
    rw [← e.2.2.2]; exact sS
  have qP : T.fSupp.slot = (KT.D K).2 18 2 := by
    have e := Option.some.inj (gP.symm.trans Y.supp)
    simp only [Prod.mk.injEq] at e
    rw [← e.2.2.2]; exact sP
  have qM : T.fMsg.slot = (KT.D K).2 18 3 := by
    have e := Option.some.inj (gM.symm.trans hffM)
    simp only [Prod.mk.injEq] at e
    rw [← e.2.2.2]; exact sM
  have qB : fB.slot = (KT.D K).2 18 4 := by
    have e := Option.some.inj (gB.symm.trans hffB)
    simp only [Prod.mk.injEq] at e
    rw [← e.2.2.2]; exact sB
  have tyC := (u_facts hfX hkX (ly 0 (by decide)) Y.cause).2.2
  have tyS := (u_facts hfX hkX (ly 1 (by decide)) Y.stack).2.2
  have tyP := (u_facts hfX hkX (ly 2 (by decide)) Y.supp).2.2
  have tyM := (u_facts hfX hkX (ly 3 (by decide)) hffM).2.2
  have tyB := (u_facts hfX hkX (ly 4 (by decide)) hffB).2.2
  have ap : ∀ i j, i < 7 → j < 7 → i ≠ j → (KT.D K).2 18 i ≠ (KT.D K).2 18 j := fun i j hi hj hij => by
    obtain ⟨i1, i2, i3, i4, g1, s1⟩ := hKn.1 i hi
    obtain ⟨j1, j2, j3, j4, g2, s2⟩ := hKn.1 j hj
    rw [← s1, ← s2]
    exact u_apart (ly i hi) (ly j hj) g1 g2 (by
      rw [(State.fieldFound?_type g1 (tyX21_ok i hi)).1, (State.fieldFound?_type g2 (tyX21_ok j hj)).1]
      exact nmX21 i hi j hj hij)
  obtain ⟨r9, hr9, cell9, b1, b2, b3, b4⟩ := (hH.2.2.2 a _ hc).2.1
  cases hr9
  cases Option.some.inj (b1.symm.trans hcell)
  have v4 := b4 4 (by decide)
  have v5 := b4 5 (by decide)
  have v6 := b4 6 (by decide)
  have l0 := (Array.getElem?_eq_some_iff.mp (b4 0 (by decide))).1
  have l1 := (Array.getElem?_eq_some_iff.mp (b4 1 (by decide))).1
  have l2 := (Array.getElem?_eq_some_iff.mp (b4 2 (by decide))).1
  have l3 := (Array.getElem?_eq_some_iff.mp (b4 3 (by decide))).1
  have hskip : SkipFacts T e.platform s (fun u => u) (⟨va_rf (hk h 2), rf_isRef _⟩ : RefV) ((preparedCellV T.toThrowableT (freshCell cX kX) a ⟨va_rf (hk h 2), rf_isRef _⟩ ⟨va_rf (hk h 3), rf_isRef _⟩).withEntry W.cur) :=
    ⟨{ ci198 := ci198, i198 := i198, fBack := fB }, ⟨hk198, hg198, ha198, hsB⟩, by
      show ((preparedCellV T.toThrowableT (freshCell cX kX) a ⟨va_rf (hk h 2), rf_isRef _⟩ ⟨va_rf (hk h 3), rf_isRef _⟩).withEntry W.cur).slots[fB.slot]? = some .null
      have a1 := ap 0 4 (by decide) (by decide) (by decide)
      have a2 := ap 1 4 (by decide) (by decide) (by decide)
      have a3 := ap 2 4 (by decide) (by decide) (by decide)
      simp only [preparedCellV, Cell.setSlot, Cell.withEntry, Array.getElem?_setIfInBounds, qC, qS, qP, qB, a1, a2, a3, if_false]
      exact v4, fun _ _ => rfl⟩
  obtain ⟨tm, methC, cdC, kC, vm₁, hnC, -, -, -, -, -, -, -, hW₁, st1⟩ := Steps.initColdS (tb := p.tables) (e := e) (below := below) (s := s) (U := W) X.here hx X.warmed hpl hown (t := Bundle.initS "java/lang/Exception") rfl rfl (by decide)
    (a' (.methodLink "EdgeSums$TokenException" 3 (Bundle.initS "java/lang/Exception")) (by simp [xw_own])) (hA (.instanceMethod (Bundle.initS "java/lang/Exception")) (by simp [xw_own, Bundle.chainSAtoms, Bundle.passSAtoms])) (bytes := Bundle.six) (maxL := 2) (hA (.code (Bundle.initS "java/lang/Exception") Bundle.six 2 none) (by simp [xw_own, Bundle.chainSAtoms, Bundle.passSAtoms]))
    (f := F0 m pc ls (va_rf (hk h 115) :: .ref a :: rest)) rfl (a := a) (msg := va_rf (hk h 115)) (rest := rest) rfl hdg
  cases Option.some.inj (hnC.symm.trans hP1m)
  have X₁ := X.noted hW₁
  obtain ⟨vm₂, X₂, st2⟩ := X₁.ctorMessageOffV hx (g := F0 m pc ls rest) rfl hsize T L Z LZ M LM (P1 :: Ps)
    (fun P hP => by rcases List.mem_cons.mp hP with rfl | hP; exact L1; exact hL P hP) ⟨hlink1, hlink⟩ (u0 := ⟨va_rf (hk h 2), rf_isRef _⟩) (sen := ⟨va_rf (hk h 3), rf_isRef _⟩) (self := a) (msg := va_rf (hk h 115)) (rf_isRef _) (cell := freshCell cX kX) (cellS := cellS)
    hcell (fun _ => by simp) (by simp) rfl rfl hsel0 hselF hcellS hneS hknownS z7 y7
    (Takes.of_laid hkX hord tyC (by rw [Y.causeType]; rfl)) (Takes.of_laid hkX hord tyS (by rw [Y.stackType]; exact fits_refV_array _ ⟨va_rf (hk h 2), rf_isRef _⟩)) (Takes.of_laid hkX hord tyP (by rw [Y.suppType]; exact fits_refV_object _ ⟨va_rf (hk h 3), rf_isRef _⟩))
    (Takes.of_laid hkX hord tyM (by rw [Y.msgType]; exact fits_refV_object _ ⟨va_rf (hk h 115), rf_isRef _⟩)) Y.objLocals hskip htr [] hdg
    (by simp only [List.length_cons, hlen, List.length_nil]; omega) (by simp only [List.length_cons, hlen, List.length_nil]; show 2 * 0 + (rest.map fun v => v.category).sum + (13 * (0 + 1) + 42) ≤ R.locals; omega)
  have hlt : a < W.heap.size := (Array.getElem?_eq_some_iff.mp hcell).1
  have z9 : (((W.setVm vm₁).setVm vm₂).setCell a (plainBareV T.toThrowableT (freshCell cX kX) a ⟨va_rf (hk h 2), rf_isRef _⟩ ⟨va_rf (hk h 3), rf_isRef _⟩ (va_rf (hk h 115)))).heap.size = W.heap.size := by
    show (W.heap.setIfInBounds a _).size = _
    simp
  have oq : ∀ q : Nat, q ≠ a → (((W.setVm vm₁).setVm vm₂).setCell a (plainBareV T.toThrowableT (freshCell cX kX) a ⟨va_rf (hk h 2), rf_isRef _⟩ ⟨va_rf (hk h 3), rf_isRef _⟩ (va_rf (hk h 115)))).heap[q]? = W.heap[q]? := fun q hq => by
    show (W.heap.setIfInBounds a _)[q]? = _
    rw [Array.getElem?_setIfInBounds, if_neg (fun z => hq z.symm)]
  have hat := heapAt_setCell_self (s := (W.setVm vm₁).setVm vm₂) (plainBareV T.toThrowableT (freshCell cX kX) a ⟨va_rf (hk h 2), rf_isRef _⟩ ⟨va_rf (hk h 3), rf_isRef _⟩ (va_rf (hk h 115))) hlt
  have hH1 : HR K (sup21 h a) (((W.setVm vm₁).setVm vm₂).setCell a (plainBareV T.toThrowableT (freshCell cX kX) a ⟨va_rf (hk h 2), rf_isRef _⟩ ⟨va_rf (hk h 3), rf_isRef _⟩ (va_rf (hk h 115)))).heap := by
    refine hH.set hc ⟨_, rfl, _, hat, hD1.symm, rfl, fun k hk7 => ?_⟩ (fun _ _ q => by cases q) z9 oq
    have c01 := ap 0 1 (by decide) (by decide) (by decide)
    have c02 := ap 0 2 (by decide) (by decide) (by decide)
    have c03 := ap 0 3 (by decide) (by decide) (by decide)
    have c12 := ap 1 2 (by decide) (by decide) (by decide)
    have c13 := ap 1 3 (by decide) (by decide) (by decide)
    have c23 := ap 2 3 (by decide) (by decide) (by decide)
    have hk9 : k < 7 := hk7
    clear hk7 b4
    have hk8 : k = 0 ∨ k = 1 ∨ k = 2 ∨ k = 3 ∨ k = 4 ∨ k = 5 ∨ k = 6 := by omega
    rcases hk8 with rfl | rfl | rfl | rfl | rfl | rfl | rfl
    · simp only [plainBareV, preparedCellV, Cell.setSlot, Array.getElem?_setIfInBounds, Array.size_setIfInBounds, qC, qS, qP, qM, c01, c02, c03, c01.symm, c02.symm, c03.symm, if_false, if_true]
      rw [if_pos (by exact l0)]; rfl
    · simp only [plainBareV, preparedCellV, Cell.setSlot, Array.getElem?_setIfInBounds, Array.size_setIfInBounds, qC, qS, qP, qM, c01, c12, c13, c01.symm, c12.symm, c13.symm, if_false, if_true]
      rw [if_pos (by exact l1)]; rfl
    · simp only [plainBareV, preparedCellV, Cell.setSlot, Array.getElem?_setIfInBounds, Array.size_setIfInBounds, qC, qS, qP, qM, c02, c12, c23, c02.symm, c12.symm, c23.symm, if_false, if_true]
      rw [if_pos (by exact l2)]; rfl
    · simp only [plainBareV, preparedCellV, Cell.setSlot, Array.getElem?_setIfInBounds, Array.size_setIfInBounds, qC, qS, qP, qM, c03, c13, c23, c03.symm, c13.symm, c23.symm, if_false, if_true]
      rw [if_pos (by exact l3)]; rfl
    · have d0 := ap 0 4 (by decide) (by decide) (by decide)
      have d1 := ap 1 4 (by decide) (by decide) (by decide)
      have d2 := ap 2 4 (by decide) (by decide) (by decide)
      have d3 := ap 3 4 (by decide) (by decide) (by decide)
      simp only [plainBareV, preparedCellV, Cell.setSlot, Array.getElem?_setIfInBounds, qC, qS, qP, qM, d0, d1, d2, d3, if_false]
      exact v4
    · have d0 := ap 0 5 (by decide) (by decide) (by decide)
      have d1 := ap 1 5 (by decide) (by decide) (by decide)
      have d2 := ap 2 5 (by decide) (by decide) (by decide)
      have d3 := ap 3 5 (by decide) (by decide) (by decide)
      simp only [plainBareV, preparedCellV, Cell.setSlot, Array.getElem?_setIfInBounds, qC, qS, qP, qM, d0, d1, d2, d3, if_false]
      exact v5
    · have d0 := ap 0 6 (by decide) (by decide) (by decide)
      have d1 := ap 1 6 (by decide) (by decide) (by decide)
      have d2 := ap 2 6 (by decide) (by decide) (by decide)
      have d3 := ap 3 6 (by decide) (by decide) (by decide)
      simp only [plainBareV, preparedCellV, Cell.setSlot, Array.getElem?_setIfInBounds, qC, qS, qP, qM, d0, d1, d2, d3, if_false]
      exact v6
  have hpa : pA K a := (hH.2.2.2 a _ hc).1
  have hS1 : va_S (pA K) s.heap (((W.setVm vm₁).setVm vm₂).setCell a (plainBareV T.toThrowableT (freshCell cX kX) a ⟨va_rf (hk h 2), rf_isRef _⟩ ⟨va_rf (hk h 3), rf_isRef _⟩ (va_rf (hk h 115)))).heap (locs ++ [⟨a, T.fCause.slot⟩, ⟨a, T.fStack.slot⟩, ⟨a, T.fSupp.slot⟩, ⟨a, T.fStack.slot⟩, ⟨a, T.fMsg.slot⟩]) := by
    refine ⟨by rw [z9]; exact hS.1, fun q h1 h2 => ?_, fun q hq => ?_⟩
    · rw [oq q (fun z => h2 (by rw [z]; exact hpa))]
      exact hS.2.1 q h1 h2
    · rcases List.mem_append.mp hq with z | z
      · exact hS.2.2 q z
      · simp only [List.mem_cons, List.not_mem_nil, or_false] at z
        rcases z with rfl | rfl | rfl | rfl | rfl <;> exact hpa
  obtain ⟨t, k1, k2⟩ := kk _ _ hH1 hS1 _ rfl X₂
  exact ⟨t, st1 _ (fun acts => by rw [doInvoke_state]; exact st2 _ k1), k2⟩
end SUP
