/-! THE PURE WORLD: private methods of superclasses, abstract and default methods -/
set_option maxRecDepth 100000
section R7
variable {K : KT} {mi : MI} {h0 : PH} {a0 : List Value} {r : RS} {h' : PH} {pc : Nat} {L : List (Nat × Value)} {st : List Value} {h : PH}
theorem priv_sel {C : String} {y : MethodName} {s : State} {cC : ClassId} {A : Array Value} (hy : y.cls ≠ "java/lang/invoke/MethodHandle" ∧ y.cls ≠ "java/lang/invoke/VarHandle") (hC : s.vm.findClass C = some cC) (hpriv : (Cond.privateMethod y).before A s = true) (hinst : (Cond.instanceMethod y).before A s = true) (hsm : (Cond.sameMethod y.cls y.cls y.name y.desc).before A s = true) : (Cond.selects C y y).before A s = true := by
  obtain ⟨mk, methM, hnamed, hmethM, -, -⟩ := Cond.instanceMethod_spec hinst
  have hfound : s.methodFound? y.cls y.name y.desc = some mk := State.methodFound?_of_named hnamed hy
  have hcls : s.vm.findClass y.cls = some mk.cls := findClass_of_methodNamed hnamed
  have hsel : selectMethod {} s.vm cC mk = .method mk := selectMethod_private hmethM (Cond.privateMethod_at hpriv mk methM hnamed hmethM)
  simp only [Cond.before, Cond.holds, Cond.value, hcls, hfound] at hsm
  simp only [Cond.before, Cond.holds, Cond.value, hC, hfound, hnamed, hsel]
  have hn2 : s.methodNamed? ⟨y.cls, y.name, y.desc⟩ = some mk := hnamed
  rw [hn2] at hsm
  simpa using hsm
def imin (x y : Int32) : Int32 := if y < x then y else x
theorem R_mmin {idx : Nat} {x y : Int32} (hl0 : Cond.methodLink mi.own idx Lib.Math.min.name ∈ lw_all) (hd : 1 ≤ mi.d) (h1r : C1 st) (h8 : st.length ≤ 8) (hdg : decode mi.cc pc = .ok (.invokestatic idx, 3)) (k : R K mi h0 a0 r h' (pc + 3) L (.int (imin x y) :: st) h) : R K mi h0 a0 r h' pc L (.int y :: .int x :: st) h := by
  refine ⟨k.1, fun hF hh p e s m below meth c H locs ls C hH hS hl => ?_⟩
  have k2 := k.2 hF hh p e s m below meth c H locs ls C hH hS hl
  obtain ⟨hx, hcc, -, -, q5, hown, hU, -⟩ := C
  have hts := hU.w hF a0.toArray
  have g1 := k.1.1
  have g2 := k.1.2
  exact va_mmin hx hcc (by rw [q5]; exact hl.1.1.symm) hown (hts _ hl0) (hts _ q406) (hts _ q137) (hts _ (show (Cond.code Lib.Math.min.name Lib.Math.min.code 2 (some .int)) ∈ lw_all from q407)) hd (by rw [h1r.sum]; show st.length + 13 ≤ 100 * mi.d; omega) (by show _ ≤ hn h' - hn h0; omega) (by show _ ≤ hs h' - hs h0; omega) hdg k2
def imax (x y : Int32) : Int32 := if x < y then y else x
theorem R_mmax {idx : Nat} {x y : Int32} (hl0 : Cond.methodLink mi.own idx Lib.Math.max.name ∈ lw_all) (hd : 1 ≤ mi.d) (h1r : C1 st) (h8 : st.length ≤ 8) (hdg : decode mi.cc pc = .ok (.invokestatic idx, 3)) (k : R K mi h0 a0 r h' (pc + 3) L (.int (imax x y) :: st) h) : R K mi h0 a0 r h' pc L (.int y :: .int x :: st) h := by
  refine ⟨k.1, fun hF hh p e s m below meth c H locs ls C hH hS hl => ?_⟩
  have k2 := k.2 hF hh p e s m below meth c H locs ls C hH hS hl
  obtain ⟨hx, hcc, -, -, q5, hown, hU, -⟩ := C
  have hts := hU.w hF a0.toArray
  have g1 := k.1.1
  have g2 := k.1.2
  exact va_mmax hx hcc (by rw [q5]; exact hl.1.1.symm) hown (hts _ hl0) (hts _ q1514) (hts _ q137) (hts _ (show (Cond.code Lib.Math.max.name Lib.Math.max.code 2 (some .int)) ∈ lw_all from q1515)) hd (by rw [h1r.sum]; show st.length + 13 ≤ 100 * mi.d; omega) (by show _ ≤ hn h' - hn h0; omega) (by show _ ≤ hs h' - hs h0; omega) hdg k2
def iabs (x : Int32) : Int32 := if 0 ≤ x then x else 0 - x
theorem R_mabs {idx : Nat} {x : Int32} (hl0 : Cond.methodLink mi.own idx Lib.Math.abs.name ∈ lw_all) (hd : 1 ≤ mi.d) (h1r : C1 st) (h8 : st.length ≤ 8) (hdg : decode mi.cc pc = .ok (.invokestatic idx, 3)) (k : R K mi h0 a0 r h' (pc + 3) L (.int (iabs x) :: st) h) : R K mi h0 a0 r h' pc L (.int x :: st) h := by
  refine ⟨k.1, fun hF hh p e s m below meth c H locs ls C hH hS hl => ?_⟩
  have k2 := k.2 hF hh p e s m below meth c H locs ls C hH hS hl
  obtain ⟨hx, hcc, -, -, q5, hown, hU, -⟩ := C
  have hts := hU.w hF a0.toArray
  have g1 := k.1.1
  have g2 := k.1.2
  exact va_mabs hx hcc (by rw [q5]; exact hl.1.1.symm) hown (hts _ hl0) (hts _ q1161) (hts _ q137) (hts _ (show (Cond.code Lib.Math.abs.name Lib.Math.abs.code 1 (some .int)) ∈ lw_all from q1162)) hd (by rw [h1r.sum]; show st.length + 13 ≤ 100 * mi.d; omega) (by show _ ≤ hn h' - hn h0; omega) (by show _ ≤ hs h' - hs h0; omega) hdg k2
/-- a private method of a superclass -/
theorem R_callP {mj : MI} {idx ci : Nat} {x : Option Nat} {As rest : List Value} {v : Option Value} {h1 : PH} {u : Unit} {q : vw_C} (hT : T K mj (va_rf x :: As) h (.inl v) h1) (hb : rcv ci x h = some u) (hc : pcl[ci]? = some q) (hG : Cond.code mj.y mj.cc mj.nL mj.ret ∈ lw_all) (hl0 : Cond.methodLink mi.own idx mj.y ∈ lw_all) (hpr : Cond.privateMethod mj.y ∈ lw_tbl) (hin : Cond.instanceMethod mj.y ∈ lw_all) (hsm : Cond.sameMethod mj.y.cls mj.y.cls mj.y.name mj.y.desc ∈ lw_all) (hini : Cond.initialized mj.y.cls ∈ lw_all) (hy : okY mj.y As.length) (hd : mj.d + 1 ≤ mi.d) (hm : mj.nL ≤ 80)
    (hst : st = As.reverse ++ va_rf x :: rest) (h1r : C1 rest) (h8 : rest.length ≤ 8) (hdg : decode mi.cc pc = .ok (.invokevirtual idx, 3)) (k : R K mi h0 a0 r h' (pc + 3) L (v.toList ++ rest) h1) : R K mi h0 a0 r h' pc L st h := by
  refine R_callO (y0 := mj.y) (owner := mj.y.cls) hT hb hc (fun {R s} hU hF hR => ?_) hd hm hst h1r h8 hdg k
  have hts := hU.w hF a0.toArray
  have hpriv : (Cond.privateMethod mj.y).before a0.toArray s = true := va_tabs (u := (KT.s0 K).setVm s.vm) rfl rfl (by rw [Cond.privateMethod_setVm hU.al]; exact hF.1 _ hpr)
  have hcls := ((hU.K hF).1 ci _ hc).2.1
  refine ⟨⟨rfl, rfl, hR.1, hR.2, pay_in hts (lw_meth hG), List.mem_cons_self⟩, hts _ hG, hts _ hini, ⟨hy.1, hy.2.1⟩, fun sig h => ?_, hts _ hl0, hts _ hsm, va_Decl.of (hts _ hin) (hts _ hG), priv_sel ⟨hy.1, hy.2.1⟩ hcls hpriv (hts _ hin) (hts _ hsm), hts _ hin⟩
  have h2 := hy.2.2
  rw [h] at h2
  exact (Option.some.inj h2).symm
/-- a method that is abstract where the link finds it -/
theorem R_callA {mj : MI} {y0 : MethodName} {idx ci : Nat} {x : Option Nat} {As rest : List Value} {v : Option Value} {h1 : PH} {u : Unit} {q : vw_C} (hT : T K mj (va_rf x :: As) h (.inl v) h1) (hb : rcv ci x h = some u) (hc : pcl[ci]? = some q) (hG : GoodIn lw_all (va_wsU mi.own idx q.1 y0.cls y0 mj.y (ws_ mj.y mj.cc mj.nL mj.ret))) (hz : Cond.declares ⟨y0.cls, y0.name, y0.desc⟩ ∈ lw_tbl) (hy : okY y0 As.length) (hd : mj.d + 1 ≤ mi.d) (hm : mj.nL ≤ 80)
    (hst : st = As.reverse ++ va_rf x :: rest) (h1r : C1 rest) (h8 : rest.length ≤ 8) (hdg : decode mi.cc pc = .ok (.invokevirtual idx, 3)) (k : R K mi h0 a0 r h' (pc + 3) L (v.toList ++ rest) h1) : R K mi h0 a0 r h' pc L st h := by
  refine R_callO (y0 := y0) (owner := y0.cls) hT hb hc (fun {R s} hU hF hR => ?_) hd hm hst h1r h8 hdg k
  exact va_cwA As.length (hU.w hF a0.toArray) hG rfl rfl rfl (va_Nw.warmD hU.1 (va_Nw.of rfl (hF.1 _ hz))) hy hR
/-- a method that overrides the one that the link finds -/
theorem R_callOv {mj : MI} {y0 : MethodName} {b0 : ByteArray} {m0 : Nat} {r0 : Option FieldType} {idx ci : Nat} {x : Option Nat} {As rest : List Value} {v : Option Value} {h1 : PH} {u : Unit} {q : vw_C} (hT : T K mj (va_rf x :: As) h (.inl v) h1) (hb : rcv ci x h = some u) (hc : pcl[ci]? = some q) (hG : GoodIn lw_all (va_wsU mi.own idx q.1 y0.cls y0 mj.y (ws_ mj.y mj.cc mj.nL mj.ret))) (hix : Cond.instanceMethod y0 ∈ lw_all) (hcx : Cond.code y0 b0 m0 r0 ∈ lw_all) (hy : okY y0 As.length) (hd : mj.d + 1 ≤ mi.d) (hm : mj.nL ≤ 80)
    (hst : st = As.reverse ++ va_rf x :: rest) (h1r : C1 rest) (h8 : rest.length ≤ 8) (hdg : decode mi.cc pc = .ok (.invokevirtual idx, 3)) (k : R K mi h0 a0 r h' (pc + 3) L (v.toList ++ rest) h1) : R K mi h0 a0 r h' pc L st h := by
  refine R_callO (y0 := y0) (owner := y0.cls) hT hb hc (fun {R s} hU hF hR => ?_) hd hm hst h1r h8 hdg k
  have hts := hU.w hF a0.toArray
  have ok : ∀ w ∈ va_wsU mi.own idx q.1 y0.cls y0 mj.y (ws_ mj.y mj.cc mj.nL mj.ret), w.before a0.toArray s = true := fun w h => hts w (hG w h).1
  have hGw : GoodIn lw_all (ws_ mj.y mj.cc mj.nL mj.ret) := fun w h => hG w (by unfold va_wsU; exact List.mem_append_right _ h)
  have hcm : Cond.code mj.y mj.cc mj.nL mj.ret ∈ ws_ mj.y mj.cc mj.nL mj.ret := List.mem_cons_self
  refine ⟨⟨rfl, rfl, hR.1, hR.2, pay_in hts hGw, hcm⟩, hts _ (hGw _ hcm).1, ok _ (by simp [va_wsU]), ⟨hy.1, hy.2.1⟩, fun sig h => ?_, ok _ (by simp [va_wsU]), ok _ (by simp [va_wsU]), va_Decl.of (hts _ hix) (hts _ hcx), ok _ (by simp [va_wsU]), ok _ (by simp [va_wsU])⟩
  have h2 := hy.2.2
  rw [h] at h2
  exact (Option.some.inj h2).symm
/-- which method runs at the call of an interface's default method -/
theorem lands_spec {C : String} {x y : MethodName} {s : State} {A : Array Value} (h : (Cond.landsInDefault C x y).before A s = true) : ∃ c r m, s.vm.findClass C = some c ∧ s.methodFound? x.cls x.name x.desc = some r ∧ s.methodNamed? y = some m ∧ selectMethod {} s.vm c r = .method m := by
  simp only [Cond.before, Cond.holds, Cond.value] at h
  cases hc : s.vm.findClass C with
  | none => simp [hc] at h
  | some c =>
    cases hr : s.methodFound? x.cls x.name x.desc with
    | none => simp [hc, hr] at h
    | some r =>
      cases hm : s.methodNamed? y with
      | none => simp [hc, hr, hm] at h
      | some m =>
        simp only [hc, hr, hm] at h
        cases hq : s.vm.method? r with
        | none => simp [hq] at h
        | some rm =>
          simp only [hq, Option.map_some] at h
          cases hs : selectMethod {} s.vm c r with
          | method m' =>
            rw [hs] at h
            simp at h
            exact ⟨c, r, m, rfl, rfl, rfl, by rw [hs]; exact congrArg _ h.1.1.1.1⟩
          | _ => rw [hs] at h; simp at h
/-- what the tables say of a default method of an interface, on the class C -/
def DW (C : String) (y : MethodName) : Prop := Cond.declares y ∈ lw_tbl ∧ Cond.interfaceMethod y.cls y.cls y.name y.desc ∈ lw_tbl ∧ Cond.publicMethod y ∈ lw_tbl ∧ Cond.unhidden C y.name y.desc ∈ lw_tbl ∧ Cond.castable C y.cls ∈ lw_tbl ∧ Cond.landsInDefault C y y ∈ flatC (Jvm.Cond.and given_1 narrow_1)
/-- a call of an interface's default method -/
theorem R_callD {mj : MI} {idx ct ci : Nat} {x : Option Nat} {As rest : List Value} {v : Option Value} {h1 : PH} {u : Unit} {q : vw_C} (hT : T K mj (va_rf x :: As) h (.inl v) h1) (hb : rcv ci x h = some u) (hc : pcl[ci]? = some q) (hG : Cond.code mj.y mj.cc mj.nL mj.ret ∈ lw_all) (hl0 : Cond.methodLink mi.own idx mj.y ∈ lw_all) (hin : Cond.instanceMethod mj.y ∈ lw_all) (hini : Cond.initialized mj.y.cls ∈ lw_all) (hW : DW q.1 mj.y) (hy : okY mj.y As.length) (hd : mj.d + 1 ≤ mi.d) (hm : mj.nL ≤ 80)
    (hst : st = As.reverse ++ va_rf x :: rest) (h1r : C1 rest) (h8 : rest.length ≤ 8) (hdg : decode mi.cc pc = .ok (.invokeinterface idx ct, 5)) (k : R K mi h0 a0 r h' (pc + 5) L (v.toList ++ rest) h1) : R K mi h0 a0 r h' pc L st h := by
  obtain ⟨b, rfl⟩ := rcv_some hb
  refine R_run5 (aa := (Value.ref b :: As).toArray) hT.1 (fun hF hh hk p e s m below meth c H locs ls C hH hS hl => ?_) k
  obtain ⟨hx, hcc, q3, q4, q5, q6, hU, q8⟩ := C
  have hts := hU.w hF a0.toArray
  have hFw : va_Fw q.1 mj.y mj.y s := va_Fw.moved ⟨hy.1, hy.2.1⟩ hU.al (va_Fw.of (hF.1 _ hW.1) (hF.1 _ hW.2.1) (hF.1 _ hW.2.2.1) (hF.1 _ hW.2.2.2.1) (hF.1 _ hW.2.2.2.2.1))
  have hp := R_pcV (K := K) (As := As) hF hU hH hS hb hc
  have hM := hT.2 hF
  dsimp only at hM
  have hws : ∀ w ∈ ws_ mj.y mj.cc mj.nL mj.ret, ∀ (a' : Array Value) (U : State), s.WarmedH U.vm → w.before a' U = true := pay_in hts (lw_meth hG)
  obtain ⟨hfr, hlo⟩ := rm_fit (h := h) (h1 := h1) (h0 := h0) (h' := h') hd hm
  have hK : Back (KT.l K) (rmD mi.d (hn h' - hn h0) (hs h' - hs h0)) p e below s a0.toArray mj.y 5 8 (PreOf (rmD mi.d (hn h' - hn h0) (hs h' - hs h0)) (hn h1 - hn h) (hs h1 - hs h) (PcT K (.ref b :: As) h)) (PostOf (QN K v h1) (hn h1 - hn h) (hs h1 - hs h) (pA K)) :=
    back_of (bytes := mj.cc) (maxL := mj.nL) (ret := mj.ret) hM hp.1 rfl rfl hfr hlo hws List.mem_cons_self (fun a' U hW => word_at hW (Or.inl (by first | rfl | simp [Cond.onTables, Cond.keeps, Cond.steady])) (hts _ hini))
  obtain ⟨-, ⟨cellB, hcB, hoB, hclB⟩, hPc⟩ := hp
  obtain ⟨hfc, kB, hkB, -⟩ := ((hU.K hF).1 ci _ hc).2
  have hcls : cellB.cls = (KT.D K).1 ci := Option.some.inj (hclB.symm.trans hfc)
  rw [← hcls] at hkB
  have hf := cl_fit (d := mi.d) hh hT.1 hk
  intro T0 hT0 X
  obtain ⟨r0, r, hnm, hrm, hstR, hsigR⟩ := Cond.declares_spec hFw.1
  obtain ⟨cL, kL, r1, hcL, hkL, hiL, hfoundL, hn1⟩ := Cond.interfaceMethod_spec hFw.2.1
  cases hnm.symm.trans hn1
  have hr0cls : r0.cls = cL := Option.some.inj ((findClass_of_methodNamed hnm).symm.trans hcL)
  obtain ⟨hnameR, hdescR⟩ := name_of_methodNamed hnm hrm
  obtain ⟨mk, methM, hnamed, hmethM, -, habM⟩ := Cond.instanceMethod_spec (hts _ hin)
  obtain ⟨c2, r2, m2, w1, w2, w3, w4⟩ := lands_spec (flat_of_before _ hF.2.2.2.2.2.2.2.2.1 _ hW.2.2.2.2.2)
  have w1' : s.vm.findClass q.1 = some c2 := by rw [hU.al.findClass]; exact w1
  have hc2 : c2 = cellB.cls := Option.some.inj (w1'.symm.trans hclB)
  subst hc2
  have hselP : selectMethod e.platform s.vm cellB.cls r0 = .method mk := by
    rw [Launch.admits_selectMethod X.admits, hU.al.selectMethod]
    have hmk2 : m2 = mk := by
      have h9 : s.methodNamed? mj.y = some m2 := show ((KT.s0 K).setVm s.vm).methodNamed? mj.y = some m2 by rw [State.methodNamed?_setVm hU.al]; exact w3
      exact Option.some.inj (h9.symm.trans hnamed)
    have hr2 : r2 = r0 := by
      have h9 : s.methodFound? mj.y.cls mj.y.name mj.y.desc = some r2 := show ((KT.s0 K).setVm s.vm).methodFound? mj.y.cls mj.y.name mj.y.desc = some r2 by rw [State.methodFound?_setVm hU.al]; exact w2
      exact Option.some.inj (h9.symm.trans hfoundL)
    rw [← hmk2, ← hr2]
    exact w4
  have hpubM : hasFlag methM.accessFlags Acc.public_ = true := Cond.publicMethod_spec hnamed hmethM hFw.2.2.1
  have hway : ((cellB.cls :: s.vm.superclasses cellB.cls).any fun k => (declaredIn s.vm r.name r.desc k).any fun (_, z) => z.isPrivate || z.isStatic) = false := by
    rw [hnameR, hdescR]; exact Cond.unhidden_spec hclB hFw.2.2.2.1
  obtain ⟨c3, t3, z1, z2, z3⟩ := Cond.castable_spec hFw.2.2.2.2
  have hc3 : c3 = cellB.cls := Option.some.inj (z1.symm.trans hclB)
  subst hc3
  cases hcL.symm.trans z2
  have hlen : ∀ sig, parseMethodDescriptor mj.y.desc = some sig → As.length = sig.parameters.length := fun sig h => by
    have h2 := hy.2.2
    rw [h] at h2
    exact (Option.some.inj h2).symm
  obtain ⟨vm₁, X₁, hstep₁⟩ := X.invokeinterface hx q6 (hts _ hl0) hnm hrm hstR (by rw [hr0cls]; exact hkL) hiL ⟨hy.1, hy.2.1⟩ (a := b) (cell := cellB) (kcell := kB) (by rw [hT0]; exact hcB)
    (fun z h => by rw [h] at hoB; cases hoB) hkB (by rw [hr0cls]; exact z3) hselP hmethM hway hpubM habM (g := F0 m pc ls st) rfl (argsL := As) (rest := rest) (hlen _ hsigR) hst (by rw [hcc]; exact hdg)
  obtain ⟨v9, ⟨U', l2, c2, s2⟩, X', ⟨g', mk', t, Ls, e1, e2, hq, h1', hL, h2, h3⟩, hsteps⟩ := hK m meth c ⟨T0.setVm vm₁, locs, _, _⟩ { F0 m pc ls st with stack := rest } (.invokeinterface idx ct) mk (Value.ref b :: As).toArray X₁ rfl (by rw [q5]; exact hl.1.1) (by rw [hcc]; exact hdg) (h1r.sum8 h8) (X₁.named hnamed) ⟨hf.1, hf.2, hPc (T0.setVm vm₁) hT0 X₁.warmed⟩
  dsimp only [Pt.U, Pt.locs, Pt.cells, Pt.slots] at X' e1 e2 h1' h2 h3 hsteps
  subst h1'; subst h2; subst h3
  exact ⟨v9, (T0.setVm vm₁).calling g' mk' (Value.ref b :: As).toArray, t, U', Ls, hT0, X', hL, e1, e2, hq, fun target h => hstep₁ _ fun acts => by rw [doInvoke_state]; exact hsteps.trans h⟩
end R7
