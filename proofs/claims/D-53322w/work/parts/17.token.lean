/-! THE PURE WORLD: the exception thrown, caught; the method with a table (vx_ : the kit's EXCEPTIONS text) -/
set_option maxRecDepth 100000
section VXH
variable {p : Program} {l : Launch} {e : Env} {R : Room} {s : State} {m : MethodId} {args : Array Value} {below : List Frame} {meth : Method} {c : Code} {T : State} {locs : List Loc} {cells slots : Nat} {H : Heap}
theorem vx_callVW (X : Stand p l e R s m args below meth c T locs cells slots) (hexec : p.tables.exec = Jvm.exec) {own C : String} {index : Nat} {y : MethodName} {bytes : ByteArray} {maxL : Nat} {ret : Option FieldType} {hh : List (Nat × Nat × Nat × Nat)}
    (hown : s.vm.findClass own = some m.cls) (hlink : (Cond.methodLink own index y).before args s = true) (hinst : (Cond.instanceMethod y).before args s = true) (hsel : (Cond.selects C y y).before args s = true)
    (hcode : (Cond.codeWith y bytes maxL ret hh).before args s = true) (hy : y.cls ≠ "java/lang/invoke/MethodHandle" ∧ y.cls ≠ "java/lang/invoke/VarHandle")
    {W9 : Nat} {Pre : Pt → Array Value → Prop} {Post : Pt → Array Value → Option Value → Pt → Prop} (hK : Back l R p e below s args y 3 W9 Pre Post)
    {b : Addr} {cellB : Cell} (hcell : T.heap[b]? = some cellB) (hobj : cellB.vm.isStatics = false) (hcls : s.vm.findClass C = some cellB.cls)
    {g : JFrame} (hg : g.method = m) (hsize : g.locals.size = c.maxLocals) {argsL rest : List Value} (hlen : ∀ sig, parseMethodDescriptor y.desc = some sig → argsL.length = sig.parameters.length)
    (hstack : g.stack = argsL.reverse ++ .ref b :: rest) (hW : 2 * g.monitorRoom + (rest.map fun v => v.category).sum ≤ W9) (hdg : decode c.code g.pc = .ok (.invokevirtual index, 3))
    (hpre : ∀ vm₁, s.WarmedH vm₁ → Pre ⟨T.setVm vm₁, locs, cells, slots⟩ (Value.ref b :: argsL).toArray) :
    ∃ (v : Option Value) (vm₁ : Vm) (B : Pt), s.WarmedH vm₁ ∧ Stand p l e R s m args below meth c B.U B.locs B.cells B.slots ∧ Post ⟨T.setVm vm₁, locs, cells, slots⟩ (Value.ref b :: argsL).toArray v B ∧
      ∀ target, Steps p.tables e below (B.U.setTop { g with pc := g.pc + 3, stack := v.toList ++ rest }) target → Steps p.tables e below (T.setTop g) target := by
  obtain ⟨mk, methM, hnamed, hmethM, hstM, habM⟩ := Cond.instanceMethod_spec hinst
  obtain ⟨m8, methM', cM, hn8, hmethM', -, -, -, -, -, -, hsigM⟩ := Cond.codeWith_spec hcode
  cases Option.some.inj (hn8.symm.trans hnamed)
  cases hmethM.symm.trans hmethM'
  obtain ⟨c2, r2, m2, q1, q2, q3, q4, kP, hkP, hkPi⟩ := Cond.selects_spec hsel
  cases hcls.symm.trans q1
  cases (State.methodFound?_of_named hnamed hy).symm.trans q2
  cases hnamed.symm.trans q3
  have hselP : selectMethod e.platform s.vm cellB.cls mk = .method mk := by rw [Launch.admits_selectMethod X.admits]; exact q4
  obtain ⟨vm₁, X₁, hstep₁⟩ := X.invokevirtual hexec hown hlink hnamed hmethM hstM hkP hkPi hy (a := b) (cell := cellB) hcell
    (fun z h => by rw [h] at hobj; cases hobj) hselP hmethM habM hkP hkPi (g := g) hg (argsL := argsL) (rest := rest) (hlen _ hsigM) hstack hdg
  obtain ⟨v, B, X', hpost, hsteps⟩ := hK m meth c ⟨T.setVm vm₁, locs, cells, slots⟩ { g with stack := rest } (.invokevirtual index) mk (Value.ref b :: argsL).toArray X₁ hg hsize hdg hW (X₁.named hnamed) (hpre vm₁ X₁.warmed)
  exact ⟨v, vm₁, B, X₁.warmed, X', hpost, fun target h => hstep₁ _ fun acts => by rw [doInvoke_state]; exact hsteps.trans h⟩
abbrev vx_CVW (R : Room) (s : State) (args : Array Value) (own C : String) (index : Nat) (y : MethodName) (bytes : ByteArray) (maxL : Nat) (ret : Option FieldType) (hh : List (Nat × Nat × Nat × Nat)) (ws : List Cond) (rm : Room) (mc ms n : Nat) : Prop :=
  (rm.cells = mc ∧ rm.slots = ms ∧ rm.frames + 1 ≤ R.frames ∧ 8 + (maxL + 11) + rm.locals ≤ R.locals ∧ (∀ w ∈ ws, ∀ (a' : Array Value) (U : State), s.WarmedH U.vm → w.before a' U = true) ∧ Cond.codeWith y bytes maxL ret hh ∈ ws) ∧
  (Cond.codeWith y bytes maxL ret hh).before args s = true ∧ (Cond.initialized y.cls).before args s = true ∧ (y.cls ≠ "java/lang/invoke/MethodHandle" ∧ y.cls ≠ "java/lang/invoke/VarHandle") ∧
  (∀ sig, parseMethodDescriptor y.desc = some sig → n = sig.parameters.length) ∧ (Cond.methodLink own index y).before args s = true ∧ (Cond.instanceMethod y).before args s = true ∧ (Cond.selects C y y).before args s = true
theorem vx_cwVW {own C : String} {index maxL mc ms : Nat} {y : MethodName} {bytes : ByteArray} {ret : Option FieldType} {hh : List (Nat × Nat × Nat × Nat)} {Ts ws ws' : List Cond} {rm : Room} (n : Nat) (ht : ∀ w ∈ Ts, w.before args s = true) (hT : GoodIn Ts (wsV own index C y ws)) (hw : ws = Cond.codeWith y bytes maxL ret hh :: ws') (hrc : rm.cells = mc) (hrs : rm.slots = ms)
    (hd : y.cls = C ∧ y.cls ≠ "java/lang/invoke/MethodHandle" ∧ y.cls ≠ "java/lang/invoke/VarHandle" ∧ (parseMethodDescriptor y.desc).map (fun d => d.parameters.length) = some n) (hR : rm.frames + 1 ≤ R.frames ∧ 8 + (maxL + 11) + rm.locals ≤ R.locals) :
    vx_CVW R s args own C index y bytes maxL ret hh ws rm mc ms n := by
  obtain ⟨hC, hd⟩ := hd
  subst hC
  have ok : ∀ w ∈ wsV own index y.cls y ws, w.before args s = true := fun w h => ht w (hT w h).1
  have hG : GoodIn Ts ws := fun w h => hT w (by unfold wsV; exact List.mem_append_right _ h)
  have hc : Cond.codeWith y bytes maxL ret hh ∈ ws := by rw [hw]; exact List.mem_cons_self
  refine ⟨⟨hrc, hrs, hR.1, hR.2, pay_in ht hG, hc⟩, ht _ (hG _ hc).1, ok _ (by simp [wsV]), ⟨hd.1, hd.2.1⟩, fun sig h => ?_, ok _ (by simp [wsV]), ok _ (by simp [wsV]), ok _ (by simp [wsV])⟩
  have h2 := hd.2.2
  rw [h] at h2
  exact (Option.some.inj h2).symm
theorem vx_runVW {y : MethodName} {bytes cc : ByteArray} {maxL nL mc ms n index : Nat} {ret : Option FieldType} {hh : List (Nat × Nat × Nat × Nat)} {ws : List Cond} {rm : Room} {Pc : Array Value → State → Prop} {Qc : Array Value → State → Outcome → State → Prop} {free : Addr → Prop} {Ts : List Cond} {own C : String} {b : Addr} {As rest : List Value} {g : JFrame}
    (S : CallFix p m c cc nL s args Ts own) (hM : Met l y ws rm Pc Qc mc ms free) (cw : vx_CVW R s args own C index y bytes maxL ret hh ws rm mc ms n) (hp : PreV s H C b Pc As)
    (hg : g.method = m) (hn : As.length = n) (hsize : g.locals.size = nL) (hstack : g.stack = As.reverse ++ .ref b :: rest) (hW : 2 * g.monitorRoom + (rest.map fun v => v.category).sum ≤ 8) (hdg : decode cc g.pc = .ok (.invokevirtual index, 3)) (hf : cells + mc ≤ R.cells ∧ slots + ms ≤ R.slots) :
    va_Run p l e R s m args below meth c H locs cells slots mc ms g rest (Qc (Value.ref b :: As).toArray) free := by
  obtain ⟨⟨hrc, hrs, hfr, hlo, hws, hcw⟩, hcode, hini, hy, hlen, hl, hin, hse⟩ := cw
  have hK : Back l R p e below s args y 3 8 (PreOf R mc ms Pc) (PostOf Qc mc ms free) := va_backW (hh := hh) (bytes := bytes) (maxL := maxL) (ret := ret) hM hp.1 hrc hrs hfr hlo hws hcw (fun a' U hW => word_at hW (Or.inl (by first | rfl | simp [Cond.onTables, Cond.keeps, Cond.steady])) hini)
  obtain ⟨hx, hb, hml, ho, -⟩ := S
  obtain ⟨-, ⟨cellB, hcB, hoB, hclB⟩, hPc⟩ := hp
  intro T hT X
  obtain ⟨v, vm₁, ⟨U', l2, c2, s2⟩, hW₁, X', ⟨g', mk, t, L, e1, e2, hq, h1, hL, h2, h3⟩, st⟩ := vx_callVW X hx (C := C) (hh := hh) (bytes := bytes) (maxL := maxL) (ret := ret) ho hl hin hse hcode hy hK (by rw [hT]; exact hcB) hoB hclB hg (hsize.trans hml.symm) (argsL := As) (rest := rest) (fun sig h => hn.trans (hlen sig h)) hstack hW (by rw [hb]; exact hdg)
    (fun vm₁ hW₁ => ⟨hf.1, hf.2, hPc (T.setVm vm₁) hT hW₁⟩)
  dsimp only [Pt.U, Pt.locs, Pt.cells, Pt.slots] at X' e1 e2 h1 h2 h3 st
  subst h1; subst h2; subst h3
  exact ⟨v, (T.setVm vm₁).calling g' mk (Value.ref b :: As).toArray, t, U', L, hT, X', hL, e1, e2, hq, st⟩
end VXH
section R7
variable {K : KT} {mi : MI} {h0 : PH} {a0 : List Value} {r : RS} {h' : PH} {pc : Nat} {L : List (Nat × Value)} {st : List Value} {h : PH}
theorem W_getv {ci j idx : Nat} {x : Option Nat} {fs : List Value} {v : Value} (hL : LG mi.own idx ci j) (hb : ob ci x h = some fs) (hv : fs[j]? = some v) (hdg : decode mi.cc pc = .ok (.getfield idx, 3))
    {p : Program} {e : Env} {R : Room} {s : State} {m : MethodId} {args : Array Value} {below : List Frame} {meth : Method} {c : Code} {H : Heap} {locs : List Loc} {cells slots : Nat} {Q : State → Prop} {ls : Array Slot}
    (hF : FK K) (C : CX K mi p s m meth c) (hH : HR K h H) (hS : va_S (pA K) s.heap H locs)
    (k2 : W p (KT.l K) e R s m args below meth c H locs cells slots Q (F0 m (pc + 3) ls (v :: st))) : W p (KT.l K) e R s m args below meth c H locs cells slots Q (F0 m pc ls (va_rf x :: st)) := by
  obtain ⟨a, rfl, ha⟩ := ob_some hb
  obtain ⟨Cn, T, N, ⟨hc, hin, -, -⟩, hj, hl3⟩ := hL
  obtain ⟨hx, hcc, -, -, -, hown, hU, -⟩ := C
  obtain ⟨cell, q, r1, r2, r3, r4, r5, r6⟩ := hH.rd hF hU hS ha
  cases r1.symm.trans hc
  have hts := hU.w hF args
  obtain ⟨hSl, hfc, kC, hkC, hkind⟩ := (hU.K hF).1 ci _ hc
  obtain ⟨cf, kf, fi, f, hi, hsl⟩ := hSl j hj
  have hst := (u_facts hfc hkC (u_lays hts hin hj) hi).1
  have hval : cell.slots[f.slot]? = some v := by
    rw [hsl, r6 j hj]
    simp [vp_V, hv]
  rcases hl3 with q | ⟨host, q⟩ | ⟨ref, q, q2⟩
  · exact W.getf hx hcc hown (hts _ q) hi hst r2 r4 hval rfl rfl hdg k2
  · exact va_Wgetf hx hcc hown (hU.t hF q _) hi hst r2 r4 hval rfl rfl hdg k2
  · exact W.getf hx hcc hown (hts _ q) (u_same (hts _ q2) _ hi) hst r2 r4 hval rfl rfl hdg k2
def mi_tok : MI := (RX21, yX21_init, cX21_init, 2, none, 6)
def bl21 : List Value := [.null, .null, .null, .null, .null, .int 0, .int 0]
def tok21 (h : PH) (a : Nat) (x : Int32) : PH := hset (sup21 h a) a (.inr (18, [.ref a, va_rf (hk h 2), va_rf (hk h 3), va_rf (hk h 115), .null, .int 0, .int x]))
def PcX (K : KT) (a : Nat) (x : Int32) (h : PH) : Array Value → State → Prop := va_Pc [.ref a, .int x] (fun U => (KU K U ∧ HR K h U.heap) ∧ ∃ cX kX, (KT.s0 K).vm.findClass RX21 = some cX ∧ (KT.s0 K).vm.classes[cX]? = some kX ∧ U.heap[a]? = some (blank cX kX))
theorem PcX.blind {a : Nat} {x : Int32} : FrameBlind (PcX K a x h) := fun v U g mk q => q
theorem fp_tok : FP mi_tok 9 18 6 .int := ⟨_, _, _, ck18, by decide, by decide +kernel, Or.inr ⟨rfl, q2008, rfl, rfl⟩⟩
theorem T_tok {a : Nat} {x : Int32} (hF : FK K) (hc : h.1 a = some (.inr (18, bl21))) : Met (KT.l K) yX21_init (ws_ yX21_init cX21_init 2 none) (rmD 6 0 0) (PcX K a x h) (QN K none (tok21 h a x)) 0 0 (pA K) := by
  refine Met.ofW (cc := cX21_init) (maxL := 2) (ret := none) (by decide) rfl ?_
  intro p e s m args below meth c s₁ B hml hv
  obtain ⟨rfl, ⟨hU, hH⟩, cX, kX, hfX, hkX, hcell⟩ := hv
  have hown : s.vm.findClass mi_tok.own = some m.cls := findClass_of_methodNamed B.named
  have hC1 : C1 [Value.ref a, .int x] := C1_r (x := some a) (C1_i C1_0)
  have hl0 := lv_entry [Value.ref a, .int x] (n := 2) (by rw [sl_len hC1]; exact Nat.le_refl _)
  have ht : ∀ x ∈ c.exceptionTable.toList, False := by
    obtain ⟨meth9, c9, h1, h2, -, -, -, -, h7, -⟩ := Cond.code_spec B.named (atoms_spec (ws := ws_ yX21_init cX21_init 2 none) B.pre (Cond.code yX21_init cX21_init 2 none) List.mem_cons_self)
    cases Option.some.inj (h1.symm.trans B.method)
    cases Option.some.inj (h2.symm.trans (Stand.of_body B).code)
    intro x hx
    rw [Array.isEmpty_iff.mp h7] at hx
    cases hx
  rw [lg_entry_eq]
  rw [ent_args hC1] at hl0
  have C : CX K mi_tok p s m meth c := ⟨B.exec, B.bytes, B.returns, B.notSynchronized, hml, hown, hU, (name_of_methodNamed B.named B.method).1, fun _ => ht, fun e => absurd e (by decide +kernel)⟩
  have hl : LH _ 2 (ent 0 [Value.ref a, .int x]) := ⟨hl0, ent_cat hC1 0⟩
  obtain ⟨kX', hkX', he⟩ := hU.al.2.2 _ _ hkX
  have hbl : blank cX kX' = blank cX kX := by rw [he]; rfl
  obtain ⟨sa, e1, e2⟩ := hF.2.2.2.2.2.2.1 15 _ rfl
  have e3 : hk h 115 = some sa := by rw [← e1, ← hH.2.2.1]; rfl
  refine lv_aload_n (i := 0) C.1 C.2.1 dX21_init_0 rfl (hl.at 0 rfl) ?_
  refine va_ldcS C.1 C.2.1 hown (vk_R.warm hU.1 e2) dX21_init_1 ?_
  have e4 : (Value.ref sa : Value) = va_rf (hk h 115) := by rw [e3]; rfl
  rw [e4]
  refine W_super (rest := []) hF C.1 hown hU hH va_S.rf (hl.1.1.trans hml.symm) hc (by rw [hU.al.findClass]; exact hfX) hkX' (by rw [hbl]; exact hcell) (by rw [C.2.1]; exact dX21_init_3) (by decide) (by decide) fun H1 locs1 hH1 hS1 => ?_
  have hR : R K mi_tok (sup21 h a) [Value.ref a, .int x] (.inl none) (tok21 h a x) 6 [(0, va_rf (some a)), (1, .int x)] [] (sup21 h a) := by
    refine R_aload_n 0 dX21_init_6 rfl rfl ?_
    refine R_iload_n 1 dX21_init_7 rfl rfl ?_
    refine R_putI (h1 := tok21 h a x) fp_tok ?_ dX21_init_8 ?_
    · simp [pf, sup21, tok21, hset]
    · exact R_return rfl dX21_init_11
  have := hR.2 hF hle.rf p e s m below meth c H1 locs1 _ C hH1 hS1 hl
  have e5 : hn (tok21 h a x) - hn (sup21 h a) = 0 := Nat.sub_self (hn h)
  have e6 : hs (tok21 h a x) - hs (sup21 h a) = 0 := Nat.sub_self (hs h)
  rw [e5, e6, Nat.sub_self, Nat.sub_self] at this
  exact this
def ckT16 : CK 16 RX19 TX19 4 := ⟨rfl, in_X19, ⟨tyX19, tyX19_ok⟩, nmX19⟩
def ckT17 : CK 17 RX20 TX20 3 := ⟨rfl, in_X20, ⟨tyX20, tyX20_ok⟩, nmX20⟩
def mi_X19_need : MI := (RX19, yX19_need, cX19_need, 2, none, 8)
theorem lgT_69 : LG RX19 69 16 2 := ⟨_, _, _, ckT16, by decide, Or.inl q1776⟩
theorem lgT_78 : LG RX19 78 17 1 := ⟨_, _, _, ckT17, by decide, Or.inr (Or.inl ⟨_, q1824⟩)⟩
/-- new TokenException(token.from), thrown -/
theorem need_throw {x0 t : Option Nat} {z x1 : Int32} (ht : gfr 16 2 x0 (nwo 18 7 bl21 h) = some t) (hz : gfi 17 1 t (nwo 18 7 bl21 h) = some z) :
    R K mi_X19_need h0 a0 (.inr (hn h)) (tok21 (nwo 18 7 bl21 h) (hn h) z) 4 [(0, va_rf x0), (1, .int x1)] [] h := by
  have hle1 : hle h (nwo 18 7 bl21 h) := hnew_le
  refine ⟨hle1, fun hF hh p e s m below meth c H locs ls C hH hS hl => ?_⟩
  have C0 := C
  obtain ⟨hx, hcc, q3, q4, q5, q6, hU, q8, q9, q10⟩ := C
  have hts := hU.w hF a0.toArray
  have hKn := (hU.K hF).1 18 _ rfl
  obtain ⟨c1, c2⟩ := cnt_new (c := .inr (18, bl21)) (n := 7) hh
  have n1 : hn (tok21 (nwo 18 7 bl21 h) (hn h) z) = hn h + 1 := rfl
  have n2 : hs (tok21 (nwo 18 7 bl21 h) (hn h) z) = hs h + 7 := rfl
  refine W.newcK hx hcc q6 (hts _ q1961) (hts _ q1962) (hts _ q172) rfl dX19_need_4 (by show _ ≤ hn _ - hn h0; rw [n1]; have := hh.1; omega) (by show _ ≤ hs _ - hs h0; rw [n2]; have := hh.2; omega) hKn.2.1 rfl fun H1 kC hkC e1 z1 o1 => ?_
  have hH1 : HR K (nwo 18 7 bl21 h) H1 := hH.new (c := .inr (18, bl21)) (n := 7) ⟨_, rfl, (u_born tyX21 hts in_X21 hKn hkC e1 tyX21_ok).to (by decide)⟩ (fun _ _ q => by cases q) z1 o1
  have hS1 := vaS_new hS z1 o1
  rw [c1, c2, hH.1]
  have hH1c : H1[hn h]? = some (blank ((KT.D K).1 18) kC) := by rw [← hH.1]; exact e1
  have hc1 : (nwo 18 7 bl21 h).1 (hn h) = some (.inr (18, bl21)) := by simp [nwo, hnew]
  obtain ⟨kX, hkX, he⟩ : ∃ kX, (KT.s0 K).vm.classes[(KT.D K).1 18]? = some kX ∧ blank ((KT.D K).1 18) kC = blank ((KT.D K).1 18) kX := by
    obtain ⟨hK1, hK2, kX, hkX, -⟩ := hF.2.1.1 18 _ rfl
    obtain ⟨k', hk', he⟩ := hU.al.2.2 _ _ hkX
    cases Option.some.inj (hk'.symm.trans hkC)
    exact ⟨kX, hkX, by rw [he]; rfl⟩
  obtain ⟨fs, g1, g2⟩ := Option.bind_eq_some_iff.mp ht
  obtain ⟨v, g3, g4⟩ := Option.bind_eq_some_iff.mp g2
  rw [vR_eq g4] at g3
  obtain ⟨b, rfl, -⟩ := ob_some g1
  obtain ⟨fs2, f1, f2⟩ := Option.bind_eq_some_iff.mp hz
  obtain ⟨v2, f3, f4⟩ := Option.bind_eq_some_iff.mp f2
  rw [vI_eq f4] at f3
  refine lv_dup hx hcc dX19_need_7 rfl ?_
  refine lv_aload_n (i := 0) hx hcc dX19_need_8 rfl (hl.at 0 rfl) ?_
  refine W_getv (mi := mi_X19_need) lgT_69 g1 g3 dX19_need_9 hF C0 hH1 hS1 ?_
  refine W_getv (mi := mi_X19_need) lgT_78 f1 f3 dX19_need_12 hF C0 hH1 hS1 ?_
  intro T hT X
  have hcx : hn h + 1 - hn h0 + 0 ≤ hn h + 1 - hn h0 ∧ hs h + 7 - hs h0 + 0 ≤ hs h + 7 - hs h0 := ⟨Nat.le_refl _, Nat.le_refl _⟩
  have hrun := va_runI (nL := 2) (n := 1) (p := p) (m := m) (c := c) (s := s) (e := e) (below := below) (meth := meth) (locs := locs) (cells := hn h + 1 - hn h0) (slots := hs h + 7 - hs h0) (R := rmD 8 (hn h + 1 - hn h0) (hs h + 7 - hs h0)) (args := a0.toArray) (g := F0 m 15 ls [.int z, .ref (hn h), .ref (hn h)]) (rest := [.ref (hn h)]) (b := hn h) (As := [.int z]) (H := H1) ⟨hx, hcc, q5, q6, hts⟩ (T_tok (x := z) hF hc1)
    (cwI 1 hts (lw_meth q2000) rfl rfl rfl (hts _ q172) (hts _ q1998) (hts _ q1999) rfl (by decide +kernel) ⟨Nat.le_succ _, by show 8 + (2 + 11) + 100 * 6 ≤ 100 * 8; decide⟩) ⟨PcX.blind, fun U hU2 hW => ⟨rfl, ⟨hU.go hS1 hU2 hW, by rw [hU2]; exact hH1⟩, _, kX, (hF.2.1.1 18 _ rfl).2.1, hkX, by rw [hU2, ← he]; exact hH1c⟩⟩ rfl rfl hl.1.1 rfl ((C1_r (x := some (hn h)) C1_0).sum8 (Nat.le_of_ble_eq_true rfl)) dX19_need_15 hcx
  obtain ⟨v', st0, t, T', Ls, e0, X', hL, e1', e2', ⟨⟨hv, hH2⟩, hz1, hk1⟩, stp⟩ := hrun T hT X
  cases hv
  rw [e0] at hz1 hk1
  rw [← e1'] at hH2 hz1 hk1
  have hS2 : va_S (pA K) s.heap T'.heap (locs ++ Ls) := ⟨Nat.le_trans hS1.1 hz1, fun q h1 h3 => (hk1 q (Nat.lt_of_lt_of_le h1 hS1.1) h3).trans (hS1.2.1 q h1 h3), fun q hq => by
    rcases List.mem_append.mp hq with z | z
    · exact hS1.2.2 q z
    · exact hL q z⟩
  obtain ⟨st1, hrun2, hend, hW, hsm⟩ := X'.athrowLeaves hx (g := F0 m 18 ls [.ref (hn h)]) rfl rfl rfl (fun x hx => (q9 (by decide +kernel) x hx).elim) (a := hn h) (rest := []) rfl (by rw [hcc]; exact dX19_need_18) q4
  obtain ⟨r9, hr9, cell9, b1, b2, b3, b4⟩ := (hH2.2.2.2 (hn h) (.inr (18, [.ref (hn h), va_rf (hk (nwo 18 7 bl21 h) 2), va_rf (hk (nwo 18 7 bl21 h) 3), va_rf (hk (nwo 18 7 bl21 h) 115), .null, .int 0, .int z])) (by simp [tok21, hset])).2.1
  exact ⟨_, stp _ st1, .threw (hn h), hrun2, hend, rfl, hH2, ⟨hS2.1, hS2.2.1⟩, cell9, _, b1, b3, by rw [b2]; exact hKn.2.1, hW, hsm, hS2.2.2⟩
/-- an answer of a method that may throw: a value, or the address of what was thrown -/
def rsI : Int32 ⊕ Nat → RS
  | .inl x => .inl (some (.int x))
  | .inr q => .inr q
def rsV : Unit ⊕ Nat → RS
  | .inl _ => .inl none
  | .inr q => .inr q
def f_X19_need (x0 : Option Nat) (x1 : Int32) (h : PH) : Option ((Unit ⊕ Nat) × PH) :=
  if x1 = 0 then (gfr 16 2 x0 (nwo 18 7 bl21 h)).bind (fun t => (gfi 17 1 t (nwo 18 7 bl21 h)).bind (fun z => some (.inr (hn h), tok21 (nwo 18 7 bl21 h) (hn h) z))) else some (.inl (), h)
theorem T_X19_need {x0 : Option Nat} {x1 : Int32} {q : (Unit ⊕ Nat) × PH} (hf : f_X19_need x0 x1 h = some q) : T K mi_X19_need [va_rf x0, .int x1] h (rsV q.1) q.2 := by
  unfold f_X19_need at hf
  refine T_of (by decide +kernel) rfl (C1_r (C1_i C1_0)) (Nat.le_of_ble_eq_true rfl) ?_
  show R K mi_X19_need h [va_rf x0, .int x1] _ _ 0 [(0, va_rf x0), (1, .int x1)] [] h
  refine R_iload_n 1 dX19_need_0 rfl rfl ?_
  refine R_ifne dX19_need_1 rfl (fun hc => ?_) (fun hc => ?_)
  · rw [if_pos hc] at hf
    obtain ⟨t, e1, hf⟩ := Option.bind_eq_some_iff.mp hf
    obtain ⟨z, e2, hf⟩ := Option.bind_eq_some_iff.mp hf
    cases hf
    exact need_throw e1 e2
  · rw [if_neg hc] at hf
    cases hf
    exact R_return rfl dX19_need_19
/-- a call that throws, caught by load's table -/
theorem R_catchV {mj : MI} {idx ci : Nat} {x : Option Nat} {As rest : List Value} {q0 : Nat} {h1 : PH} {u : Unit} {q : vw_C} (hT : T K mj (va_rf x :: As) h (.inr q0) h1) (hb : rcv ci x h = some u) (hc : pcl[ci]? = some q) (hG : GoodIn lw_all (wsV mi.own idx q.1 mj.y (ws_ mj.y mj.cc mj.nL mj.ret))) (hy : mj.y.cls = q.1 ∧ okY mj.y As.length) (hd : mj.d + 1 ≤ mi.d) (hm : mj.nL ≤ 80)
    (hst : st = As.reverse ++ va_rf x :: rest) (h1r : C1 rest) (h8 : rest.length ≤ 8) (hdg : decode mi.cc pc = .ok (.invokevirtual idx, 3)) (hnl : mi.y = ldY) (hown : mi.own = "EdgeSums") (hpc : 9 ≤ pc ∧ pc < 14) (k : R K mi h0 a0 r h' 17 L [va_rf (some q0)] h1) : R K mi h0 a0 r h' pc L st h := by
  obtain ⟨b, rfl⟩ := rcv_some hb
  refine ⟨hT.1.tr k.1, fun hF hh p e s m below meth c H locs ls C hH hS hl => ?_⟩
  have C0 := C
  obtain ⟨hx, hcc, q3, q4, q5, q6, hU, q8, q9, q10⟩ := C
  have hts := hU.w hF a0.toArray
  have hrun := xx_runV (nL := mi.nL) (n := As.length) ⟨hx, hcc, q5, q6, hts⟩ (hT.xx hF) (cwV As.length hts hG rfl rfl rfl hy (rm_fit (h' := h') (h0 := h0) (h := h) hd hm)) (R_pcV hF hU hH hS hb hc) (e := e) (below := below) (meth := meth) (locs := locs) (cells := hn h - hn h0) (slots := hs h - hs h0) (g := F0 m pc ls st) (rest := rest) rfl rfl hl.1.1 hst (h1r.sum8 h8) hdg (cl_fit hh hT.1 k.1)
  intro T hT9 X
  rcases hrun T hT9 X with ⟨v, st₀, t, T', Ls, e0, X', hL, e1, e2, hq, -⟩ | ⟨q, st0, t, T', Ls, E, ce, e0, X', hL, e1, e2, ⟨rfl, rfl, hH1, hz, hk⟩, hce, hcv, hcl, stp⟩
  · exact hq.elim
  rw [e0] at hz hk
  rw [← e1] at hH1 hz hk hce
  have hS1 : va_S (pA K) s.heap T'.heap (locs ++ Ls) := ⟨Nat.le_trans hS.1 hz, fun q h1 h3 => (hk q (Nat.lt_of_lt_of_le h1 hS.1) h3).trans (hS.2.1 q h1 h3), fun q hq => by
    rcases List.mem_append.mp hq with z | z
    · exact hS.2.2 q z
    · exact hL q z⟩
  have c1 : hn h - hn h0 + (hn h1 - hn h) = hn h1 - hn h0 := by have := hh.1; have := hT.1.1; omega
  have c2 : hs h - hs h0 + (hs h1 - hs h) = hs h1 - hs h0 := by have := hh.2; have := hT.1.2; omega
  rw [c1, c2] at X'
  have hpl : e.platform.magicAccessors = ({} : Platform).magicAccessors := by rw [X.admits.platform]
  obtain ⟨c3, c4, hc3, hc4, hasg⟩ := Cond.castable_spec (hU.face hF q1963 (by decide +kernel) a0.toArray)
  cases Option.some.inj (hc3.symm.trans hcl)
  rw [hown] at q6
  obtain ⟨c5, hc5, hcl5⟩ := Cond.classLink_spec q6 (hts _ q1765) e.platform hpl
  cases Option.some.inj (hc4.symm.trans hc5)
  obtain ⟨vm', X'', st2⟩ := X'.thenCaughtThrough q (g := F0 m pc ls rest) rfl (Steps.refl _) hce (by rw [hcv]; rfl) (by obtain ⟨k9, h9, -⟩ := Vm.findClass_spec hcl; exact ⟨k9, h9⟩) [] ⟨9, 14, 17, 316⟩ [] (q10 hnl)
    (fun z hz => nomatch hz) (by
      have h1 := hpc.1
      have h2 := hpc.2
      simp [covers, h1, h2]) (Or.inr ⟨by decide, c4, hcl5, hasg⟩)
  obtain ⟨t2, a1, b1⟩ := k.2 hF (hh.tr hT.1) p e s m below meth c T'.heap (locs ++ Ls) ls C0 hH1 hS1 hl (T'.setVm vm') rfl X''
  exact ⟨t2, (stp.trans st2).trans a1, b1⟩
/-- the contract of the method with the table -/
abbrev wsL (mi : MI) : List Cond := Cond.codeWith mi.y mi.cc mi.nL mi.ret [(9, 14, 17, 316)] :: lw_all
def TL (K : KT) (mi : MI) (a : List Value) (h : PH) (v : Option Value) (h' : PH) : Prop := hle h h' ∧ (FK K →
  Met (KT.l K) mi.y (wsL mi) (rmD mi.d (hn h' - hn h) (hs h' - hs h)) (PcT K a h) (QN K v h') (hn h' - hn h) (hs h' - hs h) (pA K))
theorem TL_of {mi : MI} {a : List Value} {h h' : PH} {v : Option Value} (hy : plainName mi.y.cls = true) (ho : mi.own = mi.y.cls) (hc : C1 a) (hl : a.length ≤ mi.nL)
    (k : R K mi h a (.inl v) h' 0 (ent 0 a) [] h) (hnl : mi.y = ldY) : TL K mi a h v h' := by
  refine ⟨k.1, fun hF => ?_⟩
  refine MetFree.of_bodyS (code := mi.cc) (maxLocals := mi.nL) (ret := mi.ret) hy ?_ ?_
  · intro args s m h hn
    obtain ⟨m9, meth, c, hn9, h1, h2, h3, h4, -, h5, h6, -⟩ := Cond.codeWith_spec (atoms_spec (ws := wsL mi) h _ List.mem_cons_self)
    cases hn.symm.trans hn9
    exact ⟨meth, c, h1, h2, h3, h4, h5, h6⟩
  · intro p e s m args below meth c s₁ B hml hP _
    have hh0 : s₁.heap = s.heap := by rw [B.state]; rfl
    obtain ⟨rfl, hU, hH⟩ := hP
    have hown : s.vm.findClass mi.own = some m.cls := by rw [ho]; exact findClass_of_methodNamed B.named
    have hl0 := lv_entry a (n := mi.nL) (by rw [sl_len hc]; exact hl)
    have htab : c.exceptionTable.toList = tableOf [(9, 14, 17, 316)] := by
      obtain ⟨m9, meth9, c9, hn9, h1, h2, -, -, h6, -⟩ := Cond.codeWith_spec (atoms_spec (ws := wsL mi) B.pre _ List.mem_cons_self)
      cases Option.some.inj (hn9.symm.trans B.named)
      cases Option.some.inj (h1.symm.trans B.method)
      cases Option.some.inj (h2.symm.trans (Stand.of_body B).code)
      rw [← h6, table_eq]
    rw [ent_args hc] at hl0
    have := k.2 hF hle.rf p e s m below meth c s.heap [] _ ⟨B.exec, B.bytes, B.returns, B.notSynchronized, hml, hown, hU, (name_of_methodNamed B.named B.method).1, fun q => absurd hnl q, fun _ => htab⟩ hH va_S.rf ⟨hl0, ent_cat hc 0⟩
    rw [Nat.sub_self, Nat.sub_self] at this
    rw [lg_entry_eq]
    obtain ⟨t, a1, o, b1, b2, b3⟩ := this s₁ hh0 (Stand.of_body B)
    exact ⟨t, o, a1, b1, b2, b3⟩
theorem lw_Lx {mj : MI} {own : String} {idx : Nat} {C : String} (h1 : Cond.methodLink own idx mj.y ∈ lw_all) (h2 : Cond.instanceMethod mj.y ∈ lw_all) (h3 : Cond.selects C mj.y mj.y ∈ lw_all) (h4 : Cond.initialized C ∈ lw_all) (h5 : Cond.codeWith mj.y mj.cc mj.nL mj.ret [(9, 14, 17, 316)] ∈ lw_all) : GoodIn lw_all (wsV own idx C mj.y (wsL mj)) := by
  have hw : GoodIn lw_all (wsL mj) := by
    intro w hw
    rcases List.mem_cons.mp hw with e | e
    · rw [e]
      exact lw_self _ h5
    · exact lw_self _ e
  refine lw_app ?_ hw
  intro w hw
  simp only [List.mem_cons, List.not_mem_nil, or_false] at hw
  rcases hw with e | e | e | e
  · rw [e]; exact h1
  · rw [e]; exact h2
  · rw [e]; exact h3
  · rw [e]; exact h4
/-- its call -/
theorem R_callL {mj : MI} {idx ci : Nat} {x : Option Nat} {As rest : List Value} {v : Option Value} {h1 : PH} {u : Unit} {q : vw_C} (hT : TL K mj (va_rf x :: As) h v h1) (hb : rcv ci x h = some u) (hc : pcl[ci]? = some q) (hG : GoodIn lw_all (wsV mi.own idx q.1 mj.y (wsL mj))) (hy : mj.y.cls = q.1 ∧ okY mj.y As.length) (hd : mj.d + 1 ≤ mi.d) (hm : mj.nL ≤ 80)
    (hst : st = As.reverse ++ va_rf x :: rest) (h1r : C1 rest) (h8 : rest.length ≤ 8) (hdg : decode mi.cc pc = .ok (.invokevirtual idx, 3)) (k : R K mi h0 a0 r h' (pc + 3) L (v.toList ++ rest) h1) : R K mi h0 a0 r h' pc L st h := by
  obtain ⟨b, rfl⟩ := rcv_some hb
  refine R_run (aa := (Value.ref b :: As).toArray) hT.1 (fun hF hh hk p e s m below meth c H locs ls C hH hS hl => ?_) k
  obtain ⟨hx, hcc, q3, q4, q5, q6, hU, q8⟩ := C
  have hts := hU.w hF a0.toArray
  exact vx_runVW (nL := mi.nL) (n := As.length) ⟨hx, hcc, q5, q6, hts⟩ (hT.2 hF) (vx_cwVW As.length hts hG rfl rfl rfl hy (rm_fit hd hm)) (R_pcV hF hU hH hS hb hc) rfl rfl hl.1.1 hst (h1r.sum8 h8) hdg (cl_fit hh hT.1 hk)
end R7
