/-! THE PURE WORLD: calls -/
set_option maxRecDepth 100000
section R4
variable {K : KT} {mi : MI} {h0 : PH} {a0 : List Value} {r : RS} {h' : PH} {pc : Nat} {L : List (Nat × Value)} {st : List Value} {h : PH}
theorem R_run {rest : List Value} {v : Option Value} {h1 : PH} {aa : Array Value} (h2 : hle h h1)
    (hrun : FK K → hle h0 h → hle h1 h' → ∀ (p : Program) (e : Env) (s : State) (m : MethodId) (below : List Frame) (meth : Method) (c : Code) (H : Heap) (locs : List Loc) (ls : Array Slot), CX K mi p s m meth c → HR K h H → va_S (pA K) s.heap H locs → LH ls mi.nL L →
      va_Run p (KT.l K) e (rmD mi.d (hn h' - hn h0) (hs h' - hs h0)) s m a0.toArray below meth c H locs (hn h - hn h0) (hs h - hs h0) (hn h1 - hn h) (hs h1 - hs h) (F0 m pc ls st) rest (QN K v h1 aa) (pA K))
    (k : R K mi h0 a0 r h' (pc + 3) L (v.toList ++ rest) h1) : R K mi h0 a0 r h' pc L st h := by
  refine ⟨h2.tr k.1, fun hF hh p e s m below meth c H locs ls C hH hS hl => ?_⟩
  intro T hT X
  obtain ⟨v', st0, t, T', Ls, e0, X', hL, e1, e2, ⟨⟨hv, hH1⟩, hz, hk⟩, stp⟩ := hrun hF hh k.1 p e s m below meth c H locs ls C hH hS hl T hT X
  cases hv
  rw [e0] at hz hk
  rw [← e1] at hH1 hz hk
  have hS1 : va_S (pA K) s.heap T'.heap (locs ++ Ls) := ⟨Nat.le_trans hS.1 hz, fun q h1 h3 => (hk q (Nat.lt_of_lt_of_le h1 hS.1) h3).trans (hS.2.1 q h1 h3), fun q hq => by
    rcases List.mem_append.mp hq with z | z
    · exact hS.2.2 q z
    · exact hL q z⟩
  have k2 := k.2 hF (hh.tr h2) p e s m below meth c T'.heap (locs ++ Ls) ls C hH1 hS1 hl
  have c1 : hn h - hn h0 + (hn h1 - hn h) = hn h1 - hn h0 := by have := hh.1; have := h2.1; omega
  have c2 : hs h - hs h0 + (hs h1 - hs h) = hs h1 - hs h0 := by have := hh.2; have := h2.2; omega
  rw [c1, c2] at X'
  obtain ⟨t2, a1, b1⟩ := k2 T' rfl X'
  exact ⟨t2, stp t2 a1, b1⟩
/-- the same for a call of five bytes -/
theorem R_run5 {rest : List Value} {v : Option Value} {h1 : PH} {aa : Array Value} (h2 : hle h h1)
    (hrun : FK K → hle h0 h → hle h1 h' → ∀ (p : Program) (e : Env) (s : State) (m : MethodId) (below : List Frame) (meth : Method) (c : Code) (H : Heap) (locs : List Loc) (ls : Array Slot), CX K mi p s m meth c → HR K h H → va_S (pA K) s.heap H locs → LH ls mi.nL L →
      va_Run5 p (KT.l K) e (rmD mi.d (hn h' - hn h0) (hs h' - hs h0)) s m a0.toArray below meth c H locs (hn h - hn h0) (hs h - hs h0) (hn h1 - hn h) (hs h1 - hs h) (F0 m pc ls st) rest (QN K v h1 aa) (pA K))
    (k : R K mi h0 a0 r h' (pc + 5) L (v.toList ++ rest) h1) : R K mi h0 a0 r h' pc L st h := by
  refine ⟨h2.tr k.1, fun hF hh p e s m below meth c H locs ls C hH hS hl => ?_⟩
  intro T hT X
  obtain ⟨v', st0, t, T', Ls, e0, X', hL, e1, e2, ⟨⟨hv, hH1⟩, hz, hk⟩, stp⟩ := hrun hF hh k.1 p e s m below meth c H locs ls C hH hS hl T hT X
  cases hv
  rw [e0] at hz hk
  rw [← e1] at hH1 hz hk
  have hS1 : va_S (pA K) s.heap T'.heap (locs ++ Ls) := ⟨Nat.le_trans hS.1 hz, fun q h1 h3 => (hk q (Nat.lt_of_lt_of_le h1 hS.1) h3).trans (hS.2.1 q h1 h3), fun q hq => by
    rcases List.mem_append.mp hq with z | z
    · exact hS.2.2 q z
    · exact hL q z⟩
  have k2 := k.2 hF (hh.tr h2) p e s m below meth c T'.heap (locs ++ Ls) ls C hH1 hS1 hl
  have c1 : hn h - hn h0 + (hn h1 - hn h) = hn h1 - hn h0 := by have := hh.1; have := h2.1; omega
  have c2 : hs h - hs h0 + (hs h1 - hs h) = hs h1 - hs h0 := by have := hh.2; have := h2.2; omega
  rw [c1, c2] at X'
  obtain ⟨t2, a1, b1⟩ := k2 T' rfl X'
  exact ⟨t2, stp t2 a1, b1⟩
theorem R_pcS {a : List Value} {s : State} {H : Heap} {locs : List Loc} (hU : KU K s) (hH : HR K h H) (hS : va_S (pA K) s.heap H locs) : PreS s H (PcT K a h) a :=
  ⟨PcT.blind, fun U hU2 hW => ⟨rfl, hU.go hS hU2 hW, by rw [hU2]; exact hH⟩⟩
theorem R_pcV {b ci : Nat} {As : List Value} {s : State} {H : Heap} {locs : List Loc} {q : vw_C} {u : Unit} (hF : FK K) (hU : KU K s) (hH : HR K h H) (hS : va_S (pA K) s.heap H locs) (hb : rcv ci (some b) h = some u) (hc : pcl[ci]? = some q) : PreV s H q.1 b (PcT K (.ref b :: As) h) As := by
  unfold rcv at hb
  split at hb
  · rename_i h1
    obtain ⟨a, fs, e, ha⟩ := clo_some h1
    cases e
    exact ⟨PcT.blind, rd_recv hF hH hU hS ha hc, fun U hU2 hW => ⟨rfl, hU.go hS hU2 hW, by rw [hU2]; exact hH⟩⟩
  · cases hb
theorem rcv_some {ci : Nat} {x : Option Nat} {u : Unit} (hb : rcv ci x h = some u) : ∃ b, x = some b := by
  cases x with
  | none => cases hb
  | some b => exact ⟨b, rfl⟩
theorem C1.sum8 {rest : List Value} (h1 : C1 rest) (h2 : rest.length ≤ 8) {m : MethodId} {pc : Nat} {ls : Array Slot} {st : List Value} : 2 * (F0 m pc ls st).monitorRoom + (rest.map fun v => v.category).sum ≤ 8 := by
  rw [h1.sum]
  show 2 * 0 + rest.length ≤ 8
  omega
/-- the room of a callee in its caller's -/
theorem rm_fit {h1 : PH} {d d' maxL : Nat} (hd : d' + 1 ≤ d) (hm : maxL ≤ 80) : (rmD d' (hn h1 - hn h) (hs h1 - hs h)).frames + 1 ≤ (rmD d (hn h' - hn h0) (hs h' - hs h0)).frames ∧ 8 + (maxL + 11) + (rmD d' (hn h1 - hn h) (hs h1 - hs h)).locals ≤ (rmD d (hn h' - hn h0) (hs h' - hs h0)).locals := by
  refine ⟨hd, ?_⟩
  show 8 + (maxL + 11) + 100 * d' ≤ 100 * d
  omega
theorem cl_fit {h1 : PH} (a : hle h0 h) (b : hle h h1) (c : hle h1 h') {d : Nat} : (hn h - hn h0) + (hn h1 - hn h) ≤ (rmD d (hn h' - hn h0) (hs h' - hs h0)).cells ∧ (hs h - hs h0) + (hs h1 - hs h) ≤ (rmD d (hn h' - hn h0) (hs h' - hs h0)).slots := by
  obtain ⟨a1, a2⟩ := a
  obtain ⟨b1, b2⟩ := b
  obtain ⟨c1, c2⟩ := c
  show _ ≤ hn h' - hn h0 ∧ _ ≤ hs h' - hs h0
  omega
abbrev okY (y : MethodName) (n : Nat) : Prop := y.cls ≠ "java/lang/invoke/MethodHandle" ∧ y.cls ≠ "java/lang/invoke/VarHandle" ∧ (parseMethodDescriptor y.desc).map (fun d => d.parameters.length) = some n
/-- a call of a static method -/
theorem R_callS {mj : MI} {idx : Nat} {As rest : List Value} {v : Option Value} {h1 : PH} (hT : T K mj As h (.inl v) h1) (hG : GoodIn lw_all (va_wsS mi.own idx mj.y (ws_ mj.y mj.cc mj.nL mj.ret))) (hy : okY mj.y As.length) (hd : mj.d + 1 ≤ mi.d) (hm : mj.nL ≤ 80)
    (hst : st = As.reverse ++ rest) (h1r : C1 rest) (h8 : rest.length ≤ 8) (hdg : decode mi.cc pc = .ok (.invokestatic idx, 3)) (k : R K mi h0 a0 r h' (pc + 3) L (v.toList ++ rest) h1) : R K mi h0 a0 r h' pc L st h := by
  refine R_run (aa := As.toArray) hT.1 (fun hF hh hk p e s m below meth c H locs ls C hH hS hl => ?_) k
  obtain ⟨hx, hcc, q3, q4, q5, q6, hU, q8⟩ := C
  have hts := hU.w hF a0.toArray
  exact va_runS (nL := mi.nL) (n := As.length) ⟨hx, hcc, q5, q6, hts⟩ (hT.2 hF) (va_cwS As.length hts hG rfl rfl rfl hy (rm_fit hd hm)) (R_pcS hU hH hS) rfl rfl hl.1.1 hst (h1r.sum8 h8) hdg (cl_fit hh hT.1 hk)
/-- a call of an object's method, by the class that the link names -/
theorem R_callV {mj : MI} {idx ci : Nat} {x : Option Nat} {As rest : List Value} {v : Option Value} {h1 : PH} {u : Unit} {q : vw_C} (hT : T K mj (va_rf x :: As) h (.inl v) h1) (hb : rcv ci x h = some u) (hc : pcl[ci]? = some q) (hG : GoodIn lw_all (wsV mi.own idx q.1 mj.y (ws_ mj.y mj.cc mj.nL mj.ret))) (hy : mj.y.cls = q.1 ∧ okY mj.y As.length) (hd : mj.d + 1 ≤ mi.d) (hm : mj.nL ≤ 80)
    (hst : st = As.reverse ++ va_rf x :: rest) (h1r : C1 rest) (h8 : rest.length ≤ 8) (hdg : decode mi.cc pc = .ok (.invokevirtual idx, 3)) (k : R K mi h0 a0 r h' (pc + 3) L (v.toList ++ rest) h1) : R K mi h0 a0 r h' pc L st h := by
  obtain ⟨b, rfl⟩ := rcv_some hb
  refine R_run (aa := (Value.ref b :: As).toArray) hT.1 (fun hF hh hk p e s m below meth c H locs ls C hH hS hl => ?_) k
  obtain ⟨hx, hcc, q3, q4, q5, q6, hU, q8⟩ := C
  have hts := hU.w hF a0.toArray
  exact va_runV (nL := mi.nL) (n := As.length) ⟨hx, hcc, q5, q6, hts⟩ (hT.2 hF) (cwV As.length hts hG rfl rfl rfl hy (rm_fit hd hm)) (R_pcV hF hU hH hS hb hc) rfl rfl hl.1.1 hst (h1r.sum8 h8) hdg (cl_fit hh hT.1 hk)
/-- a call of an inherited or overriding method: x by the link, y the one that runs, owner where x is found -/
theorem R_callU {mj : MI} {y0 : MethodName} {owner : String} {idx ci : Nat} {x : Option Nat} {As rest : List Value} {v : Option Value} {h1 : PH} {u : Unit} {q : vw_C} (hT : T K mj (va_rf x :: As) h (.inl v) h1) (hb : rcv ci x h = some u) (hc : pcl[ci]? = some q) (hG : GoodIn lw_all (va_wsU mi.own idx q.1 owner y0 mj.y (ws_ mj.y mj.cc mj.nL mj.ret))) (hyx : mj.y = ⟨owner, y0.name, y0.desc⟩) (hy : owner ≠ "java/lang/invoke/MethodHandle" ∧ owner ≠ "java/lang/invoke/VarHandle" ∧ (parseMethodDescriptor y0.desc).map (fun d => d.parameters.length) = some As.length) (hd : mj.d + 1 ≤ mi.d) (hm : mj.nL ≤ 80)
    (hst : st = As.reverse ++ va_rf x :: rest) (h1r : C1 rest) (h8 : rest.length ≤ 8) (hdg : decode mi.cc pc = .ok (.invokevirtual idx, 3)) (k : R K mi h0 a0 r h' (pc + 3) L (v.toList ++ rest) h1) : R K mi h0 a0 r h' pc L st h := by
  obtain ⟨b, rfl⟩ := rcv_some hb
  refine R_run (aa := (Value.ref b :: As).toArray) hT.1 (fun hF hh hk p e s m below meth c H locs ls C hH hS hl => ?_) k
  obtain ⟨hx, hcc, q3, q4, q5, q6, hU, q8⟩ := C
  have hts := hU.w hF a0.toArray
  exact va_runU (nL := mi.nL) (n := As.length) ⟨hx, hcc, q5, q6, hts⟩ (hT.2 hF) (va_cwU As.length hts hG rfl rfl rfl hyx hy (rm_fit hd hm)) (R_pcV hF hU hH hS hb hc) rfl rfl hl.1.1 hst (h1r.sum8 h8) hdg (cl_fit hh hT.1 hk)
theorem R_callO {mj : MI} {y0 : MethodName} {owner : String} {idx ci : Nat} {x : Option Nat} {As rest : List Value} {v : Option Value} {h1 : PH} {u : Unit} {q : vw_C} (hT : T K mj (va_rf x :: As) h (.inl v) h1) (hb : rcv ci x h = some u) (hc : pcl[ci]? = some q) (cw : ∀ {R : Room} {s : State}, KU K s → FK K → (rmD mj.d (hn h1 - hn h) (hs h1 - hs h)).frames + 1 ≤ R.frames ∧ 8 + (mj.nL + 11) + (rmD mj.d (hn h1 - hn h) (hs h1 - hs h)).locals ≤ R.locals → va_CU R s a0.toArray mi.own q.1 owner idx y0 mj.y mj.cc mj.nL mj.ret (ws_ mj.y mj.cc mj.nL mj.ret) (rmD mj.d (hn h1 - hn h) (hs h1 - hs h)) (hn h1 - hn h) (hs h1 - hs h) As.length) (hd : mj.d + 1 ≤ mi.d) (hm : mj.nL ≤ 80)
    (hst : st = As.reverse ++ va_rf x :: rest) (h1r : C1 rest) (h8 : rest.length ≤ 8) (hdg : decode mi.cc pc = .ok (.invokevirtual idx, 3)) (k : R K mi h0 a0 r h' (pc + 3) L (v.toList ++ rest) h1) : R K mi h0 a0 r h' pc L st h := by
  obtain ⟨b, rfl⟩ := rcv_some hb
  refine R_run (aa := (Value.ref b :: As).toArray) hT.1 (fun hF hh hk p e s m below meth c H locs ls C hH hS hl => ?_) k
  obtain ⟨hx, hcc, q3, q4, q5, q6, hU, q8⟩ := C
  have hts := hU.w hF a0.toArray
  exact va_runU (nL := mi.nL) (n := As.length) ⟨hx, hcc, q5, q6, hts⟩ (hT.2 hF) (cw hU hF (rm_fit hd hm)) (R_pcV hF hU hH hS hb hc) rfl rfl hl.1.1 hst (h1r.sum8 h8) hdg (cl_fit hh hT.1 hk)
/-- a constructor's call -/
theorem R_callI {mj : MI} {idx : Nat} {b : Nat} {As rest : List Value} {h1 : PH} (hT : T K mj (va_rf (some b) :: As) h (.inl none) h1) (hG : GoodIn lw_all (ws_ mj.y mj.cc mj.nL mj.ret)) (hr : mj.ret = none) (hini : Cond.initialized mj.y.cls ∈ lw_all) (hl0 : Cond.methodLink mi.own idx mj.y ∈ lw_all) (hin : Cond.instanceMethod mj.y ∈ lw_all) (hy1 : mj.y.name = "<init>") (hy : okY mj.y As.length) (hd : mj.d + 1 ≤ mi.d) (hm : mj.nL ≤ 80)
    (hst : st = As.reverse ++ va_rf (some b) :: rest) (h1r : C1 rest) (h8 : rest.length ≤ 8) (hdg : decode mi.cc pc = .ok (.invokespecial idx, 3)) (k : R K mi h0 a0 r h' (pc + 3) L rest h1) : R K mi h0 a0 r h' pc L st h := by
  refine R_run (v := none) (aa := (Value.ref b :: As).toArray) hT.1 (fun hF hh hk p e s m below meth c H locs ls C hH hS hl => ?_) k
  obtain ⟨hx, hcc, q3, q4, q5, q6, hU, q8⟩ := C
  have hts := hU.w hF a0.toArray
  have hM := hT.2 hF
  rw [hr] at hG
  have e : ws_ mj.y mj.cc mj.nL mj.ret = ws_ mj.y mj.cc mj.nL none := by rw [hr]
  dsimp only at hM
  rw [e] at hM
  exact va_runI (nL := mi.nL) (n := As.length) ⟨hx, hcc, q5, q6, hts⟩ hM (cwI As.length hts hG rfl rfl rfl (hts _ hini) (hts _ hl0) (hts _ hin) hy1 hy (rm_fit hd hm)) (R_pcS hU hH hS) rfl rfl hl.1.1 hst (h1r.sum8 h8) hdg (cl_fit hh hT.1 hk)
/-- Object's constructor -/
theorem R_objInit {idx b : Nat} (hl0 : Cond.methodLink mi.own idx Lib.objectInit ∈ lw_all) (hin : Cond.instanceMethod Lib.objectInit ∈ lw_all) (hcd : Cond.code Lib.objectInit ⟨#[0xb1]⟩ 1 none ∈ lw_all) (hd : 1 ≤ mi.d) (h1r : C1 st) (h8 : st.length ≤ 8) (hdg : decode mi.cc pc = .ok (.invokespecial idx, 3)) (k : R K mi h0 a0 r h' (pc + 3) L st h) : R K mi h0 a0 r h' pc L (va_rf (some b) :: st) h := by
  refine ⟨k.1, fun hF hh p e s m below meth c H locs ls C hH hS hl => ?_⟩
  have k2 := k.2 hF hh p e s m below meth c H locs ls C hH hS hl
  obtain ⟨hx, hcc, q3, q4, q5, q6, hU, q8⟩ := C
  have hts := hU.w hF a0.toArray
  refine W.objInit hx hcc q6 (hts _ hl0) (hts _ hin) (hts _ hcd) rfl (by rw [q5]; exact hl.1.1) rfl hdg hd ?_ k2
  rw [h1r.sum]
  show 2 * 0 + st.length + 12 ≤ 100 * mi.d
  omega
theorem KU.m {s : State} (hF : FK K) (hU : KU K s) {own : String} {idx : Nat} {y : MethodName} {ho : String} (hw : Cond.methodLinkNest own idx y ho ∈ lw_tbl) : va_Nw (.methodLinkNest own idx y ho) s := va_Nw.warmM hU.1 (va_Nw.of rfl (hF.1 _ hw))
/-- calls of a nest mate's private members -/
theorem R_callVN {mj : MI} {idx ci : Nat} {ho : String} {x : Option Nat} {As rest : List Value} {v : Option Value} {h1 : PH} {u : Unit} {q : vw_C} (hT : T K mj (va_rf x :: As) h (.inl v) h1) (hb : rcv ci x h = some u) (hc : pcl[ci]? = some q) (hG : GoodIn lw_all (ws_ mj.y mj.cc mj.nL mj.ret)) (hl0 : Cond.methodLinkNest mi.own idx mj.y ho ∈ lw_tbl) (hini : Cond.initialized mj.y.cls ∈ lw_all) (hin : Cond.instanceMethod mj.y ∈ lw_all) (hse : Cond.selects q.1 mj.y mj.y ∈ lw_all) (hy : okY mj.y As.length) (hd : mj.d + 1 ≤ mi.d) (hm : mj.nL ≤ 80)
    (hst : st = As.reverse ++ va_rf x :: rest) (h1r : C1 rest) (h8 : rest.length ≤ 8) (hdg : decode mi.cc pc = .ok (.invokevirtual idx, 3)) (k : R K mi h0 a0 r h' (pc + 3) L (v.toList ++ rest) h1) : R K mi h0 a0 r h' pc L st h := by
  obtain ⟨b, rfl⟩ := rcv_some hb
  refine R_run (aa := (Value.ref b :: As).toArray) hT.1 (fun hF hh hk p e s m below meth c H locs ls C hH hS hl => ?_) k
  obtain ⟨hx, hcc, q3, q4, q5, q6, hU, q8⟩ := C
  have hts := hU.w hF a0.toArray
  exact va_runVN (nL := mi.nL) (n := As.length) ⟨hx, hcc, q5, q6, hts⟩ (hT.2 hF) ⟨va_cnB As.length hts hG rfl rfl rfl (hU.m hF hl0) (hts _ hini) hy (rm_fit hd hm), hts _ hin, hts _ hse⟩ (R_pcV hF hU hH hS hb hc) rfl rfl hl.1.1 hst (h1r.sum8 h8) hdg (cl_fit hh hT.1 hk)
theorem R_callSN {mj : MI} {idx : Nat} {ho : String} {As rest : List Value} {v : Option Value} {h1 : PH} (hT : T K mj As h (.inl v) h1) (hG : GoodIn lw_all (ws_ mj.y mj.cc mj.nL mj.ret)) (hl0 : Cond.methodLinkNest mi.own idx mj.y ho ∈ lw_tbl) (hini : Cond.initialized mj.y.cls ∈ lw_all) (hin : Cond.static mj.y ∈ lw_all) (hy : okY mj.y As.length) (hd : mj.d + 1 ≤ mi.d) (hm : mj.nL ≤ 80)
    (hst : st = As.reverse ++ rest) (h1r : C1 rest) (h8 : rest.length ≤ 8) (hdg : decode mi.cc pc = .ok (.invokestatic idx, 3)) (k : R K mi h0 a0 r h' (pc + 3) L (v.toList ++ rest) h1) : R K mi h0 a0 r h' pc L st h := by
  refine R_run (aa := As.toArray) hT.1 (fun hF hh hk p e s m below meth c H locs ls C hH hS hl => ?_) k
  obtain ⟨hx, hcc, q3, q4, q5, q6, hU, q8⟩ := C
  have hts := hU.w hF a0.toArray
  exact va_runSN (nL := mi.nL) (n := As.length) ⟨hx, hcc, q5, q6, hts⟩ (hT.2 hF) ⟨va_cnB As.length hts hG rfl rfl rfl (hU.m hF hl0) (hts _ hini) hy (rm_fit hd hm), hts _ hin, trivial⟩ (R_pcS hU hH hS) rfl rfl hl.1.1 hst (h1r.sum8 h8) hdg (cl_fit hh hT.1 hk)
theorem R_callIN {mj : MI} {idx : Nat} {ho : String} {b : Nat} {As rest : List Value} {h1 : PH} (hT : T K mj (va_rf (some b) :: As) h (.inl none) h1) (hG : GoodIn lw_all (ws_ mj.y mj.cc mj.nL mj.ret)) (hr : mj.ret = none) (hl0 : Cond.methodLinkNest mi.own idx mj.y ho ∈ lw_tbl) (hini : Cond.initialized mj.y.cls ∈ lw_all) (hin : Cond.instanceMethod mj.y ∈ lw_all) (hy1 : mj.y.name = "<init>") (hy : okY mj.y As.length) (hd : mj.d + 1 ≤ mi.d) (hm : mj.nL ≤ 80)
    (hst : st = As.reverse ++ va_rf (some b) :: rest) (h1r : C1 rest) (h8 : rest.length ≤ 8) (hdg : decode mi.cc pc = .ok (.invokespecial idx, 3)) (k : R K mi h0 a0 r h' (pc + 3) L rest h1) : R K mi h0 a0 r h' pc L st h := by
  refine R_run (v := none) (aa := (Value.ref b :: As).toArray) hT.1 (fun hF hh hk p e s m below meth c H locs ls C hH hS hl => ?_) k
  obtain ⟨hx, hcc, q3, q4, q5, q6, hU, q8⟩ := C
  have hts := hU.w hF a0.toArray
  have hM := hT.2 hF
  rw [hr] at hG
  have e : ws_ mj.y mj.cc mj.nL mj.ret = ws_ mj.y mj.cc mj.nL none := by rw [hr]
  dsimp only at hM
  rw [e] at hM
  exact va_runIN (nL := mi.nL) (n := As.length) ⟨hx, hcc, q5, q6, hts⟩ hM ⟨va_cnB As.length hts hG rfl rfl rfl (hU.m hF hl0) (hts _ hini) hy (rm_fit hd hm), hy1, hts _ hin⟩ (R_pcS hU hH hS) rfl rfl hl.1.1 hst (h1r.sum8 h8) hdg (cl_fit hh hT.1 hk)
/-- a call through super -/
theorem R_callSU {mj : MI} {idx ci : Nat} {x : Option Nat} {As rest : List Value} {v : Option Value} {h1 : PH} {u : Unit} {q : vw_C} (hT : T K mj (va_rf x :: As) h (.inl v) h1) (hb : rcv ci x h = some u) (hc : pcl[ci]? = some q) (hG : GoodIn lw_all (va_wsSU mi.own idx mj.y (ws_ mj.y mj.cc mj.nL mj.ret))) (hy : mj.y.name ≠ "<init>" ∧ (parseMethodDescriptor mj.y.desc).map (fun d => d.parameters.length) = some As.length) (hd : mj.d + 1 ≤ mi.d) (hm : mj.nL ≤ 80)
    (hst : st = As.reverse ++ va_rf x :: rest) (h1r : C1 rest) (h8 : rest.length ≤ 8) (hdg : decode mi.cc pc = .ok (.invokespecial idx, 3)) (k : R K mi h0 a0 r h' (pc + 3) L (v.toList ++ rest) h1) : R K mi h0 a0 r h' pc L st h := by
  obtain ⟨b, rfl⟩ := rcv_some hb
  refine R_run (aa := (Value.ref b :: As).toArray) hT.1 (fun hF hh hk p e s m below meth c H locs ls C hH hS hl => ?_) k
  obtain ⟨hx, hcc, q3, q4, q5, q6, hU, q8⟩ := C
  have hts := hU.w hF a0.toArray
  exact va_runSU (nL := mi.nL) (n := As.length) ((hU.K hF).1 ci _ hc).2 ⟨hx, hcc, q5, q6, hts⟩ (hT.2 hF) (va_cwSU As.length hts hG rfl rfl rfl hy (rm_fit hd hm)) (R_pcV hF hU hH hS hb hc) rfl rfl hl.1.1 hst (h1r.sum8 h8) hdg (cl_fit hh hT.1 hk)
/-- the words of a call through an interface: of the interface's method y0, run on C as y -/
def FW (C : String) (y0 y : MethodName) : Prop := Cond.declares y0 ∈ lw_tbl ∧ Cond.interfaceMethod y0.cls y0.cls y0.name y0.desc ∈ lw_tbl ∧ Cond.publicMethod y ∈ lw_tbl ∧ Cond.unhidden C y0.name y0.desc ∈ lw_tbl ∧ Cond.castable C y0.cls ∈ lw_tbl
theorem R_callF {mj : MI} {y0 : MethodName} {idx ct ci : Nat} {x : Option Nat} {As rest : List Value} {v : Option Value} {h1 : PH} {u : Unit} {q : vw_C} (hT : T K mj (va_rf x :: As) h (.inl v) h1) (hb : rcv ci x h = some u) (hc : pcl[ci]? = some q) (hG : GoodIn lw_all (va_wsF mi.own idx q.1 y0 mj.y (ws_ mj.y mj.cc mj.nL mj.ret))) (hW : FW q.1 y0 mj.y) (hy : okY y0 As.length) (hd : mj.d + 1 ≤ mi.d) (hm : mj.nL ≤ 80)
    (hst : st = As.reverse ++ va_rf x :: rest) (h1r : C1 rest) (h8 : rest.length ≤ 8) (hdg : decode mi.cc pc = .ok (.invokeinterface idx ct, 5)) (k : R K mi h0 a0 r h' (pc + 5) L (v.toList ++ rest) h1) : R K mi h0 a0 r h' pc L st h := by
  obtain ⟨b, rfl⟩ := rcv_some hb
  refine R_run5 (aa := (Value.ref b :: As).toArray) hT.1 (fun hF hh hk p e s m below meth c H locs ls C hH hS hl => ?_) k
  obtain ⟨hx, hcc, q3, q4, q5, q6, hU, q8⟩ := C
  have hts := hU.w hF a0.toArray
  have hFw : va_Fw q.1 y0 mj.y s := va_Fw.moved ⟨hy.1, hy.2.1⟩ hU.al (va_Fw.of (hF.1 _ hW.1) (hF.1 _ hW.2.1) (hF.1 _ hW.2.2.1) (hF.1 _ hW.2.2.2.1) (hF.1 _ hW.2.2.2.2))
  exact va_runF (nL := mi.nL) (n := As.length) ((hU.K hF).1 ci _ hc).2 ⟨hx, hcc, q5, q6, hts⟩ (hT.2 hF) (va_cwF As.length hts hG rfl rfl rfl hFw hy (rm_fit hd hm)) (R_pcV hF hU hH hS hb hc) rfl rfl hl.1.1 hst (h1r.sum8 h8) hdg (cl_fit hh hT.1 hk)
end R4
