/-! THE PURE WORLD: cells by address, over the machine's heap. A cell: an array (its type's number, its content) or an object (its class's number, its fields). -/
set_option maxRecDepth 100000
abbrev PC : Type := (Nat × vp_A) ⊕ (Nat × List Value)
/-- what was there at the start and is never written: cells, and values of statics and constants by number -/
abbrev PG : Type := (Nat → Option PC) × (Nat → Option Nat)
/-- the heap: cells made by the run, the next address, slots used, what was there -/
abbrev PH : Type := (Nat → Option PC) × Nat × Nat × PG
def hn (h : PH) : Nat := h.2.1
def hs (h : PH) : Nat := h.2.2.1
def hg (h : PH) : PG := h.2.2.2
/-- the world's constants: the state at the law's entry, the script's cell, the launch, the classes' numbers and slots, the array classes' numbers, what was there -/
abbrev KT : Type := State × Addr × Launch × va_G × (Nat → ClassId) × PG
abbrev KT.s0 (K : KT) : State := K.1
abbrev KT.b (K : KT) : Addr := K.2.1
abbrev KT.l (K : KT) : Launch := K.2.2.1
abbrev KT.D (K : KT) : va_G := K.2.2.2.1
abbrev KT.dA (K : KT) : Nat → ClassId := K.2.2.2.2.1
abbrev KT.G (K : KT) : PG := K.2.2.2.2.2
abbrev KT.bs (K : KT) : Nat := K.1.heap.size
/-- a method: own class, name, code, locals, answer, depth -/
abbrev MI : Type := String × MethodName × ByteArray × Nat × Option FieldType × Nat
abbrev MI.own (m : MI) : String := m.1
abbrev MI.y (m : MI) : MethodName := m.2.1
abbrev MI.cc (m : MI) : ByteArray := m.2.2.1
abbrev MI.nL (m : MI) : Nat := m.2.2.2.1
abbrev MI.ret (m : MI) : Option FieldType := m.2.2.2.2.1
abbrev MI.d (m : MI) : Nat := m.2.2.2.2.2
/-- an answer, or the address of what was thrown -/
abbrev RS : Type := Option Value ⊕ Nat
def pcl : List vw_C := [(RX0, TX0, 4), (RX1, TX1, 2), (RX2, TX2, 4), (RX3, TX3, 7), (RX4, TX4, 2), (RX5, TX5, 5), (RX7, TX25, 0), (RX8, TX25, 0), (RX10, TX25, 0), (RX11, TX25, 0), (RX12, TX25, 0), (RX13, TX13, 24), (RX15, TX25, 0), (RX16, TX25, 0), (RX17, TX25, 0), (RX18, TX18, 2), (RX19, TX19, 4), (RX20, TX20, 3), (RX21, TX21, 7), (RX22, TX22, 4), (RX23, TX25, 0), (RX24, TX24, 2), (RX25, TX25, 1), (RX26, TX26, 1), (RJ1, TJ1, 9), (RJ13, TJ13, 6), (RJ15, TJ15, 3), (RJ17, TJ17, 4), (RJ20, TJ20, 4), (RJ24, TJ24, 3), (RJ25, TJ25, 4), (RJ3, TJ3, 1), (RJ5, TJ5, 4)]
def ptyl : List FieldType := [.int, .boolean, .byte, .array .int, .object "EdgeSums$Sheet", .object "EdgeSums$Rule", .object "java/lang/Object"]
def ptys (dA : Nat → ClassId) : List (ClassId × FieldType) := ptyl.mapIdx (fun i t => (dA i, t))
def toE (dA : Nat → ClassId) (c : PC) : va_E := match c with
  | .inl (t, x) => .inl (dA t, x)
  | .inr o => .inr o
def hle (h h' : PH) : Prop := hn h ≤ hn h' ∧ hs h ≤ hs h'
theorem hle.rf {h : PH} : hle h h := ⟨Nat.le_refl _, Nat.le_refl _⟩
theorem hle.tr {a b c : PH} (h1 : hle a b) (h2 : hle b c) : hle a c := ⟨Nat.le_trans h1.1 h2.1, Nat.le_trans h1.2 h2.2⟩
/-- an array of a type that is made -/
def okc (c : PC) : Prop := ∀ t x, c = .inl (t, x) → t < 7
/-- the machine's heap holds the pure one -/
def HR (K : KT) (h : PH) (H : Heap) : Prop := H.size = hn h ∧ KT.bs K ≤ H.size ∧ hg h = KT.G K ∧ ∀ (a : Nat) (c : PC), h.1 a = some c → KT.bs K ≤ a ∧ va_at (KT.D K) pcl (a, toE (KT.dA K) c) H ∧ okc c
/-- a state that comes behind the start: nothing old changed -/
def KU (K : KT) (U : State) : Prop := (KT.s0 K).WarmedH U.vm ∧ KT.bs K ≤ U.heap.size ∧ ∀ q : Nat, q < KT.bs K → U.heap[q]? = (KT.s0 K).heap[q]?
/-- an array's element as a value -/
def elV (x : vp_A) (j : Nat) : Value := match x.2 with
  | .inl f => .int (f j)
  | .inr (.inl f) => .long (f j)
  | .inr (.inr (.inl f)) => .float (f j)
  | .inr (.inr (.inr (.inl f))) => .double (f j)
  | .inr (.inr (.inr (.inr f))) => va_rf (f j)
/-- types of arrays that are read: those that are made, and the cache of Integers -/
def ptyr : List FieldType := ptyl ++ [.object "java/lang/Integer"]
/-- a cell that may be read -/
def rd (K : KT) (H : Heap) (a : Nat) (c : PC) : Prop := match c with
  | .inl (t, x) => ∃ (cell : Cell) (ty : FieldType), ptyr[t]? = some ty ∧ H[a]? = some cell ∧ (KT.s0 K).isArrayOf cell ty ∧ cell.vm ≠ .unknown ∧ x.1 ≤ cell.slots.size ∧ cell.slots.size.toInt32 = Int32.ofNat x.1 ∧ ∀ j : Nat, j < x.1 → cell.slots[j]? = some (elV x j)
  | .inr (ci, fs) => ∃ (cell : Cell) (q : vw_C), pcl[ci]? = some q ∧ H[a]? = some cell ∧ cell.vm.isStatics = false ∧ cell.vm ≠ .unknown ∧ (KT.s0 K).vm.findClass q.1 = some cell.cls ∧ ∀ k : Nat, k < q.2.2 → cell.slots[(KT.D K).2 ci k]? = some (vp_V fs k)
/-- statics of numbers that are read: class, name, descriptor, value -/
def pstI : List (String × String × String × Int32) := [("java/lang/Integer$IntegerCache", "high", "I", 127), ("java/lang/String", "COMPACT_STRINGS", "Z", 1)]
/-- statics of references -/
def pstR : List (String × String × String) := [("java/lang/Integer$IntegerCache", "cache", "[Ljava/lang/Integer;"), ("jdk/internal/util/Preconditions", "SIOOBE_FORMATTER", "Ljava/util/function/BiFunction;"), ("java/lang/Throwable", "UNASSIGNED_STACK", "[Ljava/lang/StackTraceElement;"), ("java/lang/Throwable", "SUPPRESSED_SENTINEL", "Ljava/util/List;"), ("java/util/ArrayList", "DEFAULTCAPACITY_EMPTY_ELEMENTDATA", "[Ljava/lang/Object;"), ("java/lang/Integer", "DigitOnes", "[B"), ("java/lang/Integer", "DigitTens", "[B")]
/-- constants that are texts: class, place, text -/
def pstS : List (String × Nat × String) := [("EdgeSums$Solver", 11, "used"), ("EdgeSums$Rule", 42, "used"), ("EdgeSums$Rule", 48, "place"), ("EdgeSums$Rule", 50, "bounds"), ("EdgeSums$Rule", 52, "choice"), ("EdgeSums$Solver", 17, "place"), ("EdgeSums$Solver", 19, "bounds"), ("EdgeSums$Solver", 21, "choice"), ("EdgeSums$Solver", 23, "pair"),
  ("EdgeSums$Parser", 237, "page"), ("EdgeSums$Parser", 238, "answer"), ("EdgeSums$Parser", 239, "give"), ("EdgeSums$Parser", 241, "sums"), ("EdgeSums$Parser", 243, "rules"), ("EdgeSums$Parser", 245, "costs"), ("EdgeSums$TokenException", 1, "not allowed"), ("EdgeSums$Parser", 189, "none"), ("EdgeSums$Parser", 194, "all"), ("EdgeSums", 462, ""), ("EdgeSums", 464, " "), ("EdgeSums", 460, "-")]
/-- what is known of the start -/
def FK (K : KT) : Prop := (∀ w ∈ lw_tbl, w.before #[.ref (KT.b K)] (KT.s0 K) = true) ∧ va_K (KT.D K) pcl (ptys (KT.dA K)) (KT.s0 K) ∧
  (∀ (a : Nat) (c : PC), (KT.G K).1 a = some c → a < KT.bs K ∧ rd K (KT.s0 K).heap a c) ∧
  (∃ (kA : Class) (comp : ClassId), (KT.s0 K).vm.classes[KT.dA K 3]? = some kA ∧ kA.kind = .array comp (.array .int) ∧ (KT.s0 K).vm.findClass "[I" = some comp) ∧
  (∀ (j : Nat) (q : String × String × String × Int32), pstI[j]? = some q → va_Z q.1 q.2.1 q.2.2.1 (.int q.2.2.2) (fun q => KT.bs K ≤ q) (KT.s0 K) (KT.s0 K).heap) ∧
  (∀ (j : Nat) (q : String × String × String), pstR[j]? = some q → va_Z q.1 q.2.1 q.2.2 (va_rf ((KT.G K).2 j)) (fun q => KT.bs K ≤ q) (KT.s0 K) (KT.s0 K).heap) ∧
  (∀ (j : Nat) (q : String × Nat × String), pstS[j]? = some q → ∃ a : Nat, (KT.G K).2 (100 + j) = some a ∧ vk_R q.1 q.2.1 q.2.2 a (KT.s0 K)) ∧
  (∃ a : Nat, (KT.G K).2 200 = some a ∧ va_Mi "[Ljava/lang/Object;" a (KT.s0 K)) ∧
  (Jvm.Cond.and given_1 narrow_1).before #[.ref (KT.b K)] (KT.s0 K) = true ∧ (KT.l K).flags = flags0
theorem KU.al {K : KT} {U : State} (h : KU K U) : (KT.s0 K).vm.Alike U.vm := h.1.alike
theorem KU.w {K : KT} {U : State} (hF : FK K) (h : KU K U) (a : Array Value) : ∀ w ∈ lw_all, w.before a U = true := fun w hw =>
  word_at h.1 (good_of_word (List.mem_filter.mp hw).2) (hF.1 w (lw_all_tbl hw))
theorem KU.K {K : KT} {U : State} (hF : FK K) (h : KU K U) : va_K (KT.D K) pcl (ptys (KT.dA K)) U := hF.2.1.moved h.al
/-- the old cells stay -/
def pA (K : KT) : Nat → Prop := fun q => KT.bs K ≤ q
theorem KU.go {K : KT} {s U : State} {H : Heap} {locs : List Loc} (h : KU K s) (hS : va_S (pA K) s.heap H locs) (hU : U.heap = H) (hW : s.WarmedH U.vm) : KU K U :=
  ⟨State.WarmedH.trans (t := s) h.1 hW, by rw [hU]; exact Nat.le_trans h.2.1 hS.1, fun q hq => by rw [hU, hS.2.1 q (Nat.lt_of_lt_of_le hq h.2.1) (Nat.not_le.mpr hq)]; exact h.2.2 q hq⟩
def rmD (d c s : Nat) : Room := { frames := d, cells := c, slots := s, locals := 100 * d }
/-- a normal end -/
def QN (K : KT) (v : Option Value) (h' : PH) : Array Value → State → Outcome → State → Prop := fun _ st o t => (o = .returned v ∧ HR K h' t.heap) ∧ va_F (pA K) st t
/-- an end by a throw of the object at q, of the one class of exceptions -/
def QT (K : KT) (q : Nat) (h' : PH) (mc ms : Nat) : Array Value → State → Outcome → State → Prop := fun _ st o t => o = .threw q ∧ HR K h' t.heap ∧ va_F (pA K) st t ∧
  ∃ (ce : Cell) (L : List Loc), t.heap[q]? = some ce ∧ ce.vm = .none ∧ st.vm.findClass "EdgeSums$TokenException" = some ce.cls ∧ st.WarmedH t.vm ∧ st.sameButNew ({ t with vm := st.vm } : State) L mc ms ∧ ∀ z ∈ L, pA K z.base
def RQ (K : KT) (below : List Frame) (r : RS) (h' : PH) (a0 : List Value) (s : State) (mc ms : Nat) : State → Prop := match r with
  | .inl v => MQ below (QN K v h') a0.toArray s mc ms (pA K)
  | .inr q => fun t => ∃ o, t.status = .running ∧ Ended t below o ∧ QT K q h' mc ms a0.toArray s o t
/-- the one method with a table of handlers -/
def ldY : MethodName := ⟨"EdgeSums", "load", "()I"⟩
def xtb (mi : MI) (c : Code) : Prop := (mi.y ≠ ldY → ∀ x ∈ c.exceptionTable.toList, False) ∧ (mi.y = ldY → c.exceptionTable.toList = tableOf [(9, 14, 17, 316)])
/-- the method's fixed things -/
def CX (K : KT) (mi : MI) (p : Program) (s : State) (m : MethodId) (meth : Method) (c : Code) : Prop :=
  p.tables.exec = Jvm.exec ∧ c.code = mi.cc ∧ meth.sig.returnType = mi.ret ∧ meth.locks = false ∧ c.maxLocals = mi.nL ∧ s.vm.findClass mi.own = some m.cls ∧ KU K s ∧ (meth.name = mi.y.name ∧ xtb mi c)
/-- the locals: listed values, each of one place -/
def LH (ls : Array Slot) (nL : Nat) (L : List (Nat × Value)) : Prop := lv_has ls nL L ∧ ∀ q ∈ L, q.2.category = 1
theorem LH.at {ls : Array Slot} {nL : Nat} {l : List (Nat × Value)} (h : LH ls nL l) (k : Nat) {i : Nat} {v : Value} (hk : l[k]? = some (i, v)) : ls[i]? = some (.val v) := lv_at h.1 k hk
theorem LH.sub {ls : Array Slot} {nL : Nat} {l l' : List (Nat × Value)} (h : LH ls nL l) (ks : List Nat) (hl : lv_pick l ks = l') : LH ls nL l' := by
  refine ⟨lv_sub h.1 ks hl, fun q hq => ?_⟩
  subst hl
  obtain ⟨i, -, hi⟩ := List.mem_filterMap.mp hq
  exact h.2 q (List.mem_of_getElem? hi)
/-- from this place of the method, with these locals, this stack and this heap, it comes to the end r with the heap h' -/
def R (K : KT) (mi : MI) (h0 : PH) (a0 : List Value) (r : RS) (h' : PH) (pc : Nat) (L : List (Nat × Value)) (st : List Value) (h : PH) : Prop :=
  hle h h' ∧ (FK K → hle h0 h → ∀ (p : Program) (e : Env) (s : State) (m : MethodId) (below : List Frame) (meth : Method) (c : Code) (H : Heap) (locs : List Loc) (ls : Array Slot),
    CX K mi p s m meth c → HR K h H → va_S (pA K) s.heap H locs → LH ls mi.nL L →
    W p (KT.l K) e (rmD mi.d (hn h' - hn h0) (hs h' - hs h0)) s m a0.toArray below meth c H locs (hn h - hn h0) (hs h - hs h0) (RQ K below r h' a0 s (hn h' - hn h0) (hs h' - hs h0)) (F0 m pc ls st))
def PcT (K : KT) (a : List Value) (h : PH) : Array Value → State → Prop := va_Pc a (fun U => KU K U ∧ HR K h U.heap)
/-- a method's contract: with these arguments, from this heap, it ends so, with that heap -/
def T (K : KT) (mi : MI) (a : List Value) (h : PH) (r : RS) (h' : PH) : Prop := hle h h' ∧ (FK K → match r with
  | .inl v => Met (KT.l K) mi.y (ws_ mi.y mi.cc mi.nL mi.ret) (rmD mi.d (hn h' - hn h) (hs h' - hs h)) (PcT K a h) (QN K v h') (hn h' - hn h) (hs h' - hs h) (pA K)
  | .inr q => MetFree (KT.l K) mi.y (headSpec (ws_ mi.y mi.cc mi.nL mi.ret) (rmD mi.d (hn h' - hn h) (hs h' - hs h))) (PcT K a h) (fun _ _ _ _ _ => True) (QT K q h' (hn h' - hn h) (hs h' - hs h)))
theorem PcT.blind {K : KT} {a : List Value} {h : PH} : FrameBlind (PcT K a h) := fun v U g mk q => q
/-- every value takes one place -/
def C1 (l : List Value) : Prop := ∀ v ∈ l, v.category = 1
theorem C1_0 : C1 [] := fun _ h => by cases h
theorem rf_cat (r : Option Nat) : (va_rf r).category = 1 := by cases r <;> rfl
theorem C1_i {x : Int32} {l : List Value} (h : C1 l) : C1 (.int x :: l) := fun v hv => by
  rcases List.mem_cons.mp hv with e | e
  · rw [e]; rfl
  · exact h v e
theorem C1_r {x : Option Nat} {l : List Value} (h : C1 l) : C1 (va_rf x :: l) := fun v hv => by
  rcases List.mem_cons.mp hv with e | e
  · rw [e]; exact rf_cat x
  · exact h v e
theorem C1.sum {l : List Value} (h : C1 l) : (l.map fun v => v.category).sum = l.length := by
  induction l with
  | nil => rfl
  | cons v l ih =>
    simp only [List.map_cons, List.sum_cons, List.length_cons]
    rw [h v List.mem_cons_self, ih (fun w hw => h w (List.mem_cons_of_mem _ hw))]
    omega
def ent : Nat → List Value → List (Nat × Value)
  | _, [] => []
  | i, v :: l => (i, v) :: ent (i + 1) l
theorem ent_args {l : List Value} (h : C1 l) : ∀ i : Nat, lv_args i l = ent i l := by
  induction l with
  | nil => intro i; rfl
  | cons v l ih =>
    intro i
    have hv := h v List.mem_cons_self
    simp only [lv_args, ent, hv]
    rw [ih (fun w hw => h w (List.mem_cons_of_mem _ hw))]
    rfl
theorem ent_cat {l : List Value} (h : C1 l) : ∀ i : Nat, ∀ q ∈ ent i l, q.2.category = 1 := by
  induction l with
  | nil => intro i q hq; cases hq
  | cons v l ih =>
    intro i q hq
    rcases List.mem_cons.mp hq with e | e
    · rw [e]; exact h v List.mem_cons_self
    · exact ih (fun w hw => h w (List.mem_cons_of_mem _ hw)) (i + 1) q e
theorem sl_len {l : List Value} (h : C1 l) : (lg_sl l).length = l.length := by
  induction l with
  | nil => rfl
  | cons v l ih =>
    have hv := h v List.mem_cons_self
    have := ih (fun w hw => h w (List.mem_cons_of_mem _ hw))
    simp only [lg_sl, List.flatMap_cons, List.length_append, List.length_cons] at this ⊢
    rw [this, hv]
    simp
    omega
/-- a contract out of the walk of its body -/
theorem T_of {K : KT} {mi : MI} {a : List Value} {h h' : PH} {r : RS} (hy : plainName mi.y.cls = true) (ho : mi.own = mi.y.cls) (hc : C1 a) (hl : a.length ≤ mi.nL)
    (k : R K mi h a r h' 0 (ent 0 a) [] h) (hnl : mi.y ≠ ldY := by decide +kernel) : T K mi a h r h' := by
  refine ⟨k.1, fun hF => ?_⟩
  have main : ∀ p e s m (args : Array Value) below meth c s₁ (B : BodyLoose p (KT.l K) mi.y (headSpec (ws_ mi.y mi.cc mi.nL mi.ret) (rmD mi.d (hn h' - hn h) (hs h' - hs h))) mi.cc mi.nL mi.ret e s m args below meth c s₁) (hml : c.maxLocals = mi.nL) (hv : PcT K a h args s),
      W p (KT.l K) e (rmD mi.d (hn h' - hn h) (hs h' - hs h)) s m args below meth c s.heap [] 0 0 (RQ K below r h' a s (hn h' - hn h) (hs h' - hs h)) (entryFrame m args mi.nL) := by
    intro p e s m args below meth c s₁ B hml hv
    obtain ⟨rfl, hU, hH⟩ := hv
    have hown : s.vm.findClass mi.own = some m.cls := by rw [ho]; exact findClass_of_methodNamed B.named
    have hl0 := lv_entry a (n := mi.nL) (by rw [sl_len hc]; exact hl)
    have ht : ∀ x ∈ c.exceptionTable.toList, False := by
      obtain ⟨meth9, c9, h1, h2, -, -, -, -, h7, -⟩ := Cond.code_spec B.named (atoms_spec (ws := ws_ mi.y mi.cc mi.nL mi.ret) B.pre (Cond.code mi.y mi.cc mi.nL mi.ret) List.mem_cons_self)
      cases Option.some.inj (h1.symm.trans B.method)
      cases Option.some.inj (h2.symm.trans (Stand.of_body B).code)
      intro x hx
      rw [Array.isEmpty_iff.mp h7] at hx
      cases hx
    rw [lg_entry_eq]
    rw [ent_args hc] at hl0
    have := k.2 hF hle.rf p e s m below meth c s.heap [] _ ⟨B.exec, B.bytes, B.returns, B.notSynchronized, hml, hown, hU, (name_of_methodNamed B.named B.method).1, fun _ => ht, fun e => absurd e hnl⟩ hH va_S.rf ⟨hl0, ent_cat hc 0⟩
    rw [Nat.sub_self, Nat.sub_self] at this
    exact this
  cases r with
  | inl v =>
    refine Met.ofW (cc := mi.cc) (maxL := mi.nL) (ret := mi.ret) hy rfl ?_
    intro p e s m args below meth c s₁ B hml hv
    have := main p e s m args below meth c s₁ B hml hv
    obtain ⟨rfl, -, -⟩ := hv
    exact this
  | inr q =>
    refine MetFree.of_bodyS (code := mi.cc) (maxLocals := mi.nL) (ret := mi.ret) hy ?_ ?_
    · intro args s m h hn
      obtain ⟨meth, c, h1, h2, h3, h4, h5, h6, -, -⟩ := Cond.code_spec hn (atoms_spec (ws := ws_ mi.y mi.cc mi.nL mi.ret) h _ List.mem_cons_self)
      exact ⟨meth, c, h1, h2, h3, h4, h5, h6⟩
    · intro p e s m args below meth c s₁ B hml hP _
      have hh0 : s₁.heap = s.heap := by rw [B.state]; rfl
      obtain ⟨t, a1, o, b1, b2, b3⟩ := main p e s m args below meth c s₁ B hml hP s₁ hh0 (Stand.of_body B)
      obtain ⟨rfl, -, -⟩ := hP
      exact ⟨t, o, a1, b1, b2, b3⟩
theorem rf_or (x : Option Nat) : va_rf x = .null ∨ ∃ a, va_rf x = .ref a := by cases x with
  | none => exact Or.inl rfl
  | some a => exact Or.inr ⟨a, rfl⟩
section R0
variable {K : KT} {mi : MI} {h0 : PH} {a0 : List Value} {r : RS} {h' : PH} {pc : Nat} {L : List (Nat × Value)} {st : List Value} {h : PH}
/-- fewer locals -/
theorem R.sub (ks : List Nat) {L' : List (Nat × Value)} (hL : lv_pick L ks = L') (k : R K mi h0 a0 r h' pc L' st h) : R K mi h0 a0 r h' pc L st h :=
  ⟨k.1, fun hF hh p e s m below meth c H locs ls C hH hS hl => k.2 hF hh p e s m below meth c H locs ls C hH hS (hl.sub ks hL)⟩
theorem R.pure {pc2 : Nat} {st2 : List Value} (hw : ∀ {p : Program} {e : Env} {l : Launch} {R : Room} {s : State} {m : MethodId} {args : Array Value} {below : List Frame} {meth : Method} {c : Code} {H : Heap} {locs : List Loc} {cells slots : Nat} {Q : State → Prop} {ls : Array Slot}, p.tables.exec = Jvm.exec → c.code = mi.cc →
    W p l e R s m args below meth c H locs cells slots Q (F0 m pc2 ls st2) → W p l e R s m args below meth c H locs cells slots Q (F0 m pc ls st)) (k : R K mi h0 a0 r h' pc2 L st2 h) : R K mi h0 a0 r h' pc L st h :=
  ⟨k.1, fun hF hh p e s m below meth c H locs ls C hH hS hl => hw C.1 C.2.1 (k.2 hF hh p e s m below meth c H locs ls C hH hS hl)⟩
theorem R_iconst {n : Int} {v : Int32} (hdg : decode mi.cc pc = .ok (.iconst n, 1)) (hv : Int32.ofInt n = v) (k : R K mi h0 a0 r h' (pc + 1) L (.int v :: st) h) : R K mi h0 a0 r h' pc L st h := k.pure fun hx hb k => lv_iconst hx hb hdg hv k
theorem R_bipush {n : Int} {v : Int32} (hdg : decode mi.cc pc = .ok (.bipush n, 2)) (hv : (Int8.ofInt n).toInt32 = v) (k : R K mi h0 a0 r h' (pc + 2) L (.int v :: st) h) : R K mi h0 a0 r h' pc L st h := k.pure fun hx hb k => lv_bipush hx hb hdg hv k
theorem R_sipush {n : Int} {v : Int32} (hdg : decode mi.cc pc = .ok (.sipush n, 3)) (hv : (Int16.ofInt n).toInt32 = v) (k : R K mi h0 a0 r h' (pc + 3) L (.int v :: st) h) : R K mi h0 a0 r h' pc L st h := k.pure fun hx hb k => lv_sipush hx hb hdg hv k
theorem R_iload_n {j : Fin 4} {i : Nat} {x : Int32} (n : Nat) (hdg : decode mi.cc pc = .ok (.iload_n j, 1)) (hi : (j : Nat) = i) (hL : L[n]? = some (i, .int x)) (k : R K mi h0 a0 r h' (pc + 1) L (.int x :: st) h) : R K mi h0 a0 r h' pc L st h :=
  ⟨k.1, fun hF hh p e s m below meth c H locs ls C hH hS hl => lv_iload_n C.1 C.2.1 hdg hi (hl.at n hL) (k.2 hF hh p e s m below meth c H locs ls C hH hS hl)⟩
theorem R_iload {i : Nat} {x : Int32} (n : Nat) (hdg : decode mi.cc pc = .ok (.iload i, 2)) (hL : L[n]? = some (i, .int x)) (k : R K mi h0 a0 r h' (pc + 2) L (.int x :: st) h) : R K mi h0 a0 r h' pc L st h :=
  ⟨k.1, fun hF hh p e s m below meth c H locs ls C hH hS hl => lv_iload C.1 C.2.1 hdg (hl.at n hL) (k.2 hF hh p e s m below meth c H locs ls C hH hS hl)⟩
theorem R_aload_n {j : Fin 4} {i : Nat} {x : Option Nat} (n : Nat) (hdg : decode mi.cc pc = .ok (.aload_n j, 1)) (hi : (j : Nat) = i) (hL : L[n]? = some (i, va_rf x)) (k : R K mi h0 a0 r h' (pc + 1) L (va_rf x :: st) h) : R K mi h0 a0 r h' pc L st h := by
  refine ⟨k.1, fun hF hh p e s m below meth c H locs ls C hH hS hl => ?_⟩
  have k2 := k.2 hF hh p e s m below meth c H locs ls C hH hS hl
  have h3 := hl.at n hL
  cases x with
  | none => exact lv_aload_nN C.1 C.2.1 hdg hi h3 k2
  | some x => exact lv_aload_n C.1 C.2.1 hdg hi h3 k2
theorem R_aload {i : Nat} {x : Option Nat} (n : Nat) (hdg : decode mi.cc pc = .ok (.aload i, 2)) (hL : L[n]? = some (i, va_rf x)) (k : R K mi h0 a0 r h' (pc + 2) L (va_rf x :: st) h) : R K mi h0 a0 r h' pc L st h := by
  refine ⟨k.1, fun hF hh p e s m below meth c H locs ls C hH hS hl => ?_⟩
  have k2 := k.2 hF hh p e s m below meth c H locs ls C hH hS hl
  have h3 := hl.at n hL
  cases x with
  | none => exact lv_aloadN C.1 C.2.1 hdg h3 k2
  | some x => exact lv_aload C.1 C.2.1 hdg h3 k2
/-- the list of locals behind a store -/
theorem lset_i {i : Nat} {v : Value} {L L' : List (Nat × Value)} (hc : ∀ q ∈ L, q.2.category = 1) (hL : (i, v) :: L.filter (fun q => !(q.1 == i)) = L') : (i, v) :: L.filter (fun q => !(q.1 == i) && !(q.1 + 1 == i && q.2.category == 2)) = L' := by
  rw [← hL]
  congr 1
  apply List.filter_congr
  intro q hq
  rw [hc q hq]
  simp
theorem lset_c {i : Nat} {v : Value} {L L' : List (Nat × Value)} (hv : v.category = 1) (hc : ∀ q ∈ L, q.2.category = 1) (hL : (i, v) :: L.filter (fun q => !(q.1 == i)) = L') : ∀ q ∈ L', q.2.category = 1 := by
  subst hL
  intro q hq
  rcases List.mem_cons.mp hq with e | e
  · rw [e]; exact hv
  · exact hc q (List.mem_filter.mp e).1
theorem R_istore_n {j : Fin 4} {i : Nat} {x : Int32} {L' : List (Nat × Value)} (hdg : decode mi.cc pc = .ok (.istore_n j, 1)) (hi : (j : Nat) = i) (hn : i < mi.nL) (hL : (i, Value.int x) :: L.filter (fun q => !(q.1 == i)) = L') (k : R K mi h0 a0 r h' (pc + 1) L' st h) : R K mi h0 a0 r h' pc L (.int x :: st) h :=
  ⟨k.1, fun hF hh p e s m below meth c H locs ls C hH hS hl => lv_istore_n C.1 C.2.1 hdg hi hl.1 hn (lset_i hl.2 hL) fun ls' hl' => k.2 hF hh p e s m below meth c H locs ls' C hH hS ⟨hl', lset_c rfl hl.2 hL⟩⟩
theorem R_istore {i : Nat} {x : Int32} {L' : List (Nat × Value)} (hdg : decode mi.cc pc = .ok (.istore i, 2)) (hn : i < mi.nL) (hL : (i, Value.int x) :: L.filter (fun q => !(q.1 == i)) = L') (k : R K mi h0 a0 r h' (pc + 2) L' st h) : R K mi h0 a0 r h' pc L (.int x :: st) h :=
  ⟨k.1, fun hF hh p e s m below meth c H locs ls C hH hS hl => lv_istore C.1 C.2.1 hdg hl.1 hn (lset_i hl.2 hL) fun ls' hl' => k.2 hF hh p e s m below meth c H locs ls' C hH hS ⟨hl', lset_c rfl hl.2 hL⟩⟩
theorem R_astore_n {j : Fin 4} {i : Nat} {x : Option Nat} {L' : List (Nat × Value)} (hdg : decode mi.cc pc = .ok (.astore_n j, 1)) (hi : (j : Nat) = i) (hn : i < mi.nL) (hL : (i, va_rf x) :: L.filter (fun q => !(q.1 == i)) = L') (k : R K mi h0 a0 r h' (pc + 1) L' st h) : R K mi h0 a0 r h' pc L (va_rf x :: st) h := by
  refine ⟨k.1, fun hF hh p e s m below meth c H locs ls C hH hS hl => ?_⟩
  have k2 := fun (ls' : Array Slot) (hl' : lv_has ls' mi.nL L') => k.2 hF hh p e s m below meth c H locs ls' C hH hS ⟨hl', lset_c (rf_cat x) hl.2 hL⟩
  have h3 := lset_i hl.2 hL
  cases x with
  | none => exact lv_astore_nN C.1 C.2.1 hdg hi hl.1 hn h3 k2
  | some x => exact lv_astore_n C.1 C.2.1 hdg hi hl.1 hn h3 k2
theorem R_astore {i : Nat} {x : Option Nat} {L' : List (Nat × Value)} (hdg : decode mi.cc pc = .ok (.astore i, 2)) (hn : i < mi.nL) (hL : (i, va_rf x) :: L.filter (fun q => !(q.1 == i)) = L') (k : R K mi h0 a0 r h' (pc + 2) L' st h) : R K mi h0 a0 r h' pc L (va_rf x :: st) h := by
  refine ⟨k.1, fun hF hh p e s m below meth c H locs ls C hH hS hl => ?_⟩
  have k2 := fun (ls' : Array Slot) (hl' : lv_has ls' mi.nL L') => k.2 hF hh p e s m below meth c H locs ls' C hH hS ⟨hl', lset_c (rf_cat x) hl.2 hL⟩
  have h3 := lset_i hl.2 hL
  cases x with
  | none => exact lv_astoreN C.1 C.2.1 hdg hl.1 hn h3 k2
  | some x => exact lv_astore C.1 C.2.1 hdg hl.1 hn h3 k2
theorem R_iinc {i : Nat} {z : Int} {x v : Int32} {L' : List (Nat × Value)} (n : Nat) (hdg : decode mi.cc pc = .ok (.iinc i z, 3)) (hx : L[n]? = some (i, .int x)) (hv : x + Int32.ofInt z = v) (hn : i < mi.nL) (hL : (i, Value.int v) :: L.filter (fun q => !(q.1 == i)) = L') (k : R K mi h0 a0 r h' (pc + 3) L' st h) : R K mi h0 a0 r h' pc L st h :=
  ⟨k.1, fun hF hh p e s m below meth c H locs ls C hH hS hl => lv_iinc (k := n) C.1 C.2.1 hdg hl.1 hx hv hn (lset_i hl.2 hL) fun ls' hl' => k.2 hF hh p e s m below meth c H locs ls' C hH hS ⟨hl', lset_c rfl hl.2 hL⟩⟩
theorem R_iadd {x y : Int32} (hdg : decode mi.cc pc = .ok (.iadd, 1)) (k : R K mi h0 a0 r h' (pc + 1) L (.int (x + y) :: st) h) : R K mi h0 a0 r h' pc L (.int y :: .int x :: st) h := k.pure fun hx hb k => lv_iadd hx hb hdg k
theorem R_isub {x y : Int32} (hdg : decode mi.cc pc = .ok (.isub, 1)) (k : R K mi h0 a0 r h' (pc + 1) L (.int (x - y) :: st) h) : R K mi h0 a0 r h' pc L (.int y :: .int x :: st) h := k.pure fun hx hb k => lv_isub hx hb hdg k
theorem R_imul {x y : Int32} (hdg : decode mi.cc pc = .ok (.imul, 1)) (k : R K mi h0 a0 r h' (pc + 1) L (.int (x * y) :: st) h) : R K mi h0 a0 r h' pc L (.int y :: .int x :: st) h := k.pure fun hx hb k => lv_imul hx hb hdg k
theorem R_iand {x y : Int32} (hdg : decode mi.cc pc = .ok (.iand, 1)) (k : R K mi h0 a0 r h' (pc + 1) L (.int (x &&& y) :: st) h) : R K mi h0 a0 r h' pc L (.int y :: .int x :: st) h := k.pure fun hx hb k => lv_iand hx hb hdg k
theorem R_ior {x y : Int32} (hdg : decode mi.cc pc = .ok (.ior, 1)) (k : R K mi h0 a0 r h' (pc + 1) L (.int (x ||| y) :: st) h) : R K mi h0 a0 r h' pc L (.int y :: .int x :: st) h := k.pure fun hx hb k => lv_ior hx hb hdg k
theorem R_ixor {x y : Int32} (hdg : decode mi.cc pc = .ok (.ixor, 1)) (k : R K mi h0 a0 r h' (pc + 1) L (.int (x ^^^ y) :: st) h) : R K mi h0 a0 r h' pc L (.int y :: .int x :: st) h := k.pure fun hx hb k => lv_ixor hx hb hdg k
theorem R_ishl {x y : Int32} (hdg : decode mi.cc pc = .ok (.ishl, 1)) (k : R K mi h0 a0 r h' (pc + 1) L (.int (x <<< (y &&& 31)) :: st) h) : R K mi h0 a0 r h' pc L (.int y :: .int x :: st) h := k.pure fun hx hb k => lv_ishl hx hb hdg k
theorem R_ishr {x y : Int32} (hdg : decode mi.cc pc = .ok (.ishr, 1)) (k : R K mi h0 a0 r h' (pc + 1) L (.int (x >>> (y &&& 31)) :: st) h) : R K mi h0 a0 r h' pc L (.int y :: .int x :: st) h := k.pure fun hx hb k => lv_ishr hx hb hdg k
theorem R_idiv {x y : Int32} (hdg : decode mi.cc pc = .ok (.idiv, 1)) (hne : ¬ y = 0) (k : R K mi h0 a0 r h' (pc + 1) L (.int (x / y) :: st) h) : R K mi h0 a0 r h' pc L (.int y :: .int x :: st) h := k.pure fun hx hb k => lv_idiv hx hb hdg hne k
theorem R_irem {x y : Int32} (hdg : decode mi.cc pc = .ok (.irem, 1)) (hne : ¬ y = 0) (k : R K mi h0 a0 r h' (pc + 1) L (.int (x - x / y * y) :: st) h) : R K mi h0 a0 r h' pc L (.int y :: .int x :: st) h := k.pure fun hx hb k => lv_irem hx hb hdg hne k
theorem R_ineg {x : Int32} (hdg : decode mi.cc pc = .ok (.ineg, 1)) (k : R K mi h0 a0 r h' (pc + 1) L (.int (-x) :: st) h) : R K mi h0 a0 r h' pc L (.int x :: st) h := k.pure fun hx hb k => lv_ineg hx hb hdg k
theorem R_iushr {x y : Int32} (hdg : decode mi.cc pc = .ok (.iushr, 1)) (k : R K mi h0 a0 r h' (pc + 1) L (.int (x.toUInt32 >>> (y.toUInt32 &&& Int32.toUInt32 31)).toInt32 :: st) h) : R K mi h0 a0 r h' pc L (.int y :: .int x :: st) h := k.pure fun hx hb k => lv_iushr hx hb hdg rfl k
theorem R_i2b {x : Int32} (hdg : decode mi.cc pc = .ok (.i2b, 1)) (k : R K mi h0 a0 r h' (pc + 1) L (.int x.toInt8.toInt32 :: st) h) : R K mi h0 a0 r h' pc L (.int x :: st) h := k.pure fun hx hb k => lv_i2b hx hb hdg rfl k
theorem R_i2c {x : Int32} (hdg : decode mi.cc pc = .ok (.i2c, 1)) (k : R K mi h0 a0 r h' (pc + 1) L (.int (x.toUInt32 % 65536).toInt32 :: st) h) : R K mi h0 a0 r h' pc L (.int x :: st) h := k.pure fun hx hb k => lv_i2c hx hb hdg rfl k
theorem R_dup {v : Value} (hdg : decode mi.cc pc = .ok (.dup, 1)) (hv : v.category = 1) (k : R K mi h0 a0 r h' (pc + 1) L (v :: v :: st) h) : R K mi h0 a0 r h' pc L (v :: st) h := k.pure fun hx hb k => lv_dup hx hb hdg hv k
theorem R_pop {v : Value} (hdg : decode mi.cc pc = .ok (.pop, 1)) (hv : v.category = 1) (k : R K mi h0 a0 r h' (pc + 1) L st h) : R K mi h0 a0 r h' pc L (v :: st) h := k.pure fun hx hb k => lv_pop hx hb hdg hv k
theorem R_dup_x1 {v w : Value} (hdg : decode mi.cc pc = .ok (.dup_x1, 1)) (hv : v.category = 1) (hw : w.category = 1) (k : R K mi h0 a0 r h' (pc + 1) L (v :: w :: v :: st) h) : R K mi h0 a0 r h' pc L (v :: w :: st) h := k.pure fun hx hb k => lv_dup_x1 hx hb hdg hv hw k
theorem R_dup2 {v w : Value} (hdg : decode mi.cc pc = .ok (.dup2, 1)) (hv : v.category = 1) (hw : w.category = 1) (k : R K mi h0 a0 r h' (pc + 1) L (v :: w :: v :: w :: st) h) : R K mi h0 a0 r h' pc L (v :: w :: st) h := k.pure fun hx hb k => lv_dup2_11 hx hb hdg hv hw k
theorem R_null (hdg : decode mi.cc pc = .ok (.aconst_null, 1)) (k : R K mi h0 a0 r h' (pc + 1) L (va_rf none :: st) h) : R K mi h0 a0 r h' pc L st h := k.pure fun hx hb k => lv_null hx hb hdg k
theorem R_goto {off : Int} {tgt : Nat} (hdg : decode mi.cc pc = .ok (.goto off, 3)) (ht : (pc : Int) + off = (tgt : Int)) (k : R K mi h0 a0 r h' tgt L st h) : R K mi h0 a0 r h' pc L st h := k.pure fun hx hb k => lv_goto hx hb hdg ht k
theorem R.br {c : Prop} {pc1 pc2 : Nat} {st1 st2 : List Value} (hw : ∀ {p : Program} {e : Env} {l : Launch} {R : Room} {s : State} {m : MethodId} {args : Array Value} {below : List Frame} {meth : Method} {c1 : Code} {H : Heap} {locs : List Loc} {cells slots : Nat} {Q : State → Prop} {ls : Array Slot}, p.tables.exec = Jvm.exec → c1.code = mi.cc →
    (c → W p l e R s m args below meth c1 H locs cells slots Q (F0 m pc1 ls st1)) → (¬ c → W p l e R s m args below meth c1 H locs cells slots Q (F0 m pc2 ls st2)) → W p l e R s m args below meth c1 H locs cells slots Q (F0 m pc ls st))
    (kt : c → R K mi h0 a0 r h' pc1 L st1 h) (kf : ¬ c → R K mi h0 a0 r h' pc2 L st2 h) : R K mi h0 a0 r h' pc L st h := by
  refine ⟨?_, fun hF hh p e s m below meth c H locs ls C hH hS hl => hw C.1 C.2.1 (fun q => (kt q).2 hF hh p e s m below meth c H locs ls C hH hS hl) (fun q => (kf q).2 hF hh p e s m below meth c H locs ls C hH hS hl)⟩
  rcases Classical.em c with q | q
  · exact (kt q).1
  · exact (kf q).1
theorem R_ifeq {x : Int32} {off : Int} {tgt : Nat} (hdg : decode mi.cc pc = .ok (.ifCond .eq off, 3)) (ht : (pc : Int) + off = (tgt : Int)) (kt : x = 0 → R K mi h0 a0 r h' tgt L st h) (kf : ¬ x = 0 → R K mi h0 a0 r h' (pc + 3) L st h) : R K mi h0 a0 r h' pc L (.int x :: st) h := R.br (fun hx hb a b => lv_if_eq hx hb hdg ht a b) kt kf
theorem R_ifne {x : Int32} {off : Int} {tgt : Nat} (hdg : decode mi.cc pc = .ok (.ifCond .ne off, 3)) (ht : (pc : Int) + off = (tgt : Int)) (kf : x = 0 → R K mi h0 a0 r h' (pc + 3) L st h) (kt : ¬ x = 0 → R K mi h0 a0 r h' tgt L st h) : R K mi h0 a0 r h' pc L (.int x :: st) h := R.br (fun hx hb a b => lv_if_ne hx hb hdg ht b a) kf kt
theorem R_iflt {x : Int32} {off : Int} {tgt : Nat} (hdg : decode mi.cc pc = .ok (.ifCond .lt off, 3)) (ht : (pc : Int) + off = (tgt : Int)) (kt : x < 0 → R K mi h0 a0 r h' tgt L st h) (kf : ¬ x < 0 → R K mi h0 a0 r h' (pc + 3) L st h) : R K mi h0 a0 r h' pc L (.int x :: st) h := R.br (fun hx hb a b => lv_if_lt hx hb hdg ht a b) kt kf
theorem R_ifge {x : Int32} {off : Int} {tgt : Nat} (hdg : decode mi.cc pc = .ok (.ifCond .ge off, 3)) (ht : (pc : Int) + off = (tgt : Int)) (kt : 0 ≤ x → R K mi h0 a0 r h' tgt L st h) (kf : ¬ 0 ≤ x → R K mi h0 a0 r h' (pc + 3) L st h) : R K mi h0 a0 r h' pc L (.int x :: st) h := R.br (fun hx hb a b => lv_if_ge hx hb hdg ht a b) kt kf
theorem R_ifgt {x : Int32} {off : Int} {tgt : Nat} (hdg : decode mi.cc pc = .ok (.ifCond .gt off, 3)) (ht : (pc : Int) + off = (tgt : Int)) (kt : 0 < x → R K mi h0 a0 r h' tgt L st h) (kf : ¬ 0 < x → R K mi h0 a0 r h' (pc + 3) L st h) : R K mi h0 a0 r h' pc L (.int x :: st) h := R.br (fun hx hb a b => lv_if_gt hx hb hdg ht a b) kt kf
theorem R_ifle {x : Int32} {off : Int} {tgt : Nat} (hdg : decode mi.cc pc = .ok (.ifCond .le off, 3)) (ht : (pc : Int) + off = (tgt : Int)) (kt : x ≤ 0 → R K mi h0 a0 r h' tgt L st h) (kf : ¬ x ≤ 0 → R K mi h0 a0 r h' (pc + 3) L st h) : R K mi h0 a0 r h' pc L (.int x :: st) h := R.br (fun hx hb a b => lv_if_le hx hb hdg ht a b) kt kf
theorem R_iceq {x y : Int32} {off : Int} {tgt : Nat} (hdg : decode mi.cc pc = .ok (.if_icmp .eq off, 3)) (ht : (pc : Int) + off = (tgt : Int)) (kt : x = y → R K mi h0 a0 r h' tgt L st h) (kf : ¬ x = y → R K mi h0 a0 r h' (pc + 3) L st h) : R K mi h0 a0 r h' pc L (.int y :: .int x :: st) h := R.br (fun hx hb a b => lv_icmp_eq hx hb hdg ht a b) kt kf
theorem R_icne {x y : Int32} {off : Int} {tgt : Nat} (hdg : decode mi.cc pc = .ok (.if_icmp .ne off, 3)) (ht : (pc : Int) + off = (tgt : Int)) (kf : x = y → R K mi h0 a0 r h' (pc + 3) L st h) (kt : ¬ x = y → R K mi h0 a0 r h' tgt L st h) : R K mi h0 a0 r h' pc L (.int y :: .int x :: st) h := R.br (fun hx hb a b => lv_icmp_ne hx hb hdg ht b a) kf kt
theorem R_iclt {x y : Int32} {off : Int} {tgt : Nat} (hdg : decode mi.cc pc = .ok (.if_icmp .lt off, 3)) (ht : (pc : Int) + off = (tgt : Int)) (kt : x < y → R K mi h0 a0 r h' tgt L st h) (kf : ¬ x < y → R K mi h0 a0 r h' (pc + 3) L st h) : R K mi h0 a0 r h' pc L (.int y :: .int x :: st) h := R.br (fun hx hb a b => lv_icmp_lt hx hb hdg ht a b) kt kf
theorem R_icge {x y : Int32} {off : Int} {tgt : Nat} (hdg : decode mi.cc pc = .ok (.if_icmp .ge off, 3)) (ht : (pc : Int) + off = (tgt : Int)) (kt : y ≤ x → R K mi h0 a0 r h' tgt L st h) (kf : ¬ y ≤ x → R K mi h0 a0 r h' (pc + 3) L st h) : R K mi h0 a0 r h' pc L (.int y :: .int x :: st) h := R.br (fun hx hb a b => lv_icmp_ge hx hb hdg ht a b) kt kf
theorem R_icgt {x y : Int32} {off : Int} {tgt : Nat} (hdg : decode mi.cc pc = .ok (.if_icmp .gt off, 3)) (ht : (pc : Int) + off = (tgt : Int)) (kt : y < x → R K mi h0 a0 r h' tgt L st h) (kf : ¬ y < x → R K mi h0 a0 r h' (pc + 3) L st h) : R K mi h0 a0 r h' pc L (.int y :: .int x :: st) h := R.br (fun hx hb a b => lv_icmp_gt hx hb hdg ht a b) kt kf
theorem R_icle {x y : Int32} {off : Int} {tgt : Nat} (hdg : decode mi.cc pc = .ok (.if_icmp .le off, 3)) (ht : (pc : Int) + off = (tgt : Int)) (kt : x ≤ y → R K mi h0 a0 r h' tgt L st h) (kf : ¬ x ≤ y → R K mi h0 a0 r h' (pc + 3) L st h) : R K mi h0 a0 r h' pc L (.int y :: .int x :: st) h := R.br (fun hx hb a b => lv_icmp_le hx hb hdg ht a b) kt kf
theorem R_aceq {x y : Option Nat} {off : Int} {tgt : Nat} (hdg : decode mi.cc pc = .ok (.if_acmp .eq off, 3)) (ht : (pc : Int) + off = (tgt : Int)) (kt : x = y → R K mi h0 a0 r h' tgt L st h) (kf : ¬ x = y → R K mi h0 a0 r h' (pc + 3) L st h) : R K mi h0 a0 r h' pc L (va_rf y :: va_rf x :: st) h := R.br (fun hx hb a b => lv_acmp_eq hx hb hdg ht a b) kt kf
theorem R_acne {x y : Option Nat} {off : Int} {tgt : Nat} (hdg : decode mi.cc pc = .ok (.if_acmp .ne off, 3)) (ht : (pc : Int) + off = (tgt : Int)) (kf : x = y → R K mi h0 a0 r h' (pc + 3) L st h) (kt : ¬ x = y → R K mi h0 a0 r h' tgt L st h) : R K mi h0 a0 r h' pc L (va_rf y :: va_rf x :: st) h := R.br (fun hx hb a b => lv_acmp_ne hx hb hdg ht b a) kf kt
theorem R_ifnull {x : Option Nat} {off : Int} {tgt : Nat} (hdg : decode mi.cc pc = .ok (.ifnull off, 3)) (ht : (pc : Int) + off = (tgt : Int)) (kt : x = none → R K mi h0 a0 r h' tgt L st h) (kf : ¬ x = none → R K mi h0 a0 r h' (pc + 3) L st h) : R K mi h0 a0 r h' pc L (va_rf x :: st) h := R.br (c := x = none) (fun hx hb a b => by
  cases x with
  | none => exact lv_ifnullN hx hb hdg ht (a rfl)
  | some x => exact lv_ifnull hx hb hdg (b (fun q => by cases q))) kt kf
theorem R_ifnonnull {x : Option Nat} {off : Int} {tgt : Nat} (hdg : decode mi.cc pc = .ok (.ifnonnull off, 3)) (ht : (pc : Int) + off = (tgt : Int)) (kf : x = none → R K mi h0 a0 r h' (pc + 3) L st h) (kt : ¬ x = none → R K mi h0 a0 r h' tgt L st h) : R K mi h0 a0 r h' pc L (va_rf x :: st) h := R.br (c := x = none) (fun hx hb a b => by
  cases x with
  | none => exact lv_ifnonnullN hx hb hdg (a rfl)
  | some x => exact lv_ifnonnull hx hb hdg ht (b (fun q => by cases q))) kf kt
theorem R_tswIn {dflt lo hi : Int} {offs : Array Int} {len : Nat} {x : Int32} {off : Int} {tgt : Nat} (hdg : decode mi.cc pc = .ok (.tableswitch dflt lo hi offs, len)) (h1 : ¬ x.toInt < lo) (h2 : ¬ hi < x.toInt) (ho : offs[(x.toInt - lo).toNat]? = some off) (ht : (pc : Int) + off = (tgt : Int)) (k : R K mi h0 a0 r h' tgt L st h) : R K mi h0 a0 r h' pc L (.int x :: st) h := k.pure fun hx hb k => lv_tableIn hx hb hdg h1 h2 ho ht k
theorem R_tswOut {dflt lo hi : Int} {offs : Array Int} {len : Nat} {x : Int32} {tgt : Nat} (hdg : decode mi.cc pc = .ok (.tableswitch dflt lo hi offs, len)) (hh : x.toInt < lo ∨ hi < x.toInt) (ht : (pc : Int) + dflt = (tgt : Int)) (k : R K mi h0 a0 r h' tgt L st h) : R K mi h0 a0 r h' pc L (.int x :: st) h := k.pure fun hx hb k => lv_tableOut hx hb hdg hh ht k
theorem R_lsw {dflt : Int} {ps : Array (Int × Int)} {len : Nat} {x : Int32} {off : Int} {tgt : Nat} (hdg : decode mi.cc pc = .ok (.lookupswitch dflt ps, len)) (hp : (ps.toList.zip (ps.toList.drop 1)).all (fun (a, next) => a.1 < next.1) = true) (ho : Op.lookupswitch.offset ps.toList dflt x.toInt = off) (ht : (pc : Int) + off = (tgt : Int)) (k : R K mi h0 a0 r h' tgt L st h) : R K mi h0 a0 r h' pc L (.int x :: st) h := k.pure fun hx hb k => lv_lookup hx hb hdg hp ho ht k
theorem QN_of {K : KT} {v : Option Value} {h : PH} {s t : State} {H : Heap} {locs : List Loc} {a : Array Value} (hS : va_S (pA K) s.heap H locs) (hH : HR K h H) (ht : t.heap = H) : QN K v h a s (.returned v) t := ⟨⟨rfl, by rw [ht]; exact hH⟩, hS.F ht⟩
theorem R_ireturn {x : Int32} {ty : FieldType} (hr : mi.ret = some ty) (hn : narrow ty (.int x) = .int x) (hdg : decode mi.cc pc = .ok (.ireturn, 1)) : R K mi h0 a0 (.inl (some (.int x))) h pc L [.int x] h :=
  ⟨hle.rf, fun hF hh p e s m below meth c H locs ls C hH hS hl => W.zret C.1 C.2.1 (C.2.2.1.trans hr) hn (fun t ht hW => QN_of hS hH ht) hS.2.2 hdg C.2.2.2.1⟩
theorem R_areturn {x : Option Nat} {ty : FieldType} (hr : mi.ret = some ty) (hn : (∃ n, ty = .object n) ∨ ∃ t, ty = .array t) (hdg : decode mi.cc pc = .ok (.areturn, 1)) : R K mi h0 a0 (.inl (some (va_rf x))) h pc L [va_rf x] h :=
  ⟨hle.rf, fun hF hh p e s m below meth c H locs ls C hH hS hl => W.aret C.1 C.2.1 (C.2.2.1.trans hr) hn (rf_or x) (fun t ht hW => QN_of hS hH ht) hS.2.2 hdg C.2.2.2.1⟩
theorem R_return (hr : mi.ret = none) (hdg : decode mi.cc pc = .ok (.return_, 1)) : R K mi h0 a0 (.inl none) h pc L [] h :=
  ⟨hle.rf, fun hF hh p e s m below meth c H locs ls C hH hS hl => W.vret C.1 C.2.1 (C.2.2.1.trans hr) (fun t ht hW => QN_of hS hH ht) hS.2.2 hdg C.2.2.2.1⟩
end R0
