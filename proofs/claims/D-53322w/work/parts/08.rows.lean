/-! THE PURE WORLD: arrays, things made, statics, casts, copies -/
set_option maxRecDepth 100000
theorem inb_vp {i : Int32} {n : Nat} (h : inb i n) : vp_in i n := vp_in_iff.mpr h
theorem inb_lt {i : Int32} {n : Nat} (h : inb i n) : ¬ i < 0 ∧ i.toNatClampNeg < n := by
  have := inb_vp h
  exact ⟨fun q => this (Or.inl q), Nat.not_le.mp fun q => this (Or.inr q)⟩
theorem ar_some {t : Nat} {x : Option Nat} {h : PH} {v : vp_A} (hb : ar t x h = some v) : ∃ a, x = some a ∧ lk h a = some (.inl (t, v)) := by
  cases x with
  | none => cases hb
  | some a =>
    simp only [ar] at hb
    split at hb
    · rename_i o ho
      split at hb
      · rename_i e
        cases hb
        subst e
        exact ⟨a, rfl, ho⟩
      · cases hb
    · cases hb
section R2
variable {K : KT} {mi : MI} {h0 : PH} {a0 : List Value} {r : RS} {h' : PH} {pc : Nat} {L : List (Nat × Value)} {st : List Value} {h : PH}
theorem R_alen {t : Nat} {x : Option Nat} {z : Int32} (hb : aln t x h = some z) (hdg : decode mi.cc pc = .ok (.arraylength, 1)) (k : R K mi h0 a0 r h' (pc + 1) L (.int z :: st) h) : R K mi h0 a0 r h' pc L (va_rf x :: st) h := by
  refine ⟨k.1, fun hF hh p e s m below meth c H locs ls C hH hS hl => ?_⟩
  have k2 := k.2 hF hh p e s m below meth c H locs ls C hH hS hl
  obtain ⟨v, h1, rfl⟩ := Option.map_eq_some_iff.mp hb
  obtain ⟨a, rfl, ha⟩ := ar_some h1
  obtain ⟨hx, hcc, -, -, -, -, hU, -⟩ := C
  obtain ⟨cell, ty, r1, r2, r3, r4, r5, r6, r7⟩ := hH.rd hF hU hS ha
  exact W.alen hx hcc r2 (State.isArrayOf_alike hU.al r3) r6 rfl rfl hdg k2
theorem ald_some {t : Nat} {x : Option Nat} {i z : Int32} (hb : ald t x i h = some z) : ∃ a n f, x = some a ∧ lk h a = some (.inl (t, n, .inl f)) ∧ inb i n ∧ z = f i.toNatClampNeg := by
  unfold ald at hb
  split at hb
  · rename_i n f h1
    split at hb
    · rename_i hi
      cases hb
      obtain ⟨a, e, ha⟩ := ar_some h1
      exact ⟨a, n, f, e, ha, hi, rfl⟩
    · cases hb
  · cases hb
theorem rd_inb {i : Int32} {n m : Nat} (h : inb i n) (hm : n ≤ m) : ¬ (i < 0 ∨ m ≤ i.toNatClampNeg) := by
  obtain ⟨h1, h2⟩ := inb_lt h
  rintro (q | q)
  · exact h1 q
  · omega
theorem R_iaload {x : Option Nat} {i z : Int32} (hb : ald 0 x i h = some z) (hdg : decode mi.cc pc = .ok (.iaload, 1)) (k : R K mi h0 a0 r h' (pc + 1) L (.int z :: st) h) : R K mi h0 a0 r h' pc L (.int i :: va_rf x :: st) h := by
  refine ⟨k.1, fun hF hh p e s m below meth c H locs ls C hH hS hl => ?_⟩
  have k2 := k.2 hF hh p e s m below meth c H locs ls C hH hS hl
  obtain ⟨a, n, f, rfl, ha, hi, rfl⟩ := ald_some hb
  obtain ⟨hx, hcc, -, -, -, -, hU, -⟩ := C
  obtain ⟨cell, ty, r1, r2, r3, r4, r5, r6, r7⟩ := hH.rd hF hU hS ha
  cases (show some ty = some .int from r1.symm)
  exact W.iald hx hcc r2 (State.isArrayOf_alike hU.al r3) r4 (rd_inb hi r5) (r7 _ (inb_lt hi).2) rfl rfl hdg k2
theorem R_zaload {x : Option Nat} {i z : Int32} (hb : ald 1 x i h = some z) (hdg : decode mi.cc pc = .ok (.baload, 1)) (k : R K mi h0 a0 r h' (pc + 1) L (.int z :: st) h) : R K mi h0 a0 r h' pc L (.int i :: va_rf x :: st) h := by
  refine ⟨k.1, fun hF hh p e s m below meth c H locs ls C hH hS hl => ?_⟩
  have k2 := k.2 hF hh p e s m below meth c H locs ls C hH hS hl
  obtain ⟨a, n, f, rfl, ha, hi, rfl⟩ := ald_some hb
  obtain ⟨hx, hcc, -, -, -, -, hU, -⟩ := C
  obtain ⟨cell, ty, r1, r2, r3, r4, r5, r6, r7⟩ := hH.rd hF hU hS ha
  cases (show some ty = some .boolean from r1.symm)
  exact W.zald hx hcc r2 (State.isArrayOf_alike hU.al r3) r4 (rd_inb hi r5) (r7 _ (inb_lt hi).2) rfl rfl hdg k2
theorem R_baload {x : Option Nat} {i z : Int32} (hb : ald 2 x i h = some z) (hdg : decode mi.cc pc = .ok (.baload, 1)) (k : R K mi h0 a0 r h' (pc + 1) L (.int z :: st) h) : R K mi h0 a0 r h' pc L (.int i :: va_rf x :: st) h := by
  refine ⟨k.1, fun hF hh p e s m below meth c H locs ls C hH hS hl => ?_⟩
  have k2 := k.2 hF hh p e s m below meth c H locs ls C hH hS hl
  obtain ⟨a, n, f, rfl, ha, hi, rfl⟩ := ald_some hb
  obtain ⟨hx, hcc, -, -, -, -, hU, -⟩ := C
  obtain ⟨cell, ty, r1, r2, r3, r4, r5, r6, r7⟩ := hH.rd hF hU hS ha
  cases (show some ty = some .byte from r1.symm)
  exact W.bald hx hcc r2 (State.isArrayOf_alike hU.al r3) r4 (rd_inb hi r5) (r7 _ (inb_lt hi).2) rfl rfl hdg k2
theorem alr_some {t : Nat} {x : Option Nat} {i : Int32} {z : Option Nat} (hb : alr t x i h = some z) : ∃ a n f, x = some a ∧ lk h a = some (.inl (t, n, .inr (.inr (.inr (.inr f))))) ∧ inb i n ∧ z = f i.toNatClampNeg := by
  unfold alr at hb
  split at hb
  · rename_i n f h1
    split at hb
    · rename_i hi
      cases hb
      obtain ⟨a, e, ha⟩ := ar_some h1
      exact ⟨a, n, f, e, ha, hi, rfl⟩
    · cases hb
  · cases hb
theorem R_aaload {t : Nat} {x : Option Nat} {i : Int32} {z : Option Nat} (hb : alr t x i h = some z) (ht : (ptyr[t]?).all (fun ty => ty.isReference) = true) (hdg : decode mi.cc pc = .ok (.aaload, 1)) (k : R K mi h0 a0 r h' (pc + 1) L (va_rf z :: st) h) : R K mi h0 a0 r h' pc L (.int i :: va_rf x :: st) h := by
  refine ⟨k.1, fun hF hh p e s m below meth c H locs ls C hH hS hl => ?_⟩
  have k2 := k.2 hF hh p e s m below meth c H locs ls C hH hS hl
  obtain ⟨a, n, f, rfl, ha, hi, rfl⟩ := alr_some hb
  obtain ⟨hx, hcc, -, -, -, -, hU, -⟩ := C
  obtain ⟨cell, ty, r1, r2, r3, r4, r5, r6, r7⟩ := hH.rd hF hU hS ha
  rw [r1] at ht
  exact W.aald hx hcc r2 (State.isArrayOf_alike hU.al r3) ht r4 (rd_inb hi r5) (r7 _ (inb_lt hi).2) rfl rfl hdg k2
theorem asi_some {t : Nat} {x : Option Nat} {i z : Int32} {h1 : PH} (hb : asi t x i z h = some h1) : ∃ a n f, x = some a ∧ h.1 a = some (.inl (t, n, .inl f)) ∧ inb i n ∧ h1 = hset h a (.inl (t, n, .inl (upd f i.toNatClampNeg z))) := by
  cases x with
  | none => cases hb
  | some a =>
    simp only [asi] at hb
    split at hb
    · rename_i t' n f ho
      split at hb
      · rename_i e
        cases hb
        obtain ⟨e1, e2⟩ := e
        subst e1
        exact ⟨a, n, f, rfl, ho, e2, rfl⟩
      · cases hb
    · cases hb
theorem arrV_set {cA : ClassId} {n : Nat} (f : Nat → Int32) (i : Nat) (z : Int32) : (vp_cell cA (n, .inl f)).setSlot i (.int z) = vp_cell cA (n, .inl (upd f i z)) := by
  rw [vp_cell_i, vp_cell_i, arrV_store]
  congr 2
  funext q
  by_cases hq : q = i
  · subst hq
    simp [updV, upd]
  · simp [updV, upd, hq]
theorem arrV_setq {cA : ClassId} {n : Nat} (f : Nat → Option Nat) (i : Nat) (z : Option Nat) : (vp_cell cA (n, .inr (.inr (.inr (.inr f))))).setSlot i (va_rf z) = vp_cell cA (n, .inr (.inr (.inr (.inr (va_up f i z))))) := by
  rw [vp_cell_q, vp_cell_q, arrV_store]
  congr 2
  funext q
  by_cases hq : q = i
  · subst hq
    simp [updV, va_up]
  · simp [updV, va_up, hq]
theorem okc_i {t : Nat} {x : vp_A} (h : t < 7) : okc (.inl (t, x)) := fun t' x' q => by cases q; exact h
theorem nar_b {z : Int32} (h : z = 0 ∨ z = 1) : vp_nar .boolean z = z := by rcases h with rfl | rfl <;> rfl
theorem gb_some {z : Int32} {u : Unit} (h : gb z = some u) : z = 0 ∨ z = 1 := by
  unfold gb at h
  split at h
  · assumption
  · cases h
theorem nrw_b {z : Int32} (h : z = 0 ∨ z = 1) : narrow .boolean (.int z) = .int z ∧ fits .boolean (.int z) = true := by rcases h with rfl | rfl <;> exact ⟨rfl, rfl⟩
theorem nrw_y {z : Int32} (h : z = 0 ∨ z = 1) : narrow .byte (.int z) = .int z ∧ fits .byte (.int z) = true := by rcases h with rfl | rfl <;> exact ⟨rfl, rfl⟩
theorem R_iastore {x : Option Nat} {i z : Int32} {h1 : PH} (hb : asi 0 x i z h = some h1) (hdg : decode mi.cc pc = .ok (.iastore, 1)) (k : R K mi h0 a0 r h' (pc + 1) L st h1) : R K mi h0 a0 r h' pc L (.int z :: .int i :: va_rf x :: st) h := by
  obtain ⟨a, n, f, rfl, ha, hi, rfl⟩ := asi_some hb
  refine ⟨k.1, fun hF hh p e s m below meth c H locs ls C hH hS hl => ?_⟩
  obtain ⟨hx, hcc, q3, q4, q5, q6, hU, q8⟩ := C
  obtain ⟨hA, hat, hok⟩ := hH.2.2.2 a _ ha
  refine W.iast hx hcc hat (((hU.K hF).2 0 _ (ptys_at rfl)).1 n (fun j => .int (f j))) (fun q => by cases q) (by show ¬ (i < 0 ∨ (arrV _ _ _).slots.size ≤ _); rw [arrV_size]; exact inb_vp hi) rfl rfl hdg fun H1 e1 z1 oq => ?_
  refine k.2 hF hh p e s m below meth c H1 _ ls ⟨hx, hcc, q3, q4, q5, q6, hU, q8⟩ (hH.set ha ?_ (okc_i (by decide)) z1 oq) (hS.put z1 oq hA) hl
  show H1[a]? = some (vp_cell _ _)
  rw [e1]
  exact congrArg some (arrV_set f _ _)
theorem R_zastore {x : Option Nat} {i z : Int32} {h1 : PH} (hb : asi 1 x i (vp_nar .boolean z) h = some h1) (hdg : decode mi.cc pc = .ok (.bastore, 1)) (k : R K mi h0 a0 r h' (pc + 1) L st h1) : R K mi h0 a0 r h' pc L (.int z :: .int i :: va_rf x :: st) h := by
  obtain ⟨a, n, f, rfl, ha, hi, rfl⟩ := asi_some hb
  refine ⟨k.1, fun hF hh p e s m below meth c H locs ls C hH hS hl => ?_⟩
  obtain ⟨hx, hcc, q3, q4, q5, q6, hU, q8⟩ := C
  obtain ⟨hA, hat, hok⟩ := hH.2.2.2 a _ ha
  refine W.zast hx hcc hat (((hU.K hF).2 1 _ (ptys_at rfl)).1 n (fun j => .int (f j))) (fun q => by cases q) (by show ¬ (i < 0 ∨ (arrV _ _ _).slots.size ≤ _); rw [arrV_size]; exact inb_vp hi) rfl rfl hdg fun H1 e1 z1 oq => ?_
  refine k.2 hF hh p e s m below meth c H1 _ ls ⟨hx, hcc, q3, q4, q5, q6, hU, q8⟩ (hH.set ha ?_ (okc_i (by decide)) z1 oq) (hS.put z1 oq hA) hl
  show H1[a]? = some (vp_cell _ _)
  rw [e1]
  exact congrArg some (arrV_set f _ _)
theorem R_bastore {x : Option Nat} {i z : Int32} {h1 : PH} (hb : asi 2 x i (vp_nar .byte z) h = some h1) (hdg : decode mi.cc pc = .ok (.bastore, 1)) (k : R K mi h0 a0 r h' (pc + 1) L st h1) : R K mi h0 a0 r h' pc L (.int z :: .int i :: va_rf x :: st) h := by
  obtain ⟨a, n, f, rfl, ha, hi, rfl⟩ := asi_some hb
  refine ⟨k.1, fun hF hh p e s m below meth c H locs ls C hH hS hl => ?_⟩
  obtain ⟨hx, hcc, q3, q4, q5, q6, hU, q8⟩ := C
  obtain ⟨hA, hat, hok⟩ := hH.2.2.2 a _ ha
  refine W.bast hx hcc hat (((hU.K hF).2 2 _ (ptys_at rfl)).1 n (fun j => .int (f j))) (fun q => by cases q) (by show ¬ (i < 0 ∨ (arrV _ _ _).slots.size ≤ _); rw [arrV_size]; exact inb_vp hi) rfl rfl hdg fun H1 e1 z1 oq => ?_
  refine k.2 hF hh p e s m below meth c H1 _ ls ⟨hx, hcc, q3, q4, q5, q6, hU, q8⟩ (hH.set ha ?_ (okc_i (by decide)) z1 oq) (hS.put z1 oq hA) hl
  show H1[a]? = some (vp_cell _ _)
  rw [e1]
  exact congrArg some (arrV_set f _ _)
theorem asr_some {t : Nat} {x : Option Nat} {i : Int32} {z : Option Nat} {h1 : PH} (hb : asr t x i z h = some h1) : ∃ a n f, x = some a ∧ h.1 a = some (.inl (t, n, .inr (.inr (.inr (.inr f))))) ∧ inb i n ∧ eok t h z = true ∧ h1 = hset h a (.inl (t, n, .inr (.inr (.inr (.inr (va_up f i.toNatClampNeg z)))))) := by
  cases x with
  | none => cases hb
  | some a =>
    simp only [asr] at hb
    split at hb
    · rename_i t' n f ho
      split at hb
      · rename_i e
        cases hb
        obtain ⟨e1, e2, e3⟩ := e
        subst e1
        exact ⟨a, n, f, rfl, ho, e2, e3, rfl⟩
      · cases hb
    · cases hb
/-- an element that an array may hold, in the machine's words -/
theorem eok_spec {H : Heap} {s : State} (hF : FK K) (hH : HR K h H) (hU : KU K s) {t a : Nat} {ty : FieldType} (ht : ptyl[t]? = some ty) (he : eok t h (some a) = true) :
    ∃ (cellV : Cell) (kV : Class) (kA : Class) (comp : ClassId) (kE : Class), H[a]? = some cellV ∧ (∀ q, cellV.vm ≠ .statics q) ∧ s.vm.classes[cellV.cls]? = some kV ∧ s.vm.classes[KT.dA K t]? = some kA ∧ kA.kind = .array comp ty ∧ s.vm.classes[comp]? = some kE ∧ s.vm.assignable cellV.cls comp = true := by
  simp only [eok, cno] at he
  have hK := hU.K hF
  have hal := hU.al
  cases hc : h.1 a with
  | none => simp [hc] at he
  | some c =>
    obtain ⟨hA, hat, hok⟩ := hH.2.2.2 a c hc
    cases c with
    | inl o =>
      obtain ⟨t', x⟩ := o
      simp only [hc] at he
      have e3 : t = 3 ∧ t' = 0 := by
        have h7 : t' < 7 := hok t' x rfl
        unfold sok at he
        split at he
        · exact ⟨rfl, by simp at he; omega⟩
        · simp at he; omega
        · rename_i c0 hc0; simp at he; omega
        · rename_i c0 hc0; simp at he; omega
        · cases he
      obtain ⟨rfl, rfl⟩ := e3
      have e : H[a]? = some (vp_cell (KT.dA K 0) x) := hat
      have hv0 : (vp_cell (KT.dA K 0) x).vm = .none := by obtain ⟨n, f | f | f | f | f⟩ := x <;> rfl
      have hcl : (vp_cell (KT.dA K 0) x).cls = KT.dA K 0 := by obtain ⟨n, f | f | f | f | f⟩ := x <;> rfl
      obtain ⟨kA, comp, r1, r2, r3⟩ := hF.2.2.2.1
      have h0 : (KT.s0 K).vm.findClass "[I" = some (KT.dA K 0) := (hF.2.1.2 0 _ (ptys_at rfl)).2
      cases r3.symm.trans h0
      obtain ⟨k0, hk0, -⟩ := Vm.findClass_spec h0
      obtain ⟨k', hk', he'⟩ := hal.2.2 _ _ r1
      obtain ⟨k0', hk0', -⟩ := hal.2.2 _ _ hk0
      cases ht
      exact ⟨_, k0', k', _, k0', e, (fun q => by rw [hv0]; exact fun q => by cases q), by rw [hcl]; exact hk0', hk', by rw [he']; exact r2, hk0', by rw [hcl]; exact va_asg _ _⟩
    | inr o =>
      obtain ⟨ci, fs⟩ := o
      simp only [hc] at he
      obtain ⟨q, g1, cell, q1, q2, q3, -⟩ := hat
      have hcls := (hK.1 ci q g1).2
      obtain ⟨kC, hkC, hkind⟩ := hcls.2
      have main : ∀ E : String, ptyl[t]? = some (.object E) → (Cond.castable q.1 E ∈ lw_tbl ∨ q.1 = E) → ∃ (cellV : Cell) (kV : Class) (kA : Class) (comp : ClassId) (kE : Class), H[a]? = some cellV ∧ (∀ q, cellV.vm ≠ .statics q) ∧ s.vm.classes[cellV.cls]? = some kV ∧ s.vm.classes[KT.dA K t]? = some kA ∧ kA.kind = .array comp ty ∧ s.vm.classes[comp]? = some kE ∧ s.vm.assignable cellV.cls comp = true := by
        intro E hE hcE
        cases ht.symm.trans hE
        obtain ⟨kA, comp, k1, k2, k3, -⟩ := (hK.2 t _ (ptys_at hE)).2
        obtain ⟨kE, hkE, -⟩ := Vm.findClass_spec k3
        refine ⟨cell, kC, kA, comp, kE, q1, (fun z => by rw [q3]; exact fun z => by cases z), by rw [q2]; exact hkC, k1, k2, hkE, ?_⟩
        rw [q2]
        rcases hcE with hcE | hcE
        · obtain ⟨c0, t1, f1, f2, f3⟩ := Cond.castable_spec (va_Nw.use (A := #[]) rfl (hU.c hF hcE))
          cases hcls.1.symm.trans f1
          cases k3.symm.trans f2
          exact f3
        · subst hcE
          cases hcls.1.symm.trans k3
          exact va_asg _ _
      unfold sok at he
      split at he
      · simp at he
        subst he
        cases g1
      · simp at he
        subst he
        cases g1
        exact main "EdgeSums$Sheet" rfl (Or.inr rfl)
      · simp at he
        rcases he with e | e | e | e | e <;> subst e <;> cases g1 <;> exact main "EdgeSums$Rule" rfl (Or.inl (by first | exact q1407 | exact q1399 | exact q1346 | exact q1387 | exact q1390))
      · simp at he
        rcases he with e | e | e | e | e <;> subst e <;> cases g1 <;> exact main "java/lang/Object" rfl (Or.inl (by first | exact q3192 | exact q3213 | exact q3215 | exact q3221 | exact q3222))
      · cases he
theorem R_aastore {t : Nat} {x : Option Nat} {i : Int32} {z : Option Nat} {ty : FieldType} {h1 : PH} (hb : asr t x i z h = some h1) (ht : ptyl[t]? = some ty) (hty : (∃ C, ty = .object C) ∨ (ty.isReference = true ∧ z ≠ none)) (hdg : decode mi.cc pc = .ok (.aastore, 1)) (k : R K mi h0 a0 r h' (pc + 1) L st h1) : R K mi h0 a0 r h' pc L (va_rf z :: .int i :: va_rf x :: st) h := by
  obtain ⟨a, n, f, rfl, ha, hi, hz, rfl⟩ := asr_some hb
  refine ⟨k.1, fun hF hh p e s m below meth c H locs ls C hH hS hl => ?_⟩
  obtain ⟨hx, hcc, q3, q4, q5, q6, hU, q8⟩ := C
  obtain ⟨hA, hat, hok⟩ := hH.2.2.2 a _ ha
  have hat : H[a]? = some (vp_cell (KT.dA K t) (n, .inr (.inr (.inr (.inr f))))) := hat
  have t7 : t < 7 := hok t _ rfl
  have fin : ∀ H1 : Heap, H1[a]? = some ((vp_cell (KT.dA K t) (n, .inr (.inr (.inr (.inr f))))).setSlot i.toNatClampNeg (va_rf z)) → H1.size = H.size → (∀ q : Nat, q ≠ a → H1[q]? = H[q]?) → HR K (hset h a (.inl (t, n, .inr (.inr (.inr (.inr (va_up f i.toNatClampNeg z))))))) H1 := by
    intro H1 e1 z1 oq
    refine hH.set ha ?_ (okc_i t7) z1 oq
    show H1[a]? = some (vp_cell _ _)
    rw [e1, arrV_setq]
  have hsz : (vp_cell (KT.dA K t) (n, .inr (.inr (.inr (.inr f))))).slots.size = n := arrV_size _ _ _
  cases z with
  | none =>
    rcases hty with ⟨C, rfl⟩ | ⟨-, q⟩
    · refine va_WaastN (C := C) hx hcc hat (((hU.K hF).2 t _ (ptys_at ht)).1 n (fun j => va_rf (f j))) (fun h => by cases h) (by rw [hsz]; exact inb_vp hi) rfl rfl hdg fun H1 e1 z1 oq => ?_
      exact k.2 hF hh p e s m below meth c H1 _ ls ⟨hx, hcc, q3, q4, q5, q6, hU, q8⟩ (fin H1 e1 z1 oq) (hS.put z1 oq hA) hl
    · exact absurd rfl q
  | some v =>
    obtain ⟨cellV, kV, kA, comp, kE, g1, g2, g3, g4, g5, g6, g7⟩ := eok_spec hF hH hU ht hz
    have href : ty.isReference = true := by
      rcases hty with ⟨C, rfl⟩ | ⟨q, -⟩
      · rfl
      · exact q
    refine W.aast hx hcc hat (fun q h => by cases h) (fun h => by cases h) g4 g5 href g6 ⟨(inb_lt hi).1, by rw [hsz]; exact (inb_lt hi).2⟩ g1 g2 g3 g7 rfl rfl hdg fun H1 e1 z1 oq => ?_
    exact k.2 hF hh p e s m below meth c H1 _ ls ⟨hx, hcc, q3, q4, q5, q6, hU, q8⟩ (fin H1 e1 z1 oq) (hS.put z1 oq hA) hl
end R2
