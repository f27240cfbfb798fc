/-! THE PURE WORLD: reads and writes of cells, and their rows -/
set_option maxRecDepth 100000
def lk (h : PH) (a : Nat) : Option PC := match h.1 a with
  | some c => some c
  | none => (hg h).1 a
/-- the fields of an object of the class ci -/
def ob (ci : Nat) (r : Option Nat) (h : PH) : Option (List Value) := match r with
  | none => none
  | some a => match lk h a with
    | some (.inr o) => if o.1 = ci then some o.2 else none
    | _ => none
def vI : Value → Option Int32
  | .int x => some x
  | _ => none
def vR : Value → Option (Option Nat)
  | .null => some none
  | .ref a => some (some a)
  | _ => none
theorem vI_i (x : Int32) : vI (.int x) = some x := rfl
theorem vR_r (x : Option Nat) : vR (va_rf x) = some x := by cases x <;> rfl
theorem vI_eq {v : Value} {x : Int32} (h : vI v = some x) : v = .int x := by
  cases v <;> simp_all [vI]
theorem vR_eq {v : Value} {x : Option Nat} (h : vR v = some x) : v = va_rf x := by
  cases v <;> simp [vR] at h <;> subst h <;> rfl
def gfi (ci k : Nat) (r : Option Nat) (h : PH) : Option Int32 := (ob ci r h).bind fun fs => (fs[k]?).bind vI
def gfr (ci k : Nat) (r : Option Nat) (h : PH) : Option (Option Nat) := (ob ci r h).bind fun fs => (fs[k]?).bind vR
def hset (h : PH) (a : Nat) (c : PC) : PH := (fun q => if q = a then some c else h.1 q, h.2)
/-- a field written -/
def pf (ci k : Nat) (r : Option Nat) (v : Value) (h : PH) : Option PH := match r with
  | none => none
  | some a => match h.1 a with
    | some (.inr o) => if o.1 = ci ∧ k < o.2.length then some (hset h a (.inr (ci, o.2.set k v))) else none
    | _ => none
/-- a value that a boolean or byte field or array takes as it is -/
def gb (x : Int32) : Option Unit := if x = 0 ∨ x = 1 then some () else none
def ar (t : Nat) (r : Option Nat) (h : PH) : Option vp_A := match r with
  | none => none
  | some a => match lk h a with
    | some (.inl o) => if o.1 = t then some o.2 else none
    | _ => none
abbrev inb (i : Int32) (n : Nat) : Prop := 0 ≤ i.toInt ∧ i.toInt < n
def aln (t : Nat) (r : Option Nat) (h : PH) : Option Int32 := (ar t r h).map fun x => Int32.ofNat x.1
def ald (t : Nat) (r : Option Nat) (i : Int32) (h : PH) : Option Int32 := match ar t r h with
  | some (n, .inl f) => if inb i n then some (f i.toNatClampNeg) else none
  | _ => none
def alr (t : Nat) (r : Option Nat) (i : Int32) (h : PH) : Option (Option Nat) := match ar t r h with
  | some (n, .inr (.inr (.inr (.inr f)))) => if inb i n then some (f i.toNatClampNeg) else none
  | _ => none
def asi (t : Nat) (r : Option Nat) (i x : Int32) (h : PH) : Option PH := match r with
  | none => none
  | some a => match h.1 a with
    | some (.inl (t', n, .inl f)) => if t' = t ∧ inb i n then some (hset h a (.inl (t, n, .inl (upd f i.toNatClampNeg x)))) else none
    | _ => none
/-- which class's objects an array of references may hold; an array of ints is 1000 -/
def sok : Nat → Nat → Bool
  | 3, c => c == 1000
  | 4, c => c == 2
  | 5, c => [6, 7, 8, 9, 10].contains c
  | 6, c => [1, 15, 17, 21, 22].contains c
  | _, _ => false
def cno (h : PH) (a : Nat) : Option Nat := match h.1 a with
  | some (.inl o) => some (1000 + o.1)
  | some (.inr o) => some o.1
  | none => none
def eok (t : Nat) (h : PH) (v : Option Nat) : Bool := match v with
  | none => true
  | some a => match cno h a with
    | some c => sok t c
    | none => false
def asr (t : Nat) (r : Option Nat) (i : Int32) (v : Option Nat) (h : PH) : Option PH := match r with
  | none => none
  | some a => match h.1 a with
    | some (.inl (t', n, .inr (.inr (.inr (.inr f))))) => if t' = t ∧ inb i n ∧ eok t h v = true then some (hset h a (.inl (t, n, .inr (.inr (.inr (.inr (va_up f i.toNatClampNeg v))))))) else none
    | _ => none
/-- a cell made -/
def hnew (h : PH) (c : PC) (n : Nat) : PH := (fun q => if q = hn h then some c else h.1 q, hn h + 1, hs h + n, hg h)
/-- an array of numbers, of references, made -/
def nwi (t : Nat) (n : Int32) (h : PH) : Option (Option Nat × PH) := if 0 ≤ n.toInt ∧ n.toInt ≤ 100000 then some (some (hn h), hnew h (.inl (t, n.toNatClampNeg, .inl fun _ => 0)) n.toNatClampNeg) else none
def nwr (t : Nat) (n : Int32) (h : PH) : Option (Option Nat × PH) := if 0 ≤ n.toInt ∧ n.toInt ≤ 100000 then some (some (hn h), hnew h (.inl (t, n.toNatClampNeg, .inr (.inr (.inr (.inr fun _ => none))))) n.toNatClampNeg) else none
def nwo (ci n : Nat) (fs : List Value) (h : PH) : PH := hnew h (.inr (ci, fs)) n
/-- arrays copied -/
def aci (t : Nat) (src : Option Nat) (sp : Int32) (dst : Option Nat) (dp n : Int32) (h : PH) : Option PH := match dst with
  | none => none
  | some a => match ar t src h, h.1 a with
    | some (n0, .inl f), some (.inl (t1, n1, .inl g)) =>
      if t1 = t ∧ 0 ≤ sp.toInt ∧ 0 ≤ dp.toInt ∧ 0 ≤ n.toInt ∧ sp.toInt + n.toInt ≤ n0 ∧ dp.toInt + n.toInt ≤ n1 ∧ (∀ j, j < n.toNatClampNeg → (ptyl[t]?).any (fun ty => fits ty (.int (f (sp.toNatClampNeg + j)))) = true) then
        some (hset h a (.inl (t, n1, .inl (va_cpy f g sp.toNatClampNeg dp.toNatClampNeg n.toNatClampNeg)))) else none
    | _, _ => none
def acr (t : Nat) (src : Option Nat) (sp : Int32) (dst : Option Nat) (dp n : Int32) (h : PH) : Option PH := match dst with
  | none => none
  | some a => match ar t src h, h.1 a with
    | some (n0, .inr (.inr (.inr (.inr f)))), some (.inl (t1, n1, .inr (.inr (.inr (.inr g))))) =>
      if t1 = t ∧ 0 ≤ sp.toInt ∧ 0 ≤ dp.toInt ∧ 0 ≤ n.toInt ∧ sp.toInt + n.toInt ≤ n0 ∧ dp.toInt + n.toInt ≤ n1 ∧ (∀ j, j < n.toNatClampNeg → eok t h (f (sp.toNatClampNeg + j)) = true) then
        some (hset h a (.inl (t, n1, .inr (.inr (.inr (.inr (va_cpy f g sp.toNatClampNeg dp.toNatClampNeg n.toNatClampNeg))))))) else none
    | _, _ => none
/-- an object's class's number, for calls through interfaces; a receiver of a known class -/
def clo (r : Option Nat) (h : PH) : Option Nat := match r with
  | none => none
  | some a => match lk h a with
    | some (.inr o) => some o.1
    | _ => none
def rcv (ci : Nat) (r : Option Nat) (h : PH) : Option Unit := if clo r h = some ci then some () else none
/-! what the machine's heap then is -/
theorem sg {D : va_G} {cl : List vw_C} {q : Nat × va_E} {H : Heap} (h : va_at D cl q H) : va_P D cl [q] H := fun k x hk => by
  match k, hk with
  | 0, hk => cases hk; exact h
theorem vp_cell_el (cA : ClassId) (x : vp_A) : vp_cell cA x = arrV cA x.1 (elV x) := by
  obtain ⟨n, f | f | f | f | f⟩ := x <;> rfl
theorem ptys_at {dA : Nat → ClassId} {t : Nat} {ty : FieldType} (h : ptyl[t]? = some ty) : (ptys dA)[t]? = some (dA t, ty) := by
  unfold ptys
  rw [List.getElem?_mapIdx, h]
  rfl
theorem ptyr_at {t : Nat} {ty : FieldType} (h : ptyl[t]? = some ty) : ptyr[t]? = some ty := by
  unfold ptyr
  rw [List.getElem?_append_left (List.getElem?_eq_some_iff.mp h).1]
  exact h
theorem HR.rd {K : KT} {h : PH} {H : Heap} (hF : FK K) (hH : HR K h H) {s : State} (hU : KU K s) {locs : List Loc} (hS : va_S (pA K) s.heap H locs) {a : Nat} {c : PC} (hk : lk h a = some c) : rd K H a c := by
  unfold lk at hk
  split at hk
  · rename_i c' h1
    cases hk
    obtain ⟨hA, hat, hok⟩ := hH.2.2.2 a _ h1
    cases c with
    | inl o =>
      obtain ⟨t, x⟩ := o
      have ht := hok t x rfl
      have e : H[a]? = some (vp_cell (KT.dA K t) x) := hat
      rw [vp_cell_el] at e
      have hty : ptyl[t]? = some (ptyl[t]'ht) := List.getElem?_eq_getElem ht
      refine ⟨_, _, ptyr_at hty, e, (hF.2.1.2 t _ (ptys_at hty)).1 _ _, (fun q => by cases q), ?_, ?_, fun j hj => arrV_read _ _ hj⟩
      · rw [arrV_size]; exact Nat.le_refl _
      · rw [arrV_size]
    | inr o =>
      obtain ⟨ci, fs⟩ := o
      obtain ⟨q, g1, cell, q1, q2, q3, q4⟩ := hat
      refine ⟨cell, q, g1, q1, by rw [q3]; rfl, (by rw [q3]; exact fun q => by cases q), ?_, q4⟩
      rw [q2]
      exact (hF.2.1.1 ci q g1).2.1
  · rw [hH.2.2.1] at hk
    obtain ⟨hlt, hat⟩ := hF.2.2.1 a c hk
    have e : H[a]? = (KT.s0 K).heap[a]? := by
      rw [hS.2.1 a (Nat.lt_of_lt_of_le hlt hU.2.1) (Nat.not_le.mpr hlt)]
      exact hU.2.2 a hlt
    cases c with
    | inl o =>
      obtain ⟨cell, ty, r1, r2, r3⟩ := hat
      exact ⟨cell, ty, r1, by rw [e]; exact r2, r3⟩
    | inr o =>
      obtain ⟨cell, q, r1, r2, r3⟩ := hat
      exact ⟨cell, q, r1, by rw [e]; exact r2, r3⟩
theorem HR.set {K : KT} {h : PH} {H H' : Heap} (hH : HR K h H) {a : Nat} {c c' : PC} (ha : h.1 a = some c) (he : va_at (KT.D K) pcl (a, toE (KT.dA K) c') H') (hok : okc c') (e2 : H'.size = H.size) (e3 : ∀ q : Nat, q ≠ a → H'[q]? = H[q]?) : HR K (hset h a c') H' := by
  refine ⟨e2.trans hH.1, by rw [e2]; exact hH.2.1, hH.2.2.1, fun q d hq => ?_⟩
  by_cases e : q = a
  · subst e
    simp only [hset, if_true] at hq
    cases hq
    exact ⟨(hH.2.2.2 _ _ ha).1, he, hok⟩
  · simp only [hset, if_neg e] at hq
    obtain ⟨h1, h2, h3⟩ := hH.2.2.2 q d hq
    exact ⟨h1, h2.kept (e3 q e), h3⟩
theorem HR.new {K : KT} {h : PH} {H H' : Heap} (hH : HR K h H) {c : PC} {n : Nat} (he : va_at (KT.D K) pcl (H.size, toE (KT.dA K) c) H') (hok : okc c) (e2 : H'.size = H.size + 1) (e3 : ∀ q : Nat, q < H.size → H'[q]? = H[q]?) : HR K (hnew h c n) H' := by
  refine ⟨by rw [e2, hH.1]; rfl, by rw [e2]; exact Nat.le_succ_of_le hH.2.1, hH.2.2.1, fun q d hq => ?_⟩
  by_cases e : q = hn h
  · simp only [hnew, if_pos e] at hq
    cases hq
    subst e
    exact ⟨by rw [← hH.1]; exact hH.2.1, by rw [← hH.1]; exact he, hok⟩
  · simp only [hnew, if_neg e] at hq
    obtain ⟨h1, h2, h3⟩ := hH.2.2.2 q d hq
    exact ⟨h1, h2.kept (e3 q h2.lt), h3⟩
theorem vaS_new {A : Nat → Prop} {H0 H H1 : Heap} {locs : List Loc} (h : va_S A H0 H locs) (z : H1.size = H.size + 1) (o1 : ∀ q : Nat, q < H.size → H1[q]? = H[q]?) : va_S A H0 H1 locs :=
  ⟨Nat.le_trans h.1 (by omega), fun y h1 h2 => (o1 y (Nat.lt_of_lt_of_le h1 h.1)).trans (h.2.1 y h1 h2), h.2.2⟩
/-- a class of the table: its words, its fields' types -/
def CK (ci : Nat) (C : String) (T : u_T) (N : Nat) : Prop := pcl[ci]? = some (C, T, N) ∧ (∀ w ∈ u_ws C T N, w ∈ lw_all) ∧ (∃ ty : Nat → FieldType, ∀ k, k < N → parseFieldDescriptor (T k).2.2.1 = some (ty k)) ∧ (∀ a, a < N → ∀ b, b < N → a ≠ b → (T a).2.1 ≠ (T b).2.1)
/-- a link of a field: own, through a nest mate, through a subclass's name -/
def FL (own : String) (idx : Nat) (T : u_T) (k : Nat) : Prop := Cond.fieldLink own idx (T k).1 (T k).2.1 (T k).2.2.1 ∈ lw_all ∨ (∃ host, Cond.fieldLinkNest own idx (T k).1 (T k).2.1 (T k).2.2.1 host ∈ lw_tbl) ∨ (∃ ref, Cond.fieldLink own idx ref (T k).2.1 (T k).2.2.1 ∈ lw_all ∧ Cond.sameField ref (T k).1 (T k).2.1 (T k).2.2.1 ∈ lw_all)
def LG (own : String) (idx ci k : Nat) : Prop := ∃ C T N, CK ci C T N ∧ k < N ∧ FL own idx T k
/-- a link of a field that is written: not final, or final in its class's constructor -/
def FP (mi : MI) (idx ci k : Nat) (ty : FieldType) : Prop := ∃ C T N, CK ci C T N ∧ k < N ∧ parseFieldDescriptor (T k).2.2.1 = some ty ∧ (((T k).2.2.2 = false ∧ FL mi.own idx T k) ∨ ((T k).2.2.2 = true ∧ Cond.fieldLink mi.own idx (T k).1 (T k).2.1 (T k).2.2.1 ∈ lw_all ∧ mi.y.name = "<init>" ∧ (T k).1 = mi.own))
theorem KU.t {K : KT} {U : State} (hF : FK K) (h : KU K U) {own : String} {idx : Nat} {b n d ho : String} (hw : Cond.fieldLinkNest own idx b n d ho ∈ lw_tbl) (a : Array Value) : (Cond.fieldLinkNest own idx b n d ho).before a U = true :=
  va_Nw.use rfl (va_Nw.warmF h.1 (va_Nw.of rfl (hF.1 _ hw)))
theorem KU.c {K : KT} {U : State} (hF : FK K) (h : KU K U) {C E : String} (hw : Cond.castable C E ∈ lw_tbl) : va_Nw (.castable C E) U := va_Nw.warmC h.1 (va_Nw.of rfl (hF.1 _ hw))
section R1
variable {K : KT} {mi : MI} {h0 : PH} {a0 : List Value} {r : RS} {h' : PH} {pc : Nat} {L : List (Nat × Value)} {st : List Value} {h : PH}
theorem ob_some {ci : Nat} {x : Option Nat} {fs : List Value} (hb : ob ci x h = some fs) : ∃ a, x = some a ∧ lk h a = some (.inr (ci, fs)) := by
  cases x with
  | none => cases hb
  | some a =>
    simp only [ob] at hb
    split at hb
    · rename_i o ho
      split at hb
      · rename_i e
        cases hb
        subst e
        exact ⟨a, rfl, ho⟩
      · cases hb
    · cases hb
theorem R_getv {ci j idx : Nat} {x : Option Nat} {fs : List Value} {v : Value} (hL : LG mi.own idx ci j) (hb : ob ci x h = some fs) (hv : fs[j]? = some v) (hdg : decode mi.cc pc = .ok (.getfield idx, 3)) (k : R K mi h0 a0 r h' (pc + 3) L (v :: st) h) : R K mi h0 a0 r h' pc L (va_rf x :: st) h := by
  refine ⟨k.1, fun hF hh p e s m below meth c H locs ls C hH hS hl => ?_⟩
  have k2 := k.2 hF hh p e s m below meth c H locs ls C hH hS hl
  obtain ⟨a, rfl, ha⟩ := ob_some hb
  obtain ⟨Cn, T, N, ⟨hc, hin, -, -⟩, hj, hl3⟩ := hL
  obtain ⟨hx, hcc, -, -, -, hown, hU, -⟩ := C
  obtain ⟨cell, q, r1, r2, r3, r4, r5, r6⟩ := hH.rd hF hU hS ha
  cases r1.symm.trans hc
  have hts := hU.w hF a0.toArray
  obtain ⟨hSl, hfc, kC, hkC, hkind⟩ := (hU.K hF).1 ci _ hc
  obtain ⟨cf, kf, fi, f, hi, hsl⟩ := hSl j hj
  have hst := (u_facts hfc hkC (u_lays hts hin hj) hi).1
  have hval : cell.slots[f.slot]? = some v := by
    rw [hsl, r6 j hj]
    simp [vp_V, hv]
  rcases hl3 with q | ⟨host, q⟩ | ⟨ref, q, q2⟩
  · exact W.getf hx hcc hown (hts _ q) hi hst r2 r4 hval rfl rfl hdg k2
  · exact va_Wgetf hx hcc hown (hU.t hF q _) hi hst r2 r4 hval rfl rfl hdg k2
  · exact W.getf hx hcc hown (hts _ q) (u_same (hts _ q2) _ hi) hst r2 r4 hval rfl rfl hdg k2
theorem R_geti {ci j idx : Nat} {x : Option Nat} {z : Int32} (hL : LG mi.own idx ci j) (hb : gfi ci j x h = some z) (hdg : decode mi.cc pc = .ok (.getfield idx, 3)) (k : R K mi h0 a0 r h' (pc + 3) L (.int z :: st) h) : R K mi h0 a0 r h' pc L (va_rf x :: st) h := by
  obtain ⟨fs, h1, h2⟩ := Option.bind_eq_some_iff.mp hb
  obtain ⟨v, h3, h4⟩ := Option.bind_eq_some_iff.mp h2
  rw [vI_eq h4] at h3
  exact R_getv hL h1 h3 hdg k
theorem R_getr {ci j idx : Nat} {x : Option Nat} {z : Option Nat} (hL : LG mi.own idx ci j) (hb : gfr ci j x h = some z) (hdg : decode mi.cc pc = .ok (.getfield idx, 3)) (k : R K mi h0 a0 r h' (pc + 3) L (va_rf z :: st) h) : R K mi h0 a0 r h' pc L (va_rf x :: st) h := by
  obtain ⟨fs, h1, h2⟩ := Option.bind_eq_some_iff.mp hb
  obtain ⟨v, h3, h4⟩ := Option.bind_eq_some_iff.mp h2
  rw [vR_eq h4] at h3
  exact R_getv hL h1 h3 hdg k
theorem pf_some {ci j : Nat} {x : Option Nat} {v : Value} {h1 : PH} (hb : pf ci j x v h = some h1) : ∃ a fs, x = some a ∧ h.1 a = some (.inr (ci, fs)) ∧ j < fs.length ∧ h1 = hset h a (.inr (ci, fs.set j v)) := by
  cases x with
  | none => cases hb
  | some a =>
    simp only [pf] at hb
    split at hb
    · rename_i o ho
      split at hb
      · rename_i e
        cases hb
        obtain ⟨e1, e2⟩ := e
        exact ⟨a, o.2, rfl, by rw [ho, ← e1], e2, rfl⟩
      · cases hb
    · cases hb
theorem R_put {ci j idx : Nat} {x : Option Nat} {v : Value} {ty : FieldType} {h1 : PH} (hL : FP mi idx ci j ty) (hb : pf ci j x v h = some h1) (hn : narrow ty v = v) (hfit : fits ty v = true) (hdg : decode mi.cc pc = .ok (.putfield idx, 3)) (k : R K mi h0 a0 r h' (pc + 3) L st h1) : R K mi h0 a0 r h' pc L (v :: va_rf x :: st) h := by
  obtain ⟨a, fs, rfl, ha, hlen, rfl⟩ := pf_some hb
  refine ⟨k.1, fun hF hh p e s m below meth c H locs ls C hH hS hl => ?_⟩
  have k2 := fun (H' : Heap) (locs' : List Loc) (q : HR K (hset h a (.inr (ci, fs.set j v))) H') q2 => k.2 hF hh p e s m below meth c H' locs' ls C q q2 hl
  obtain ⟨Cn, T, N, ⟨hc, hin, ⟨ty0, hty⟩, hnm⟩, hj, hd, hl3⟩ := hL
  obtain ⟨hx, hcc, -, -, -, hown, hU, hnmm, -⟩ := C
  have hts := hU.w hF a0.toArray
  have hK := hU.K hF
  have hap := va_apart (own := mi.own) hts hin ty0 hty hnm hK hc
  obtain ⟨hA, hat, hok⟩ := hH.2.2.2 a _ ha
  obtain ⟨r1, g1, cell, q1, q2, q3, q4⟩ := hat
  have hr : r1 = (Cn, T, N) := Option.some.inj (g1.symm.trans hc)
  subst hr
  obtain ⟨hSl, hfc, kC, hkC, hkind⟩ := hK.1 ci _ hc
  obtain ⟨cf, kf, fi, f, hi, hsl⟩ := hSl j hj
  have hlay := hts _ (hin _ (u_in_lay hj))
  have hst := (u_facts hfc hkC (u_lays hts hin hj) hi).1
  have fin : ∀ H' : Heap, H'[a]? = some (cell.setSlot f.slot v) → H'.size = H.size → (∀ q : Nat, q ≠ a → H'[q]? = H[q]?) → HR K (hset h a (.inr (ci, fs.set j v))) H' := by
    intro H' e1 e2 e3
    rw [hsl] at e1
    exact hH.set ha ⟨_, hc, t_OB.to (V := updV (vp_V fs) j v) ⟨_, e1, q2, q3, t_set q4 hap hj v⟩ (fun i _ => vp_updV_set hlen v i)⟩ (fun _ _ q => by cases q) e2 e3
  have hlt : f.slot < cell.slots.size := by rw [hsl]; exact k2_hasslot (q4 j hj)
  rcases hl3 with ⟨hfin, hl3⟩ | ⟨hfin, hl3, hini, hdecl⟩
  · unfold u_lay at hlay
    rw [if_neg (by rw [hfin]; decide)] at hlay
    have h6 := u_store hfc hkC hkind hlay hi hd hn hfit
    rcases hl3 with q | ⟨host, q⟩ | ⟨ref, q, q5⟩
    · exact W.putK hx hcc (f := f) ⟨hown, hts _ q, ⟨_, _, _, hi⟩, hst⟩ (by rw [q2]; exact h6) q1 q3 hlt rfl rfl hdg fun H' e1 e2 e3 => k2 H' _ (fin H' e1 e2 e3) (hS.put e2 e3 hA)
    · exact va_WputK hx hcc (f := f) hown (hU.t hF q _) hi hst (by rw [q2]; exact h6) q1 q3 hlt rfl rfl hdg fun H' e1 e2 e3 => k2 H' _ (fin H' e1 e2 e3) (hS.put e2 e3 hA)
    · exact W.putK hx hcc (f := f) ⟨hown, hts _ q, ⟨_, _, _, u_same (hts _ q5) _ hi⟩, hst⟩ (by rw [q2]; exact h6) q1 q3 hlt rfl rfl hdg fun H' e1 e2 e3 => k2 H' _ (fin H' e1 e2 e3) (hS.put e2 e3 hA)
  · unfold u_lay at hlay
    rw [if_pos hfin] at hlay
    have hcf : m.cls = cf := by
      obtain ⟨_, _, c', _, _, _, -, -, hf', -, -, -, hown2, -⟩ := Cond.laysFinal_spec hlay
      have e1 : c' = cf := by have := hi.symm.trans hf'; simp at this; exact this.1.symm
      rw [hdecl] at hown2
      rw [← e1]; exact Option.some.inj (hown.symm.trans hown2)
    have h6 := u_fits hfc hkC hkind (Or.inr hlay) hi hd hn hfit
    exact W.putFinK hx hcc hown (hts _ hl3) hi hst hcf (hnmm.trans hini) (by rw [q2]; exact h6) q1 q3 hlt rfl rfl hdg fun H' e1 e2 e3 => k2 H' _ (fin H' e1 e2 e3) (hS.put e2 e3 hA)
end R1
