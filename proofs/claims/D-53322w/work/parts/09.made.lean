/-! THE PURE WORLD: things made, statics, texts, casts, copies -/
set_option maxRecDepth 100000
section R3
variable {K : KT} {mi : MI} {h0 : PH} {a0 : List Value} {r : RS} {h' : PH} {pc : Nat} {L : List (Nat × Value)} {st : List Value} {h : PH}
theorem hnew_le {h : PH} {c : PC} {n : Nat} : hle h (hnew h c n) := ⟨Nat.le_succ _, Nat.le_add_right _ _⟩
theorem cnt_new {h0 h : PH} {c : PC} {n : Nat} (hh : hle h0 h) : hn h - hn h0 + 1 = hn (hnew h c n) - hn h0 ∧ hs h - hs h0 + n = hs (hnew h c n) - hs h0 := by
  obtain ⟨h1, h2⟩ := hh
  have e1 : hn (hnew h c n) = hn h + 1 := rfl
  have e2 : hs (hnew h c n) = hs h + n := rfl
  omega
theorem R_new {ci N idx : Nat} {Cn : String} {T : u_T} {fs : List Value} (ty : Nat → FieldType) (hC : CK ci Cn T N) (hty : ∀ k, k < N → parseFieldDescriptor (T k).2.2.1 = some (ty k)) (hcl : Cond.classLink mi.own idx Cn ∈ lw_all) (hinst : Cond.instantiable Cn N ∈ lw_all) (hini : Cond.initialized Cn ∈ lw_all)
    (hfs : ∀ j, j < N → defaultValue (ty j) = vp_V fs j) (hdg : decode mi.cc pc = .ok (.new idx, 3)) (k : R K mi h0 a0 r h' (pc + 3) L (va_rf (some (hn h)) :: st) (nwo ci N fs h)) : R K mi h0 a0 r h' pc L st h := by
  refine ⟨hnew_le.tr k.1, fun hF hh p e s m below meth c H locs ls C hH hS hl => ?_⟩
  obtain ⟨hx, hcc, q3, q4, q5, q6, hU, q8⟩ := C
  obtain ⟨hc, hin, -, hnm⟩ := hC
  have hts := hU.w hF a0.toArray
  have hKn := (hU.K hF).1 ci _ hc
  have g1 := k.1.1
  have g2 := k.1.2
  obtain ⟨c1, c2⟩ := cnt_new (c := .inr (ci, fs)) (n := N) hh
  have e1 : hn (nwo ci N fs h) = hn h + 1 := rfl
  have e2 : hs (nwo ci N fs h) = hs h + N := rfl
  refine W.newcK hx hcc q6 (hts _ hcl) (hts _ hinst) (hts _ hini) rfl hdg (by show _ ≤ hn h' - hn h0; have := hh.1; omega) (by show _ ≤ hs h' - hs h0; have := hh.2; omega) hKn.2.1 rfl fun H1 kC hkC e1 z1 o1 => ?_
  have hH1 : HR K (nwo ci N fs h) H1 := hH.new (c := .inr (ci, fs)) (n := N) ⟨_, hc, (u_born ty hts hin hKn hkC e1 hty).to hfs⟩ (fun _ _ q => by cases q) z1 o1
  have := k.2 hF (hh.tr hnew_le) p e s m below meth c H1 locs ls ⟨hx, hcc, q3, q4, q5, q6, hU, q8⟩ hH1 (vaS_new hS z1 o1) hl
  rw [c1, c2, hH.1]
  exact this
theorem nn_of {n : Int32} (h : 0 ≤ n.toInt) : ¬ n < 0 := by
  rw [Int32.lt_iff_toInt_lt, Int32.toInt_zero]
  omega
theorem cl_of {n : Int32} (h : 0 ≤ n.toInt) : (n.toNatClampNeg : Int) = n.toInt := by
  show ((n.toInt.toNat : Nat) : Int) = n.toInt
  omega
theorem R_newarray {t idx : Nat} {at0 : ArrayType} {ty : FieldType} {n : Int32} {q : Option Nat × PH} (hb : nwi t n h = some q) (ht : ptyl[t]? = some ty) (hty : newarray.typeOf at0 = ty) (hp : ∀ o, ty ≠ .object o) (hdv : defaultValue ty = .int 0) (hbt : componentBytes ty ≤ 4) (harr : Cond.arrayClass ty ∈ lw_all) (hdg : decode mi.cc pc = .ok (.newarray at0, 2)) (k : R K mi h0 a0 r h' (pc + 2) L (va_rf q.1 :: st) q.2) : R K mi h0 a0 r h' pc L (.int n :: st) h := by
  unfold nwi at hb
  split at hb
  · rename_i hn0
    cases hb
    refine ⟨hnew_le.tr k.1, fun hF hh p e s m below meth c H locs ls C hH hS hl => ?_⟩
    obtain ⟨hx, hcc, q3, q4, q5, q6, hU, q8⟩ := C
    have hts := hU.w hF a0.toArray
    subst hty
    have g1 : hn (hnew h (.inl (t, n.toNatClampNeg, .inl fun _ => 0)) n.toNatClampNeg) ≤ hn h' := k.1.1
    have g2 : hs (hnew h (.inl (t, n.toNatClampNeg, .inl fun _ => 0)) n.toNatClampNeg) ≤ hs h' := k.1.2
    obtain ⟨c1, c2⟩ := cnt_new (c := .inl (t, n.toNatClampNeg, .inl fun _ => 0)) (n := n.toNatClampNeg) hh
    have e1 : hn (hnew h (.inl (t, n.toNatClampNeg, .inl fun _ => 0)) n.toNatClampNeg) = hn h + 1 := rfl
    have e2 : hs (hnew h (.inl (t, n.toNatClampNeg, .inl fun _ => 0)) n.toNatClampNeg) = hs h + n.toNatClampNeg := rfl
    have hcl := cl_of hn0.1
    have hbytes : n.toNatClampNeg * componentBytes (newarray.typeOf at0) ≤ 536870912 := Nat.le_trans (Nat.mul_le_mul (show n.toNatClampNeg ≤ 100000 by omega) hbt) (Nat.le_of_ble_eq_true rfl)
    refine va_newaK hx hcc (hts _ harr) rfl hdg rfl (nn_of hn0.1) rfl hbytes (by show _ ≤ hn h' - hn h0; have := hh.1; omega) (by show _ ≤ hs h' - hs h0; have := hh.2; omega) rfl fun H1 cA f1 z1 o1 hAr hNm => ?_
    have hcA : cA = KT.dA K t := by
      have h9 := ((hU.K hF).2 t _ (ptys_at ht)).2
      unfold va_RA at h9
      split at h9
      · rename_i C0 hC0
        exact absurd hC0 (hp C0)
      · exact Option.some.inj (hNm.symm.trans h9)
    subst hcA
    have hH1 : HR K (hnew h (.inl (t, n.toNatClampNeg, .inl fun _ => 0)) n.toNatClampNeg) H1 := hH.new (c := .inl (t, n.toNatClampNeg, .inl fun _ => 0)) (n := n.toNatClampNeg) (by
      show H1[H.size]? = some (vp_cell _ _)
      rw [f1, vp_cell_i, hdv]) (okc_i (List.getElem?_eq_some_iff.mp ht).1) z1 o1
    have := k.2 hF (hh.tr hnew_le) p e s m below meth c H1 locs ls ⟨hx, hcc, q3, q4, q5, q6, hU, q8⟩ hH1 (vaS_new hS z1 o1) hl
    rw [c1, c2, hH.1]
    exact this
  · cases hb
theorem nwr_go {t : Nat} {n : Int32} {H H1 : Heap} (ht : t < 7) (hH : HR K h H) (hH1 : H1 = H.push ({ cls := KT.dA K t, slots := Array.replicate n.toNatClampNeg .null, vm := .none } : Cell)) :
    HR K (hnew h (.inl (t, n.toNatClampNeg, .inr (.inr (.inr (.inr fun _ => none))))) n.toNatClampNeg) H1 ∧ H1.size = H.size + 1 ∧ ∀ q : Nat, q < H.size → H1[q]? = H[q]? := by
  have z1 : H1.size = H.size + 1 := by rw [hH1, Array.size_push]
  have e1 : H1[H.size]? = some (arrV (KT.dA K t) n.toNatClampNeg (fun _ => .null)) := by rw [hH1, Array.getElem?_push_size, ← arrV_new]
  have o1 : ∀ q : Nat, q < H.size → H1[q]? = H[q]? := fun q hq => by rw [hH1, Array.getElem?_push, if_neg (Nat.ne_of_lt hq)]
  refine ⟨hH.new (c := .inl (t, n.toNatClampNeg, .inr (.inr (.inr (.inr fun _ => none))))) (n := n.toNatClampNeg) ?_ (okc_i ht) z1 o1, z1, o1⟩
  show H1[H.size]? = some (vp_cell _ _)
  rw [e1, vp_cell_q]
  rfl
theorem R_anewarray {t idx : Nat} {Cn : String} {n : Int32} {q : Option Nat × PH} (hb : nwr t n h = some q) (ht : ptyl[t]? = some (.object Cn)) (hcl : Cond.classLink mi.own idx Cn ∈ lw_all) (hov : Cond.arrayOver (.object Cn) ∈ lw_tbl) (hdg : decode mi.cc pc = .ok (.anewarray idx, 3)) (k : R K mi h0 a0 r h' (pc + 3) L (va_rf q.1 :: st) q.2) : R K mi h0 a0 r h' pc L (.int n :: st) h := by
  unfold nwr at hb
  split at hb
  · rename_i hn0
    cases hb
    refine ⟨hnew_le.tr k.1, fun hF hh p e s m below meth c H locs ls C hH hS hl => ?_⟩
    obtain ⟨hx, hcc, q3, q4, q5, q6, hU, q8⟩ := C
    have hts := hU.w hF a0.toArray
    have g1 : hn (hnew h (.inl (t, n.toNatClampNeg, .inr (.inr (.inr (.inr fun _ => none))))) n.toNatClampNeg) ≤ hn h' := k.1.1
    have g2 : hs (hnew h (.inl (t, n.toNatClampNeg, .inr (.inr (.inr (.inr fun _ => none))))) n.toNatClampNeg) ≤ hs h' := k.1.2
    obtain ⟨c1, c2⟩ := cnt_new (c := .inl (t, n.toNatClampNeg, .inr (.inr (.inr (.inr fun _ => none))))) (n := n.toNatClampNeg) hh
    have e1 : hn (hnew h (.inl (t, n.toNatClampNeg, .inr (.inr (.inr (.inr fun _ => none))))) n.toNatClampNeg) = hn h + 1 := rfl
    have e2 : hs (hnew h (.inl (t, n.toNatClampNeg, .inr (.inr (.inr (.inr fun _ => none))))) n.toNatClampNeg) = hs h + n.toNatClampNeg := rfl
    have hcl0 := cl_of hn0.1
    refine W.anew hx hcc q6 (hts _ hcl) (va_AO.use (va_AO.moved hU.al (va_AO.of (hF.1 _ hov)))) rfl hdg rfl (nn_of hn0.1) (by omega) (by show _ ≤ hn h' - hn h0; have := hh.1; omega) (by show _ ≤ hs h' - hs h0; have := hh.2; omega) fun cA kA comp f1 f2 f3 f4 => ?_
    obtain ⟨kB, cB, b1, b2, b3, b4⟩ := ((hU.K hF).2 t _ (ptys_at ht)).2
    cases f1.symm.trans b4
    obtain ⟨hH1, z1, o1⟩ := nwr_go (t := t) (n := n) (List.getElem?_eq_some_iff.mp ht).1 hH rfl
    have := k.2 hF (hh.tr hnew_le) p e s m below meth c _ locs ls ⟨hx, hcc, q3, q4, q5, q6, hU, q8⟩ hH1 (vaS_new hS z1 o1) hl
    rw [c1, c2, hH.1]
    exact this
  · cases hb
theorem ao_moved {A : Array Value} {u U : State} (hvm : u.vm.Alike U.vm) (h : (Cond.arrayOver (.array .int)).before #[] u = true) : (Cond.arrayOver (.array .int)).before A U = true := by
  obtain ⟨comp, c, k, h1, h2, h3, h4, h5⟩ := arrayOverA_spec h
  obtain ⟨k', hk', he⟩ := hvm.2.2 _ _ h3
  have hi : (U.vm.classes.findIdx? fun (x : Class) => match x.kind with | .array component _ => component == comp | _ => false) = some c := by
    have a := va_idx_bare U.vm comp
    have b := va_idx_bare u.vm comp
    have e : U.vm.bare = u.vm.bare := by first | exact hvm.bare_eq | exact hvm.bare_eq.symm
    rw [e] at a
    exact a.symm.trans (b.trans h2)
  have hkind : k'.kind = .array comp (.array .int) := by rw [he]; exact h4
  have f1 : U.vm.findClass (FieldType.array .int).toString = some comp := by rw [hvm.findClass]; exact h1
  have f2 : U.vm.findClass ("[" ++ (FieldType.array .int).toString) = some c := by rw [hvm.findClass]; exact h5
  unfold Cond.before Cond.holds
  simp only [Cond.value]
  rw [f1, Option.bind_some]
  refine (congrArg (fun o : Option Nat => (o.bind (fun c => (U.vm.classes[c]?).map fun (k : Class) => match k.kind with | .array _ ty => decide (ty = FieldType.array .int) && decide (U.vm.findClass ("[" ++ (FieldType.array .int).toString) = some c) | _ => false) == some true)) hi).trans ?_
  simp [hk', hkind, f2]
theorem R_anewarrayI {idx : Nat} {n : Int32} {q : Option Nat × PH} (hb : nwr 3 n h = some q) (hcl : Cond.classLink mi.own idx (FieldType.array .int).toString ∈ lw_all) (hov : Cond.arrayOver (.array .int) ∈ lw_tbl) (hdg : decode mi.cc pc = .ok (.anewarray idx, 3)) (k : R K mi h0 a0 r h' (pc + 3) L (va_rf q.1 :: st) q.2) : R K mi h0 a0 r h' pc L (.int n :: st) h := by
  unfold nwr at hb
  split at hb
  · rename_i hn0
    cases hb
    refine ⟨hnew_le.tr k.1, fun hF hh p e s m below meth c H locs ls C hH hS hl => ?_⟩
    obtain ⟨hx, hcc, q3, q4, q5, q6, hU, q8⟩ := C
    have hts := hU.w hF a0.toArray
    have g1 : hn (hnew h (.inl (3, n.toNatClampNeg, .inr (.inr (.inr (.inr fun _ => none))))) n.toNatClampNeg) ≤ hn h' := k.1.1
    have g2 : hs (hnew h (.inl (3, n.toNatClampNeg, .inr (.inr (.inr (.inr fun _ => none))))) n.toNatClampNeg) ≤ hs h' := k.1.2
    obtain ⟨c1, c2⟩ := cnt_new (c := .inl (3, n.toNatClampNeg, .inr (.inr (.inr (.inr fun _ => none))))) (n := n.toNatClampNeg) hh
    have e1 : hn (hnew h (.inl (3, n.toNatClampNeg, .inr (.inr (.inr (.inr fun _ => none))))) n.toNatClampNeg) = hn h + 1 := rfl
    have e2 : hs (hnew h (.inl (3, n.toNatClampNeg, .inr (.inr (.inr (.inr fun _ => none))))) n.toNatClampNeg) = hs h + n.toNatClampNeg := rfl
    have hcl0 := cl_of hn0.1
    have hover : (Cond.arrayOver (.array .int)).before a0.toArray s = true := ao_moved hU.al (hF.1 _ hov)
    refine W.anewA hx hcc q6 (hts _ hcl) hover rfl hdg rfl (nn_of hn0.1) (by omega) (by show _ ≤ hn h' - hn h0; have := hh.1; omega) (by show _ ≤ hs h' - hs h0; have := hh.2; omega) fun cA kA comp f1 f2 f3 f4 => ?_
    have b4 := ((hU.K hF).2 3 _ (ptys_at rfl)).2
    cases f1.symm.trans b4
    obtain ⟨hH1, z1, o1⟩ := nwr_go (t := 3) (n := n) (by decide) hH rfl
    have := k.2 hF (hh.tr hnew_le) p e s m below meth c _ locs ls ⟨hx, hcc, q3, q4, q5, q6, hU, q8⟩ hH1 (vaS_new hS z1 o1) hl
    rw [c1, c2, hH.1]
    exact this
  · cases hb
/-- the old cells as they were at the start -/
theorem KU.Z {s : State} (hU : KU K s) {C n d : String} {v : Value} (h : va_Z C n d v (fun q => KT.bs K ≤ q) (KT.s0 K) (KT.s0 K).heap) : va_Z C n d v (pA K) s s.heap :=
  (h.moved hU.al).kept (fun a ha _ => hU.2.2 a ha)
theorem R_getsI {j idx : Nat} {C1 n1 d1 : String} {v1 : Int32} (hq : pstI[j]? = some (C1, n1, d1, v1)) (hl2 : Cond.fieldLink mi.own idx C1 n1 d1 ∈ lw_all) (hdg : decode mi.cc pc = .ok (.getstatic idx, 3)) (k : R K mi h0 a0 r h' (pc + 3) L (.int v1 :: st) h) : R K mi h0 a0 r h' pc L st h := by
  refine ⟨k.1, fun hF hh p e s m below meth c H locs ls C hH hS hl => ?_⟩
  have k2 := k.2 hF hh p e s m below meth c H locs ls C hH hS hl
  obtain ⟨hx, hcc, -, -, -, hown, hU, -⟩ := C
  exact va_gets hx hcc (hU.Z (hF.2.2.2.2.1 j _ hq)) hS hown (hU.w hF _ _ hl2) (fun _ z => z) hdg k2
/-- a static or a constant that is a reference -/
def hk (h : PH) (j : Nat) : Option Nat := (hg h).2 j
theorem R_getsR {j idx : Nat} {q : String × String × String} (hq : pstR[j]? = some q) (hl2 : Cond.fieldLink mi.own idx q.1 q.2.1 q.2.2 ∈ lw_all) (hdg : decode mi.cc pc = .ok (.getstatic idx, 3)) (k : R K mi h0 a0 r h' (pc + 3) L (va_rf (hk h j) :: st) h) : R K mi h0 a0 r h' pc L st h := by
  refine ⟨k.1, fun hF hh p e s m below meth c H locs ls C hH hS hl => ?_⟩
  have k2 := k.2 hF hh p e s m below meth c H locs ls C hH hS hl
  obtain ⟨hx, hcc, -, -, -, hown, hU, -⟩ := C
  have hz := hU.Z (hF.2.2.2.2.2.1 j q hq)
  rw [← hH.2.2.1] at hz
  exact va_gets hx hcc hz hS hown (hU.w hF _ _ hl2) (fun _ z => z) hdg k2
theorem R_ldcI {idx : Nat} {v : Int32} (hw : Cond.constant mi.own idx v ∈ lw_all) (hdg : decode mi.cc pc = .ok (.ldc idx, 2)) (k : R K mi h0 a0 r h' (pc + 2) L (.int v :: st) h) : R K mi h0 a0 r h' pc L st h := by
  refine ⟨k.1, fun hF hh p e s m below meth c H locs ls C hH hS hl => ?_⟩
  have k2 := k.2 hF hh p e s m below meth c H locs ls C hH hS hl
  obtain ⟨hx, hcc, -, -, -, hown, hU, -⟩ := C
  exact lv_ldc hx hcc hown (hU.w hF _ _ hw) hdg k2
theorem R_ldcwI {idx : Nat} {v : Int32} (hw : Cond.constant mi.own idx v ∈ lw_all) (hdg : decode mi.cc pc = .ok (.ldc_w idx, 3)) (k : R K mi h0 a0 r h' (pc + 3) L (.int v :: st) h) : R K mi h0 a0 r h' pc L st h := by
  refine ⟨k.1, fun hF hh p e s m below meth c H locs ls C hH hS hl => ?_⟩
  have k2 := k.2 hF hh p e s m below meth c H locs ls C hH hS hl
  obtain ⟨hx, hcc, -, -, -, hown, hU, -⟩ := C
  exact lv_ldcw hx hcc hown (hU.w hF _ _ hw) hdg k2
theorem R_ldcS {j idx : Nat} {tx : String} (hq : pstS[j]? = some (mi.own, idx, tx)) (hdg : decode mi.cc pc = .ok (.ldc idx, 2)) (k : R K mi h0 a0 r h' (pc + 2) L (va_rf (hk h (100 + j)) :: st) h) : R K mi h0 a0 r h' pc L st h := by
  refine ⟨k.1, fun hF hh p e s m below meth c H locs ls C hH hS hl => ?_⟩
  have k2 := k.2 hF hh p e s m below meth c H locs ls C hH hS hl
  obtain ⟨hx, hcc, -, -, -, hown, hU, -⟩ := C
  obtain ⟨a, e1, e2⟩ := hF.2.2.2.2.2.2.1 j _ hq
  have e3 : hk h (100 + j) = some a := by rw [← e1, ← hH.2.2.1]; rfl
  rw [e3] at k2
  exact va_ldcS hx hcc hown (vk_R.warm hU.1 e2) hdg k2
theorem R_ldcC {idx : Nat} (hw : Cond.classLink mi.own idx "[Ljava/lang/Object;" ∈ lw_all) (hdg : decode mi.cc pc = .ok (.ldc idx, 2)) (k : R K mi h0 a0 r h' (pc + 2) L (va_rf (hk h 200) :: st) h) : R K mi h0 a0 r h' pc L st h := by
  refine ⟨k.1, fun hF hh p e s m below meth c H locs ls C hH hS hl => ?_⟩
  have k2 := k.2 hF hh p e s m below meth c H locs ls C hH hS hl
  obtain ⟨hx, hcc, -, -, -, hown, hU, -⟩ := C
  obtain ⟨a, e1, e2⟩ := hF.2.2.2.2.2.2.2.1
  have e3 : hk h 200 = some a := by rw [← e1, ← hH.2.2.1]; rfl
  rw [e3] at k2
  exact va_ldcM hx hcc hown (hU.w hF _ _ hw) (e2.moved hU.al) hdg k2
/-- null, or an object of the class ci -/
def chk (ci : Nat) (x : Option Nat) (h : PH) : Option Unit := if x = none ∨ clo x h = some ci then some () else none
theorem clo_some {ci : Nat} {x : Option Nat} (hb : clo x h = some ci) : ∃ a fs, x = some a ∧ lk h a = some (.inr (ci, fs)) := by
  cases x with
  | none => cases hb
  | some a =>
    simp only [clo] at hb
    split at hb
    · rename_i o ho
      cases hb
      exact ⟨a, o.2, rfl, ho⟩
    · cases hb
theorem rd_recv {ci a : Nat} {fs : List Value} {q : vw_C} {H : Heap} {s : State} {locs : List Loc} (hF : FK K) (hH : HR K h H) (hU : KU K s) (hS : va_S (pA K) s.heap H locs) (ha : lk h a = some (.inr (ci, fs))) (hc : pcl[ci]? = some q) : ∃ cell : Cell, H[a]? = some cell ∧ cell.vm.isStatics = false ∧ s.vm.findClass q.1 = some cell.cls := by
  obtain ⟨cell, q', r1, r2, r3, r4, r5, r6⟩ := hH.rd hF hU hS ha
  cases r1.symm.trans hc
  exact ⟨cell, r2, r3, by rw [hU.al.findClass]; exact r5⟩
theorem R_cast {ci idx : Nat} {x : Option Nat} {u : Unit} {nm : String} {q : vw_C} (hb : chk ci x h = some u) (hc : pcl[ci]? = some q) (hcl : Cond.classLink mi.own idx nm ∈ lw_all) (hca : Cond.castable q.1 nm ∈ lw_tbl ∨ q.1 = nm) (hdg : decode mi.cc pc = .ok (.checkcast idx, 3)) (k : R K mi h0 a0 r h' (pc + 3) L (va_rf x :: st) h) : R K mi h0 a0 r h' pc L (va_rf x :: st) h := by
  refine ⟨k.1, fun hF hh p e s m below meth c H locs ls C hH hS hl => ?_⟩
  have k2 := k.2 hF hh p e s m below meth c H locs ls C hH hS hl
  obtain ⟨hx, hcc, -, -, -, hown, hU, -⟩ := C
  unfold chk at hb
  split at hb
  · rename_i h1
    rcases h1 with rfl | h1
    · exact lv_castN hx hcc hdg k2
    · obtain ⟨a, fs, rfl, ha⟩ := clo_some h1
      have hr := rd_recv hF hH hU hS ha hc
      rcases hca with hca | hca
      · exact va_castY hx hcc hown (hU.w hF _ _ hcl) (hU.c hF hca) hr hdg k2
      · subst hca
        exact va_castS hx hcc hown (hU.w hF _ _ hcl) ((hU.K hF).1 ci _ hc).2 hr hdg k2
  · cases hb
end R3
