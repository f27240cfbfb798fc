/-! THE PURE WORLD: rows as the walks use them -/
set_option maxRecDepth 100000
def nwO (ci n : Nat) (fs : List Value) (h : PH) : Option (Option Nat × PH) := some (some (hn h), nwo ci n fs h)
/-- not null -/
def nn (x : Option Nat) : Option Unit := match x with
  | none => none
  | some _ => some ()
theorem nn_some {x : Option Nat} {u : Unit} (h : nn x = some u) : ∃ b, x = some b := by
  cases x with
  | none => cases h
  | some b => exact ⟨b, rfl⟩
/-- not zero -/
def nz (y : Int32) : Option Unit := if y = 0 then none else some ()
theorem nz_some {y : Int32} {u : Unit} (h : nz y = some u) : ¬ y = 0 := by
  unfold nz at h
  split at h
  · cases h
  · assumption
theorem ck_none {ci : Nat} {C : String} {T : u_T} (h : pcl[ci]? = some (C, T, 0)) : CK ci C T 0 := ⟨h, fun w hw => by simp [u_ws] at hw, ⟨fun _ => .int, fun k hk => absurd hk (Nat.not_lt_zero k)⟩, fun a ha => absurd ha (Nat.not_lt_zero a)⟩
def gnb (x : Int32) : Option Unit := gb x
def gnc (x : Int32) : Option Unit := if 0 ≤ x.toInt ∧ x.toInt < 65536 then some () else none
theorem gnc_some {x : Int32} {u : Unit} (h : gnc x = some u) : narrow .char (.int x) = .int x := by
  unfold gnc at h
  split at h
  · rename_i e
    obtain ⟨j, hj, rfl⟩ := nI_of (x := x) (by rw [Int32.lt_iff_toInt_lt, Int32.toInt_zero]; omega)
    rw [nI_toInt hj] at e
    exact (pk_charN (by omega)).1
  · cases h
theorem nn_ne {x : Option Nat} {u : Unit} (h : nn x = some u) : x ≠ none := by
  obtain ⟨b, rfl⟩ := nn_some h
  exact fun q => by cases q
theorem i32_ne {x v : Int32} (h : ¬ x = v) : x.toInt ≠ v.toInt := fun q => h (Int32.toInt_inj.mp q)
section R5
variable {K : KT} {mi : MI} {h0 : PH} {a0 : List Value} {r : RS} {h' : PH} {pc : Nat} {L : List (Nat × Value)} {st : List Value} {h : PH}
theorem R_newO {ci N idx : Nat} {Cn : String} {T : u_T} {fs : List Value} {q : Option Nat × PH} (hb : nwO ci N fs h = some q) (ty : Nat → FieldType) (hC : CK ci Cn T N) (hty : ∀ k, k < N → parseFieldDescriptor (T k).2.2.1 = some (ty k)) (hcl : Cond.classLink mi.own idx Cn ∈ lw_all) (hinst : Cond.instantiable Cn N ∈ lw_all) (hini : Cond.initialized Cn ∈ lw_all)
    (hfs : ∀ j, j < N → defaultValue (ty j) = vp_V fs j) (hdg : decode mi.cc pc = .ok (.new idx, 3)) (k : R K mi h0 a0 r h' (pc + 3) L (va_rf q.1 :: st) q.2) : R K mi h0 a0 r h' pc L st h := by
  cases hb
  exact R_new ty hC hty hcl hinst hini hfs hdg k
theorem R_callIx {mj : MI} {idx : Nat} {x : Option Nat} {u : Unit} {As rest : List Value} {h1 : PH} (hb : nn x = some u) (hT : T K mj (va_rf x :: As) h (.inl none) h1) (hG : GoodIn lw_all (ws_ mj.y mj.cc mj.nL mj.ret)) (hr : mj.ret = none) (hini : Cond.initialized mj.y.cls ∈ lw_all) (hl0 : Cond.methodLink mi.own idx mj.y ∈ lw_all) (hin : Cond.instanceMethod mj.y ∈ lw_all) (hy1 : mj.y.name = "<init>") (hy : okY mj.y As.length) (hd : mj.d + 1 ≤ mi.d) (hm : mj.nL ≤ 80)
    (hst : st = As.reverse ++ va_rf x :: rest) (h1r : C1 rest) (h8 : rest.length ≤ 8) (hdg : decode mi.cc pc = .ok (.invokespecial idx, 3)) (k : R K mi h0 a0 r h' (pc + 3) L rest h1) : R K mi h0 a0 r h' pc L st h := by
  obtain ⟨b, rfl⟩ := nn_some hb
  exact R_callI hT hG hr hini hl0 hin hy1 hy hd hm hst h1r h8 hdg k
theorem R_callINx {mj : MI} {idx : Nat} {ho : String} {x : Option Nat} {u : Unit} {As rest : List Value} {h1 : PH} (hb : nn x = some u) (hT : T K mj (va_rf x :: As) h (.inl none) h1) (hG : GoodIn lw_all (ws_ mj.y mj.cc mj.nL mj.ret)) (hr : mj.ret = none) (hl0 : Cond.methodLinkNest mi.own idx mj.y ho ∈ lw_tbl) (hini : Cond.initialized mj.y.cls ∈ lw_all) (hin : Cond.instanceMethod mj.y ∈ lw_all) (hy1 : mj.y.name = "<init>") (hy : okY mj.y As.length) (hd : mj.d + 1 ≤ mi.d) (hm : mj.nL ≤ 80)
    (hst : st = As.reverse ++ va_rf x :: rest) (h1r : C1 rest) (h8 : rest.length ≤ 8) (hdg : decode mi.cc pc = .ok (.invokespecial idx, 3)) (k : R K mi h0 a0 r h' (pc + 3) L rest h1) : R K mi h0 a0 r h' pc L st h := by
  obtain ⟨b, rfl⟩ := nn_some hb
  exact R_callIN hT hG hr hl0 hini hin hy1 hy hd hm hst h1r h8 hdg k
theorem R_objInitx {idx : Nat} {x : Option Nat} {u : Unit} (hb : nn x = some u) (hl0 : Cond.methodLink mi.own idx Lib.objectInit ∈ lw_all) (hin : Cond.instanceMethod Lib.objectInit ∈ lw_all) (hcd : Cond.code Lib.objectInit ⟨#[0xb1]⟩ 1 none ∈ lw_all) (hd : 1 ≤ mi.d) (h1r : C1 st) (h8 : st.length ≤ 8) (hdg : decode mi.cc pc = .ok (.invokespecial idx, 3)) (k : R K mi h0 a0 r h' (pc + 3) L st h) : R K mi h0 a0 r h' pc L (va_rf x :: st) h := by
  obtain ⟨b, rfl⟩ := nn_some hb
  exact R_objInit hl0 hin hcd hd h1r h8 hdg k
theorem rcv_of {ci : Nat} {x : Option Nat} (hx : clo x h = some ci) : rcv ci x h = some () := if_pos hx
theorem R_tswDef {dflt lo hi : Int} {offs : Array Int} {len : Nat} {x : Int32} {tgt : Nat} (hdg : decode mi.cc pc = .ok (.tableswitch dflt lo hi offs, len)) (hh : x.toInt < lo ∨ hi < x.toInt ∨ offs[(x.toInt - lo).toNat]? = some dflt) (ht : (pc : Int) + dflt = (tgt : Int)) (k : R K mi h0 a0 r h' tgt L st h) : R K mi h0 a0 r h' pc L (.int x :: st) h := by
  by_cases h1 : x.toInt < lo
  · exact R_tswOut hdg (Or.inl h1) ht k
  · by_cases h2 : hi < x.toInt
    · exact R_tswOut hdg (Or.inr h2) ht k
    · rcases hh with q | q | q
      · exact absurd q h1
      · exact absurd q h2
      · exact R_tswIn hdg h1 h2 q ht k
theorem R_bastoreZ {x : Option Nat} {i z : Int32} {u : Unit} {h1 : PH} (hz : gb z = some u) (hb : asi 1 x i z h = some h1) (hdg : decode mi.cc pc = .ok (.bastore, 1)) (k : R K mi h0 a0 r h' (pc + 1) L st h1) : R K mi h0 a0 r h' pc L (.int z :: .int i :: va_rf x :: st) h := by
  have e := nar_b (gb_some hz)
  exact R_zastore (by rw [e]; exact hb) hdg k
theorem R_bastoreB {x : Option Nat} {i z : Int32} {h1 : PH} (hb : asi 2 x i z.toInt8.toInt32 h = some h1) (hdg : decode mi.cc pc = .ok (.bastore, 1)) (k : R K mi h0 a0 r h' (pc + 1) L st h1) : R K mi h0 a0 r h' pc L (.int z :: .int i :: va_rf x :: st) h := by
  refine R_bastore ?_ hdg k
  rw [vp_nar_byte]
  exact hb
theorem R_putI {ci j idx : Nat} {x : Option Nat} {z : Int32} {h1 : PH} (hL : FP mi idx ci j .int) (hb : pf ci j x (.int z) h = some h1) (hdg : decode mi.cc pc = .ok (.putfield idx, 3)) (k : R K mi h0 a0 r h' (pc + 3) L st h1) : R K mi h0 a0 r h' pc L (.int z :: va_rf x :: st) h := R_put hL hb rfl rfl hdg k
theorem R_putZ {ci j idx : Nat} {x : Option Nat} {z : Int32} {u : Unit} {h1 : PH} (hz : gb z = some u) (hL : FP mi idx ci j .boolean) (hb : pf ci j x (.int z) h = some h1) (hdg : decode mi.cc pc = .ok (.putfield idx, 3)) (k : R K mi h0 a0 r h' (pc + 3) L st h1) : R K mi h0 a0 r h' pc L (.int z :: va_rf x :: st) h := R_put hL hb (nrw_b (gb_some hz)).1 (nrw_b (gb_some hz)).2 hdg k
theorem R_putY {ci j idx : Nat} {x : Option Nat} {z : Int32} {u : Unit} {h1 : PH} (hz : gb z = some u) (hL : FP mi idx ci j .byte) (hb : pf ci j x (.int z) h = some h1) (hdg : decode mi.cc pc = .ok (.putfield idx, 3)) (k : R K mi h0 a0 r h' (pc + 3) L st h1) : R K mi h0 a0 r h' pc L (.int z :: va_rf x :: st) h := R_put hL hb (nrw_y (gb_some hz)).1 (nrw_y (gb_some hz)).2 hdg k
theorem fits_rf {ty : FieldType} (h : (∃ n, ty = .object n) ∨ ∃ t, ty = .array t) (z : Option Nat) : narrow ty (va_rf z) = va_rf z ∧ fits ty (va_rf z) = true := by
  rcases h with ⟨n, rfl⟩ | ⟨t, rfl⟩ <;> cases z <;> exact ⟨rfl, rfl⟩
theorem R_putR {ci j idx : Nat} {x z : Option Nat} {ty : FieldType} {h1 : PH} (hty : (∃ n, ty = .object n) ∨ ∃ t, ty = .array t) (hL : FP mi idx ci j ty) (hb : pf ci j x (va_rf z) h = some h1) (hdg : decode mi.cc pc = .ok (.putfield idx, 3)) (k : R K mi h0 a0 r h' (pc + 3) L st h1) : R K mi h0 a0 r h' pc L (va_rf z :: va_rf x :: st) h := R_put hL hb (fits_rf hty z).1 (fits_rf hty z).2 hdg k
theorem R_iretZ {x : Int32} {u : Unit} (hz : gb x = some u) (hr : mi.ret = some .boolean) (hdg : decode mi.cc pc = .ok (.ireturn, 1)) : R K mi h0 a0 (.inl (some (.int x))) h pc L [.int x] h := R_ireturn hr (nrw_b (gb_some hz)).1 hdg
theorem R_iretZ0 (hr : mi.ret = some .boolean) (hdg : decode mi.cc pc = .ok (.ireturn, 1)) : R K mi h0 a0 (.inl (some (.int 0))) h pc L [.int 0] h := R_ireturn hr (nrw_b (Or.inl rfl)).1 hdg
theorem R_iretZ1 (hr : mi.ret = some .boolean) (hdg : decode mi.cc pc = .ok (.ireturn, 1)) : R K mi h0 a0 (.inl (some (.int 1))) h pc L [.int 1] h := R_ireturn hr (nrw_b (Or.inr rfl)).1 hdg
theorem R_iretNb {x : Int32} {u : Unit} (hz : gnb x = some u) (hr : mi.ret = some .byte) (hdg : decode mi.cc pc = .ok (.ireturn, 1)) : R K mi h0 a0 (.inl (some (.int x))) h pc L [.int x] h := R_ireturn hr (nrw_y (gb_some hz)).1 hdg
theorem R_iretNc {x : Int32} {u : Unit} (hz : gnc x = some u) (hr : mi.ret = some .char) (hdg : decode mi.cc pc = .ok (.ireturn, 1)) : R K mi h0 a0 (.inl (some (.int x))) h pc L [.int x] h := R_ireturn hr (gnc_some hz) hdg
theorem R_iretI {x : Int32} (hr : mi.ret = some .int) (hdg : decode mi.cc pc = .ok (.ireturn, 1)) : R K mi h0 a0 (.inl (some (.int x))) h pc L [.int x] h := R_ireturn hr rfl hdg
end R5
/-- what an inherited method's call asks -/
theorem lw_U {own : String} {idx : Nat} {C owner : String} {x y : MethodName} {b : ByteArray} {L : Nat} {r : Option FieldType} (h1 : Cond.methodLink own idx x ∈ lw_all) (h2 : Cond.sameMethod x.cls owner x.name x.desc ∈ lw_all) (h3 : Cond.selects C x y ∈ lw_all) (h4 : Cond.instanceMethod y ∈ lw_all) (h5 : Cond.initialized y.cls ∈ lw_all) (h6 : Cond.code y b L r ∈ lw_all) : GoodIn lw_all (va_wsU own idx C owner x y (ws_ y b L r)) := by
  refine lw_app ?_ (lw_meth h6)
  intro w hw
  simp only [List.mem_cons, List.not_mem_nil, or_false] at hw
  rcases hw with e | e | e | e | e
  · rw [e]; exact h1
  · rw [e]; exact h2
  · rw [e]; exact h3
  · rw [e]; exact h4
  · rw [e]; exact h5
/-- what a call through an interface asks -/
theorem lw_F {own : String} {idx : Nat} {C : String} {x y : MethodName} {b : ByteArray} {L : Nat} {r : Option FieldType} (h1 : Cond.methodLink own idx x ∈ lw_all) (h3 : Cond.selects C x y ∈ lw_all) (h4 : Cond.instanceMethod y ∈ lw_all) (h5 : Cond.initialized y.cls ∈ lw_all) (h6 : Cond.code y b L r ∈ lw_all) : GoodIn lw_all (va_wsF own idx C x y (ws_ y b L r)) := by
  refine lw_app ?_ (lw_meth h6)
  intro w hw
  simp only [List.mem_cons, List.not_mem_nil, or_false] at hw
  rcases hw with e | e | e | e
  · rw [e]; exact h1
  · rw [e]; exact h3
  · rw [e]; exact h4
  · rw [e]; exact h5
/-- what a call through super asks -/
theorem lw_SU {own : String} {idx : Nat} {y : MethodName} {b : ByteArray} {L : Nat} {r : Option FieldType} (h1 : Cond.methodLink own idx y ∈ lw_all) (h2 : Cond.sameMethod y.cls y.cls y.name y.desc ∈ lw_all) (h3 : Cond.superclass own y.cls ∈ lw_all) (h4 : Cond.instanceMethod y ∈ lw_all) (h5 : Cond.initialized y.cls ∈ lw_all) (h6 : Cond.code y b L r ∈ lw_all) : GoodIn lw_all (va_wsSU own idx y (ws_ y b L r)) := by
  refine lw_app ?_ (lw_meth h6)
  intro w hw
  simp only [List.mem_cons, List.not_mem_nil, or_false] at hw
  rcases hw with e | e | e | e | e
  · rw [e]; exact h1
  · rw [e]; exact h2
  · rw [e]; exact h3
  · rw [e]; exact h4
  · rw [e]; exact h5
/-- more rounds than any loop takes -/
noncomputable def FU : Nat := Classical.choose (⟨1000000, rfl⟩ : ∃ n : Nat, n = 1000000)
theorem FU_eq : FU = 1000000 := Classical.choose_spec (⟨1000000, rfl⟩ : ∃ n : Nat, n = 1000000)
theorem FU_lt {n : Nat} (h : n < 1000000) : n < FU := by rw [FU_eq]; exact h
theorem FU_le {n : Nat} (h : n ≤ 1000000) : n ≤ FU := by rw [FU_eq]; exact h
