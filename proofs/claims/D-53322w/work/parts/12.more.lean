/-! THE PURE WORLD: copies, clones, casts of arrays, private methods of superclasses, abstract and default methods -/
set_option maxRecDepth 100000
theorem aci_some {t : Nat} {src dst : Option Nat} {sp dp n : Int32} {h h1 : PH} (hb : aci t src sp dst dp n h = some h1) : ∃ a0 a n0 n1 f g, src = some a0 ∧ dst = some a ∧ lk h a0 = some (.inl (t, n0, .inl f)) ∧ h.1 a = some (.inl (t, n1, .inl g)) ∧ 0 ≤ sp.toInt ∧ 0 ≤ dp.toInt ∧ 0 ≤ n.toInt ∧ sp.toInt + n.toInt ≤ n0 ∧ dp.toInt + n.toInt ≤ n1 ∧ (∀ j, j < n.toNatClampNeg → (ptyl[t]?).any (fun ty => fits ty (.int (f (sp.toNatClampNeg + j)))) = true) ∧
    h1 = hset h a (.inl (t, n1, .inl (va_cpy f g sp.toNatClampNeg dp.toNatClampNeg n.toNatClampNeg))) := by
  cases dst with
  | none => cases hb
  | some a =>
    simp only [aci] at hb
    split at hb
    · rename_i n0 f t1 n1 g h2 h3
      split at hb
      · rename_i e
        cases hb
        obtain ⟨e1, e2⟩ := e
        subst e1
        obtain ⟨a0, e4, e5⟩ := ar_some h2
        obtain ⟨e6, e7, e8, e9, e10, e11⟩ := e2
        exact ⟨a0, a, n0, n1, f, g, e4, rfl, e5, h3, e6, e7, e8, e9, e10, e11, rfl⟩
      · cases hb
    · cases hb
theorem acr_some {t : Nat} {src dst : Option Nat} {sp dp n : Int32} {h h1 : PH} (hb : acr t src sp dst dp n h = some h1) : ∃ a0 a n0 n1 f g, src = some a0 ∧ dst = some a ∧ lk h a0 = some (.inl (t, n0, .inr (.inr (.inr (.inr f))))) ∧ h.1 a = some (.inl (t, n1, .inr (.inr (.inr (.inr g))))) ∧ 0 ≤ sp.toInt ∧ 0 ≤ dp.toInt ∧ 0 ≤ n.toInt ∧ sp.toInt + n.toInt ≤ n0 ∧ dp.toInt + n.toInt ≤ n1 ∧ (∀ j, j < n.toNatClampNeg → eok t h (f (sp.toNatClampNeg + j)) = true) ∧
    h1 = hset h a (.inl (t, n1, .inr (.inr (.inr (.inr (va_cpy f g sp.toNatClampNeg dp.toNatClampNeg n.toNatClampNeg)))))) := by
  cases dst with
  | none => cases hb
  | some a =>
    simp only [acr] at hb
    split at hb
    · rename_i n0 f t1 n1 g h2 h3
      split at hb
      · rename_i e
        cases hb
        obtain ⟨e1, e2⟩ := e
        subst e1
        obtain ⟨a0, e4, e5⟩ := ar_some h2
        obtain ⟨e6, e7, e8, e9, e10, e11⟩ := e2
        exact ⟨a0, a, n0, n1, f, g, e4, rfl, e5, h3, e6, e7, e8, e9, e10, e11, rfl⟩
      · cases hb
    · cases hb
section R6
variable {K : KT} {mi : MI} {h0 : PH} {a0 : List Value} {r : RS} {h' : PH} {pc : Nat} {L : List (Nat × Value)} {st : List Value} {h : PH}
theorem R_copyI {t idx : Nat} {src dst : Option Nat} {sp dp n : Int32} {ty : FieldType} {h1 : PH} (hb : aci t src sp dst dp n h = some h1) (ht : ptyl[t]? = some ty) (hl0 : Cond.methodLink mi.own idx arraycopyName ∈ lw_all) (hnat : Cond.native arraycopyName ∈ lw_all) (hstat : Cond.static arraycopyName ∈ lw_all) (hini : Cond.initialized "java/lang/System" ∈ lw_all) (hk9 : refKind ty = false := by first | rfl | exact ⟨_, rfl⟩) (hd : 1 ≤ mi.d) (h1r : C1 st) (h8 : st.length ≤ 8) (hdg : decode mi.cc pc = .ok (.invokestatic idx, 3)) (k : R K mi h0 a0 r h' (pc + 3) L st h1) : R K mi h0 a0 r h' pc L (.int n :: .int dp :: va_rf dst :: .int sp :: va_rf src :: st) h := by
  obtain ⟨a0', a, n0, n1, f, g, rfl, rfl, hs0, hd0, h1s, h2s, h3s, h4, h5, hfit, rfl⟩ := aci_some hb
  refine ⟨k.1, fun hF hh p e s m below meth c H locs ls C hH hS hl => ?_⟩
  obtain ⟨hx, hcc, q3, q4, q5, q6, hU, q8⟩ := C
  have hts := hU.w hF a0.toArray
  obtain ⟨hA, hat, hok⟩ := hH.2.2.2 a _ hd0
  have hc1 : H[a]? = some (vp_cell (KT.dA K t) (n1, .inl g)) := hat
  obtain ⟨cs, ty', r1, r2, r3, r4, r5, r6, r7⟩ := hH.rd hF hU hS hs0
  cases (show some ty' = some ty from r1.symm.trans (ptyr_at ht))
  have cz1 := cl_of h1s
  have cz2 := cl_of h2s
  have cz3 := cl_of h3s
  intro T hT X
  obtain ⟨ho0, k0, hk0, cm0, hkk0⟩ := State.isArrayOf_alike hU.al r3
  obtain ⟨-, k1, hk1, cm1, hkk1⟩ := ((hU.K hF).2 t _ (ptys_at ht)).1 n1 (fun j => .int (g j))
  obtain ⟨vm', X', step⟩ := X.arraycopy hx q6 (hts _ hl0) (hts _ hnat) (hts _ hstat) (hts _ hini) (src := a0') (dst := a) (cs := cs) (cd := vp_cell (KT.dA K t) (n1, .inl g)) (srcPos := sp) (destPos := dp) (n := n) (by rw [hT]; exact r2) (by rw [hT]; exact hc1)
    ho0 (fun _ h => by cases h) r4 (fun h => by cases h) hk0 hk1 hkk0 hkk1 (by simp [hk9]) (nn_of h1s) (nn_of h2s) (nn_of h3s)
    (by have : (n0 : Int) ≤ (cs.slots.size : Int) := by exact_mod_cast r5
        omega)
    (by show ¬ _ > ((arrV (KT.dA K t) n1 (fun j => .int (g j))).slots.size : Int); rw [arrV_size]; omega)
    (fun vm₁ hal i hi => by
      have e9 : cs.slots.getD (sp.toNatClampNeg + i) .null = .int (f (sp.toNatClampNeg + i)) := by
        rw [Array.getD_eq_getD_getElem?, r7 _ (show sp.toNatClampNeg + i < n0 by omega)]
        rfl
      refine ⟨?_, ?_⟩
      · rw [e9]
        have := hfit i hi
        rw [ht] at this
        simpa using this
      · rw [e9]
        exact trivial)
    (g := F0 m pc ls (.int n :: .int dp :: .ref a :: .int sp :: .ref a0' :: st)) rfl (by rw [q5]; exact hl.1.1) (rest := st) rfl (by rw [hcc]; exact hdg) hd (by rw [h1r.sum]; show 2 * 0 + st.length + _ ≤ 100 * mi.d; have hw : nativeFrameWords "java/lang/System" "arraycopy" 5 = 7 := (by decide); omega)
  have e1 : copied cs (vp_cell (KT.dA K t) (n1, .inl g)) sp dp n = vp_cell (KT.dA K t) (n1, .inl (va_cpy f g sp.toNatClampNeg dp.toNatClampNeg n.toNatClampNeg)) := by
    rw [vp_cell_i, vp_cell_i]
    exact va_copiedX (fun z => .int z) cs (KT.dA K t) f g (fun j hj => r7 j hj) (show sp.toNatClampNeg + n.toNatClampNeg ≤ n0 by omega)
  rw [e1] at X' step
  have hlt : a < H.size := (Array.getElem?_eq_some_iff.mp hc1).1
  have hheap : ((T.setVm vm').setCell a (vp_cell (KT.dA K t) (n1, .inl (va_cpy f g sp.toNatClampNeg dp.toNatClampNeg n.toNatClampNeg)))).heap = H.setIfInBounds a (vp_cell (KT.dA K t) (n1, .inl (va_cpy f g sp.toNatClampNeg dp.toNatClampNeg n.toNatClampNeg))) := by rw [← hT]; rfl
  have oq : ∀ q : Nat, q ≠ a → (H.setIfInBounds a (vp_cell (KT.dA K t) (n1, .inl (va_cpy f g sp.toNatClampNeg dp.toNatClampNeg n.toNatClampNeg))))[q]? = H[q]? := fun q hq => by simp [Array.getElem?_setIfInBounds, Ne.symm hq]
  have hH1 : HR K (hset h a (.inl (t, n1, .inl (va_cpy f g sp.toNatClampNeg dp.toNatClampNeg n.toNatClampNeg)))) (H.setIfInBounds a (vp_cell (KT.dA K t) (n1, .inl (va_cpy f g sp.toNatClampNeg dp.toNatClampNeg n.toNatClampNeg)))) :=
    hH.set hd0 (show (H.setIfInBounds a _)[a]? = some _ by simp [Array.getElem?_setIfInBounds, hlt, toE]) (okc_i (hok t _ rfl)) (by simp) oq
  obtain ⟨t2, b1, b2⟩ := k.2 hF hh p e s m below meth c _ _ ls ⟨hx, hcc, q3, q4, q5, q6, hU, q8⟩ hH1 ⟨by simp; exact hS.1, fun q g1 g2 => by
      rw [oq q (fun e => g2 (by rw [e]; exact hA))]
      exact hS.2.1 q g1 g2, fun q hq => by
      rcases List.mem_append.mp hq with h | h
      · exact hS.2.2 q h
      · obtain ⟨z, -, hz⟩ := List.mem_map.mp h
        rw [← hz]
        exact hA⟩ hl _ hheap X'
  exact ⟨t2, step t2 b1, b2⟩
theorem R_copyR {t idx : Nat} {src dst : Option Nat} {sp dp n : Int32} {ty : FieldType} {h1 : PH} (hb : acr t src sp dst dp n h = some h1) (ht : ptyl[t]? = some ty) (hl0 : Cond.methodLink mi.own idx arraycopyName ∈ lw_all) (hnat : Cond.native arraycopyName ∈ lw_all) (hstat : Cond.static arraycopyName ∈ lw_all) (hini : Cond.initialized "java/lang/System" ∈ lw_all) (hk9 : ∃ C, ty = .object C := by first | rfl | exact ⟨_, rfl⟩) (hd : 1 ≤ mi.d) (h1r : C1 st) (h8 : st.length ≤ 8) (hdg : decode mi.cc pc = .ok (.invokestatic idx, 3)) (k : R K mi h0 a0 r h' (pc + 3) L st h1) : R K mi h0 a0 r h' pc L (.int n :: .int dp :: va_rf dst :: .int sp :: va_rf src :: st) h := by
  obtain ⟨a0', a, n0, n1, f, g, rfl, rfl, hs0, hd0, h1s, h2s, h3s, h4, h5, hfit, rfl⟩ := acr_some hb
  refine ⟨k.1, fun hF hh p e s m below meth c H locs ls C hH hS hl => ?_⟩
  obtain ⟨hx, hcc, q3, q4, q5, q6, hU, q8⟩ := C
  have hts := hU.w hF a0.toArray
  obtain ⟨hA, hat, hok⟩ := hH.2.2.2 a _ hd0
  have hc1 : H[a]? = some (vp_cell (KT.dA K t) (n1, .inr (.inr (.inr (.inr g))))) := hat
  obtain ⟨cs, ty', r1, r2, r3, r4, r5, r6, r7⟩ := hH.rd hF hU hS hs0
  cases (show some ty' = some ty from r1.symm.trans (ptyr_at ht))
  have cz1 := cl_of h1s
  have cz2 := cl_of h2s
  have cz3 := cl_of h3s
  intro T hT X
  obtain ⟨ho0, k0, hk0, cm0, hkk0⟩ := State.isArrayOf_alike hU.al r3
  obtain ⟨-, k1, hk1, cm1, hkk1⟩ := ((hU.K hF).2 t _ (ptys_at ht)).1 n1 (fun j => va_rf (g j))
  obtain ⟨vm', X', step⟩ := X.arraycopy hx q6 (hts _ hl0) (hts _ hnat) (hts _ hstat) (hts _ hini) (src := a0') (dst := a) (cs := cs) (cd := vp_cell (KT.dA K t) (n1, .inr (.inr (.inr (.inr g))))) (srcPos := sp) (destPos := dp) (n := n) (by rw [hT]; exact r2) (by rw [hT]; exact hc1)
    ho0 (fun _ h => by cases h) r4 (fun h => by cases h) hk0 hk1 hkk0 hkk1 (by obtain ⟨C0, e0⟩ := hk9; subst e0; rfl) (nn_of h1s) (nn_of h2s) (nn_of h3s)
    (by have : (n0 : Int) ≤ (cs.slots.size : Int) := by exact_mod_cast r5
        omega)
    (by show ¬ _ > ((arrV (KT.dA K t) n1 (fun j => va_rf (g j))).slots.size : Int); rw [arrV_size]; omega)
    (fun vm₁ hal i hi => by
      have e9 : cs.slots.getD (sp.toNatClampNeg + i) .null = va_rf (f (sp.toNatClampNeg + i)) := by
        rw [Array.getD_eq_getD_getElem?, r7 _ (show sp.toNatClampNeg + i < n0 by omega)]
        rfl
      rw [e9]
      cases hy : f (sp.toNatClampNeg + i) with
      | none =>
        obtain ⟨C0, rfl⟩ := hk9
        exact ⟨rfl, trivial⟩
      | some y =>
        have hz := hfit i hi
        rw [hy] at hz
        obtain ⟨cellV, kV, kA, comp, kE, g1, g2, g3, g4, g5, g6, g7⟩ := eok_spec hF hH hU ht hz
        cases hk1.symm.trans g4
        cases hkk1.symm.trans g5
        obtain ⟨kC', hkC', -⟩ := hal.2.2 _ _ g3
        obtain ⟨kE', hkE', -⟩ := hal.2.2 _ _ g6
        obtain ⟨C0, rfl⟩ := hk9
        refine ⟨rfl, cellV, (show T.heap[y]? = some cellV by rw [hT]; exact g1), g2, ⟨kC', hkC'⟩, ?_, ?_⟩
        · exact ⟨kE', hkE'⟩
        · show vm₁.assignable _ _ = true
          rw [hal.assignable]
          exact g7)
    (g := F0 m pc ls (.int n :: .int dp :: .ref a :: .int sp :: .ref a0' :: st)) rfl (by rw [q5]; exact hl.1.1) (rest := st) rfl (by rw [hcc]; exact hdg) hd (by rw [h1r.sum]; show 2 * 0 + st.length + _ ≤ 100 * mi.d; have hw : nativeFrameWords "java/lang/System" "arraycopy" 5 = 7 := (by decide); omega)
  have e1 : copied cs (vp_cell (KT.dA K t) (n1, .inr (.inr (.inr (.inr g))))) sp dp n = vp_cell (KT.dA K t) (n1, .inr (.inr (.inr (.inr (va_cpy f g sp.toNatClampNeg dp.toNatClampNeg n.toNatClampNeg))))) := by
    rw [vp_cell_q, vp_cell_q]
    exact va_copiedX (fun z => va_rf z) cs (KT.dA K t) f g (fun j hj => r7 j hj) (show sp.toNatClampNeg + n.toNatClampNeg ≤ n0 by omega)
  rw [e1] at X' step
  have hlt : a < H.size := (Array.getElem?_eq_some_iff.mp hc1).1
  have hheap : ((T.setVm vm').setCell a (vp_cell (KT.dA K t) (n1, .inr (.inr (.inr (.inr (va_cpy f g sp.toNatClampNeg dp.toNatClampNeg n.toNatClampNeg))))))).heap = H.setIfInBounds a (vp_cell (KT.dA K t) (n1, .inr (.inr (.inr (.inr (va_cpy f g sp.toNatClampNeg dp.toNatClampNeg n.toNatClampNeg)))))) := by rw [← hT]; rfl
  have oq : ∀ q : Nat, q ≠ a → (H.setIfInBounds a (vp_cell (KT.dA K t) (n1, .inr (.inr (.inr (.inr (va_cpy f g sp.toNatClampNeg dp.toNatClampNeg n.toNatClampNeg)))))))[q]? = H[q]? := fun q hq => by simp [Array.getElem?_setIfInBounds, Ne.symm hq]
  have hH1 : HR K (hset h a (.inl (t, n1, .inr (.inr (.inr (.inr (va_cpy f g sp.toNatClampNeg dp.toNatClampNeg n.toNatClampNeg))))))) (H.setIfInBounds a (vp_cell (KT.dA K t) (n1, .inr (.inr (.inr (.inr (va_cpy f g sp.toNatClampNeg dp.toNatClampNeg n.toNatClampNeg))))))) :=
    hH.set hd0 (show (H.setIfInBounds a _)[a]? = some _ by simp [Array.getElem?_setIfInBounds, hlt, toE]) (okc_i (hok t _ rfl)) (by simp) oq
  obtain ⟨t2, b1, b2⟩ := k.2 hF hh p e s m below meth c _ _ ls ⟨hx, hcc, q3, q4, q5, q6, hU, q8⟩ hH1 ⟨by simp; exact hS.1, fun q g1 g2 => by
      rw [oq q (fun e => g2 (by rw [e]; exact hA))]
      exact hS.2.1 q g1 g2, fun q hq => by
      rcases List.mem_append.mp hq with h | h
      · exact hS.2.2 q h
      · obtain ⟨z, -, hz⟩ := List.mem_map.mp h
        rw [← hz]
        exact hA⟩ hl _ hheap X'
  exact ⟨t2, step t2 b1, b2⟩
/-- an array cloned -/
def clnO (x : Option Nat) (h : PH) : Option (Option Nat × PH) := match x with
  | none => none
  | some a => match h.1 a with
    | some (.inl (2, v)) => if ∀ j, j < v.1 → (ptyl[2]?).any (fun ty => fits ty (elV v j)) = true then some (some (hn h), hnew h (.inl (2, v)) v.1) else none
    | _ => none
theorem R_clone {idx : Nat} {x : Option Nat} {q : Option Nat × PH} (hb : clnO x h = some q) (hl0 : Cond.methodLink mi.own idx ⟨"[B", "clone", "()Ljava/lang/Object;"⟩ ∈ lw_all) (hsm : Cond.sameMethod "[B" "java/lang/Object" "clone" "()Ljava/lang/Object;" ∈ lw_all) (hnat : Cond.native ⟨"java/lang/Object", "clone", "()Ljava/lang/Object;"⟩ ∈ lw_all) (hinst : Cond.instanceMethod ⟨"java/lang/Object", "clone", "()Ljava/lang/Object;"⟩ ∈ lw_all)
    (hsel : Cond.selects "[B" ⟨"[B", "clone", "()Ljava/lang/Object;"⟩ ⟨"java/lang/Object", "clone", "()Ljava/lang/Object;"⟩ ∈ lw_all) (hcl : Cond.castable "[B" "java/lang/Cloneable" ∈ lw_tbl) (hd : 1 ≤ mi.d) (h1r : C1 st) (h8 : st.length ≤ 8) (hdg : decode mi.cc pc = .ok (.invokevirtual idx, 3)) (k : R K mi h0 a0 r h' (pc + 3) L (va_rf q.1 :: st) q.2) : R K mi h0 a0 r h' pc L (va_rf x :: st) h := by
  cases x with
  | none => cases hb
  | some a =>
  simp only [clnO] at hb
  split at hb
  · rename_i v ha
    split at hb
    · rename_i hfit
      cases hb
      refine ⟨hnew_le.tr k.1, fun hF hh p e s m below meth c H locs ls C hH hS hl => ?_⟩
      obtain ⟨hx, hcc, q3, q4, q5, q6, hU, q8⟩ := C
      have hts := hU.w hF a0.toArray
      have g1 : hn (hnew h (.inl (2, v)) v.1) ≤ hn h' := k.1.1
      have g2 : hs (hnew h (.inl (2, v)) v.1) ≤ hs h' := k.1.2
      obtain ⟨c1, c2⟩ := cnt_new (c := .inl (2, v)) (n := v.1) hh
      have e1 : hn (hnew h (.inl (2, v)) v.1) = hn h + 1 := rfl
      have e2 : hs (hnew h (.inl (2, v)) v.1) = hs h + v.1 := rfl
      obtain ⟨hA, hat, hok⟩ := hH.2.2.2 a _ ha
      have hat : H[a]? = some (vp_cell (KT.dA K 2) v) := hat
      have hsz : (vp_cell (KT.dA K 2) v).slots.size = v.1 := by rw [vp_cell_el]; exact arrV_size _ _ _
      have hvm0 : (vp_cell (KT.dA K 2) v).vm = .none := by rw [vp_cell_el]; rfl
      have hcl0 : (vp_cell (KT.dA K 2) v).cls = KT.dA K 2 := by rw [vp_cell_el]; rfl
      have hcellE : ({ cls := (vp_cell (KT.dA K 2) v).cls, slots := (vp_cell (KT.dA K 2) v).slots } : Cell) = vp_cell (KT.dA K 2) v := by rw [vp_cell_el]; rfl
      have hnm : s.vm.findClass "[B" = some (KT.dA K 2) := ((hU.K hF).2 2 _ (ptys_at rfl)).2
      obtain ⟨c0, t0', f1, f2, f3⟩ := Cond.castable_spec (va_Nw.use (A := #[]) rfl (hU.c hF hcl))
      cases hnm.symm.trans f1
      intro T hT X
      obtain ⟨-, kA, hkA, comp, hkind⟩ := State.isArrayOf_alike X.warmed.alike (((hU.K hF).2 2 _ (ptys_at rfl)).1 0 (fun _ => .null))
      obtain ⟨-, kS, hkS, compS, hkindS⟩ := ((hU.K hF).2 2 _ (ptys_at rfl)).1 0 (fun _ => .null)
      obtain ⟨vm', X', st1⟩ := X.cloneArray hx q6 (hts _ hl0) (hts _ hsm) (hts _ hnat) (hts _ hinst) (hts _ hsel) (a := a) (cell := vp_cell (KT.dA K 2) v) (by rw [hT]; exact hat) (fun k h => by rw [hvm0] at h; cases h) (by rw [hvm0]; exact fun h => by cases h) (by rw [hcl0]; exact hnm) f2 (by rw [hcl0]; exact f3)
        (fun i w hw => by
          rw [hcl0]
          have hk' : T.vm.classes[KT.dA K 2]? = some kA := hkA
          have hw2 : fits .byte w = true := by
            rw [vp_cell_el] at hw
            exact va_fit (fun i hi => by simpa [ptyl] using hfit i hi) i w hw
          simpa [State.fitsSlot, State.slotType?, hk', hkind] using hw2)
        (g := F0 m pc ls (.ref a :: st)) rfl (by rw [q5]; exact hl.1.1) rfl (by rw [hcc]; exact hdg) hd (by rw [h1r.sum]; show 2 * 0 + st.length + 14 ≤ 100 * mi.d; omega) (by show _ ≤ hn h' - hn h0; have := hh.1; omega) (by rw [hsz]; show _ ≤ hs h' - hs h0; have := hh.2; omega) (hloader := by rw [hcl0]; exact Vm.clonesLoader_of_array hkS hkindS)
      rw [hcellE, hsz] at X'
      generalize hH1 : H.push (vp_cell (KT.dA K 2) v) = H1
      have z1 : H1.size = H.size + 1 := by rw [← hH1, Array.size_push]
      have f1 : H1[H.size]? = some (vp_cell (KT.dA K 2) v) := by rw [← hH1, Array.getElem?_push_size]
      have o1 : ∀ q : Nat, q < H.size → H1[q]? = H[q]? := fun q hq => by rw [← hH1, Array.getElem?_push, if_neg (Nat.ne_of_lt hq)]
      have hR1 : HR K (hnew h (.inl (2, v)) v.1) H1 := hH.new (c := .inl (2, v)) (n := v.1) f1 (okc_i (by decide)) z1 o1
      rw [c1, c2] at X'
      obtain ⟨t, b1, b2⟩ := k.2 hF (hh.tr hnew_le) p e s m below meth c H1 locs ls ⟨hx, hcc, q3, q4, q5, q6, hU, q8⟩ hR1 (vaS_new hS z1 o1) hl ((T.setVm vm').pushCell (vp_cell (KT.dA K 2) v)) (by rw [← hH1, ← hT]; rfl) X'
      refine ⟨t, st1 t ?_, b2⟩
      rw [hcellE, hT, hH.1]
      exact b1
    · cases hb
  · cases hb
theorem ra_cls {s : State} {cA : ClassId} : ∀ {ty : FieldType}, va_RA s cA ty → s.vm.findClass ("[" ++ ty.toString) = some cA
  | .object _, h => by
    obtain ⟨-, -, -, -, -, h4⟩ := h
    exact h4
  | .array _, h => h
  | .int, h => h
  | .boolean, h => h
  | .byte, h => h
  | .char, h => h
  | .short, h => h
  | .long, h => h
  | .float, h => h
  | .double, h => h
/-- null, or an array of the type t -/
def chaO (t : Nat) (x : Option Nat) (h : PH) : Option Unit := match x with
  | none => some ()
  | some a => match h.1 a with
    | some (.inl v) => if v.1 = t then some () else none
    | _ => none
theorem R_castA {t idx : Nat} {x : Option Nat} {u : Unit} {ty : FieldType} {nm : String} (hb : chaO t x h = some u) (ht : ptyl[t]? = some ty) (hcl : Cond.classLink mi.own idx nm ∈ lw_all) (hnm : "[" ++ ty.toString = nm) (hdg : decode mi.cc pc = .ok (.checkcast idx, 3)) (k : R K mi h0 a0 r h' (pc + 3) L (va_rf x :: st) h) : R K mi h0 a0 r h' pc L (va_rf x :: st) h := by
  refine ⟨k.1, fun hF hh p e s m below meth c H locs ls C hH hS hl => ?_⟩
  have k2 := k.2 hF hh p e s m below meth c H locs ls C hH hS hl
  obtain ⟨hx, hcc, -, -, -, hown, hU, -⟩ := C
  cases x with
  | none => exact lv_castN hx hcc hdg k2
  | some a =>
    simp only [chaO] at hb
    split at hb
    · rename_i v ha
      split at hb
      · rename_i e
        subst e
        obtain ⟨hA, hat, hok⟩ := hH.2.2.2 a _ ha
        have hfc : s.vm.findClass nm = some (KT.dA K v.1) := by
          rw [← hnm]
          exact ra_cls ((hU.K hF).2 v.1 _ (ptys_at ht)).2
        exact va_castA hx hcc hown (hU.w hF _ _ hcl) (sg hat) 0 rfl hfc hdg k2
      · cases hb
    · cases hb
/-- an array of objects' class -/
def gcl (x : Option Nat) (h : PH) : Option (Option Nat) := match x with
  | none => none
  | some a => match h.1 a with
    | some (.inl v) => if v.1 = 6 then some (hk h 200) else none
    | _ => none
theorem R_getClass {idx : Nat} {x z : Option Nat} (hb : gcl x h = some z) (hl0 : Cond.methodLink mi.own idx ⟨"java/lang/Object", "getClass", "()Ljava/lang/Class;"⟩ ∈ lw_all) (hd : 1 ≤ mi.d) (h1r : C1 st) (h8 : st.length ≤ 8) (hdg : decode mi.cc pc = .ok (.invokevirtual idx, 3)) (k : R K mi h0 a0 r h' (pc + 3) L (va_rf z :: st) h) : R K mi h0 a0 r h' pc L (va_rf x :: st) h := by
  refine ⟨k.1, fun hF hh p e s m below meth c H locs ls C hH hS hl => ?_⟩
  have k2 := k.2 hF hh p e s m below meth c H locs ls C hH hS hl
  obtain ⟨hx, hcc, -, -, q5, hown, hU, -⟩ := C
  have hts := hU.w hF a0.toArray
  cases x with
  | none => cases hb
  | some a =>
    simp only [gcl] at hb
    split at hb
    · rename_i v ha
      split at hb
      · rename_i e6
        cases hb
        obtain ⟨t, v⟩ := v
        dsimp only at e6
        subst e6
        obtain ⟨hA, hat, hok⟩ := hH.2.2.2 a _ ha
        have hat : H[a]? = some (vp_cell (KT.dA K 6) v) := hat
        have hfc : s.vm.findClass "[Ljava/lang/Object;" = some (KT.dA K 6) := by
          obtain ⟨-, -, -, -, -, h4⟩ := ((hU.K hF).2 6 _ (ptys_at rfl)).2
          exact h4
        obtain ⟨b, e1, e2⟩ := hF.2.2.2.2.2.2.2.1
        have e3 : hk h 200 = some b := by rw [← e1, ← hH.2.2.1]; rfl
        rw [e3] at k2
        have hdc := va_Nw.use (A := a0.toArray) rfl (va_Nw.warmD hU.1 (va_Nw.of (w := .declares ⟨"java/lang/Object", "getClass", "()Ljava/lang/Class;"⟩) rfl (hF.1 _ q3229)))
        refine va_getC hx hcc (by rw [q5]; exact hl.1.1.symm) hown (hts _ hl0) hdc (hts _ q3228) (hts _ q1084) (hts _ q1122) (e2.moved hU.al) ⟨_, hat, ?_, ?_⟩ hd (by rw [h1r.sum]; show st.length + 14 ≤ 100 * mi.d; omega) hdg k2
        · rw [vp_cell_el]; rfl
        · rw [vp_cell_el]; exact hfc
      · cases hb
    · cases hb
/-- is it of the class ci: only asked of objects of that class -/
def ins (ci : Nat) (x : Option Nat) (h : PH) : Option Int32 := if clo x h = some ci then some 1 else none
theorem R_inst {ci idx : Nat} {x : Option Nat} {z : Int32} {nm : String} {q : vw_C} (hb : ins ci x h = some z) (hc : pcl[ci]? = some q) (hcl : Cond.classLink mi.own idx nm ∈ lw_all) (hq : q.1 = nm) (hdg : decode mi.cc pc = .ok (.instanceof idx, 3)) (k : R K mi h0 a0 r h' (pc + 3) L (.int z :: st) h) : R K mi h0 a0 r h' pc L (va_rf x :: st) h := by
  refine ⟨k.1, fun hF hh p e s m below meth c H locs ls C hH hS hl => ?_⟩
  have k2 := k.2 hF hh p e s m below meth c H locs ls C hH hS hl
  obtain ⟨hx, hcc, -, -, -, hown, hU, -⟩ := C
  unfold ins at hb
  split at hb
  · rename_i h1
    cases hb
    obtain ⟨a, fs, rfl, ha⟩ := clo_some h1
    subst hq
    exact va_instE hx hcc hown (hU.w hF _ _ hcl) (rd_recv hF hH hU hS ha hc) hdg k2
  · cases hb
theorem ldcwString {p : Program} {l : Launch} {e : Env} {R : Room} {s : State} {m : MethodId} {args : Array Value} {below : List Frame} {meth : Method} {c : Code} {T : State} {locs : List Loc} {cells slots : Nat}
    (X : Stand p l e R s m args below meth c T locs cells slots) (hexec : p.tables.exec = Jvm.exec) {own text : String} {index : Nat} {a : Addr} (hown : s.vm.findClass own = some m.cls)
    (hconst : (Cond.stringRef own index text).before args s = true) (hev : (Term.string own index).eval args s none [] s = some (.ref a)) {g : JFrame} (hg : g.method = m) (hdg : decode c.code g.pc = .ok (.ldc_w index, 3)) :
    ∀ target, Steps p.tables e below (T.setTop { g with pc := g.pc + 3, stack := .ref a :: g.stack }) target → Steps p.tables e below (T.setTop g) target := by
  obtain ⟨k, cf, i, a', hk, hcf, hcp, -, hr, hev'⟩ := Cond.stringRef_spec hown hconst
  cases hev.symm.trans hev'
  obtain ⟨k', hk', he⟩ := X.warmed.alike.2.2 _ _ hk
  have hr' : k'.resolved[index]? = some (some (.string a)) := by
    rcases X.warmed.entry hk hk' index with h | ⟨h, -⟩
    · rw [h]; exact hr
    · rw [hr] at h; cases h
  intro target hrest
  subst hg
  jvm_step X.here [hexec, hdg, ldc_w.wp_string (e := e) (s := T) (f := g) X.here.top hk' (by rw [he]; exact hcf) hcp hr']
  exact hrest
theorem R_ldcwS {j idx : Nat} {tx : String} (hq : pstS[j]? = some (mi.own, idx, tx)) (hdg : decode mi.cc pc = .ok (.ldc_w idx, 3)) (k : R K mi h0 a0 r h' (pc + 3) L (va_rf (hk h (100 + j)) :: st) h) : R K mi h0 a0 r h' pc L st h := by
  refine ⟨k.1, fun hF hh p e s m below meth c H locs ls C hH hS hl => ?_⟩
  have k2 := k.2 hF hh p e s m below meth c H locs ls C hH hS hl
  obtain ⟨hx, hcc, -, -, -, hown, hU, -⟩ := C
  obtain ⟨a, e1, e2⟩ := hF.2.2.2.2.2.2.1 j _ hq
  have e3 : hk h (100 + j) = some a := by rw [← e1, ← hH.2.2.1]; rfl
  rw [e3] at k2
  have e4 := vk_R.warm hU.1 e2
  intro T hT X
  obtain ⟨t, a1, b1⟩ := k2 T hT X
  exact ⟨t, ldcwString X hx hown (text := tx) (a := a) e4.1 e4.2 (g := F0 m pc ls st) rfl (by rw [hcc]; exact hdg) t a1, b1⟩
end R6
