/-! PLAIN LAW: the class: a new page -/
set_option maxRecDepth 100000
def PI (p : Nat) (r c : Int32) (f1 : Nat → Int32) : List (PC × Nat) := [(pgm p r c none, 7), (nar 0 25 f1, 25), (nar 0 25 (fun _ => 0), 25), (nar 1 25 (fun _ => 0), 25), (nar 1 10 (fun _ => 0), 10)]
theorem lay0_PG {R C : Nat} (hR : 2 ≤ R ∧ R ≤ 5) (hC : 2 ≤ C ∧ C ≤ 5) : PG' (lay0 R C) := by
  have e0 : lay0 R C 0 = R := rfl
  have e1 : lay0 R C 1 = C := rfl
  unfold PG'
  rw [e0, e1]
  have h1 := Nat.mul_le_mul hR.2 hC.2
  have h2 := Nat.mul_le_mul hR.1 hC.1
  omega
theorem lay0_nc {R C : Nat} : nc (lay0 R C) = R * C := rfl
theorem lay0_8 {R C c : Nat} : lay0 R C (8 + c) = c / C := by
  unfold lay0
  rw [if_neg (by omega), if_neg (by omega), if_pos (by omega), Nat.add_sub_cancel_left]
theorem lay0_rk {R C : Nat} (hR : 2 ≤ R ∧ R ≤ 5) (hC : 2 ≤ C ∧ C ≤ 5) {c : Nat} (hc : c < R * C) : rk (lay0 R C) c = c / C := by
  have := lay_dec R (by omega) hR.1 C (by omega) hC.1
  unfold layOK at this
  rw [allB_iff] at this
  have h := this c hc
  simp only [Bool.and_eq_true, beq_iff_eq] at h
  rw [← h.1, lay0_8]
theorem page_init {h : PH} {ci : Nat → Nat} {R C : Nat} (hR : 2 ≤ R ∧ R ≤ 5) (hC : 2 ≤ C ∧ C ≤ 5) (G : GC h ci (hn h)) :
    ∃ (h' : PH) (mm : Nat) (ms : Nat → Nat) (f1 : Nat → Int32), f_X3_init (some (hn h + 0)) (I R) (I C) (ov h [(.inr (3, [.int 0, .int 0, .null, .null, .null, .null, .null]), 7)]) = some h' ∧ PgX h' (hn h) mm (I R) (I C) (f1, fun _ => 0, fun _ => 0, fun _ => 0) ∧ (∀ c, c < R * C → f1 c = I (c / C)) ∧ MbR h' mm ms (sRen (lay0 R C)) ∧ Old h h' ∧ (hn h ≤ mm ∧ mm < hn h' ∧ ∃ c, h'.1 mm = some c ∧ ki c = 1003) ∧ (∀ b, b < rkTo (lay0 R C) (R * C) → hn h + 5 ≤ ms b ∧ ms b < hn h' ∧ ∃ c, h'.1 (ms b) = some c ∧ ki c = 1000) ∧ (hn h + 5 ≤ hn h' ∧ hn h' ≤ hn h + 70) ∧ hs h' ≤ hs h + 1000 := by
  have hP := lay0_PG hR hC
  have hnc := nc_le hP
  rw [lay0_nc] at hnc
  have O : ∀ f1, Old h (ov h (PI (hn h) (I R) (I C) f1)) := fun f1 => Old.ov
  have nh : ∀ f1, hn (ov h (PI (hn h) (I R) (I C) f1)) = hn h + 5 := fun f1 => rfl
  have c0 : ∀ f1, (ov h (PI (hn h) (I R) (I C) f1)).1 (hn h) = some (pgm (hn h) (I R) (I C) none) := fun f1 => ov_at (i := 0) (n := 7) rfl
  have c1 : ∀ f1, (ov h (PI (hn h) (I R) (I C) f1)).1 (hn h + 1) = some (nar 0 25 f1) := fun f1 => ov_at (i := 1) (n := 25) rfl
  -- the rows' numbers
  have hfill : f_X3_init_L48 FU (some (hn h + 0)) (I C) (I 0) (ov h (PI (hn h) (I R) (I C) (fun _ => 0))) = (f_X3_renumber (some (hn h)) (ov h (PI (hn h) (I R) (I C) (fun c => if c < R * C then I (c / C) else 0)))).bind (fun h4 => some h4) := by
    have e0 : (fun _ => 0 : Nat → Int32) = fun c => if c < 0 then I (c / C) else 0 := by funext c; rw [if_neg (by omega)]
    rw [e0]
    refine loop_FU (fun k (j : Nat) => f_X3_init_L48 k (some (hn h)) (I C) (I j) (ov h (PI (hn h) (I R) (I C) (fun c => if c < j then I (c / C) else 0)))) (fun j => j) (R * C) _ (by omega) (fun k j hj => ?_) (fun k => ?_)
    · have rc : rcv 3 (some (hn h)) (ov h (PI (hn h) (I R) (I C) (fun c => if c < j then I (c / C) else 0))) = some () := rcv_at (c0 _)
      have a0 : gfi 3 0 (some (hn h)) (ov h (PI (hn h) (I R) (I C) (fun c => if c < j then I (c / C) else 0))) = some (I R) := gfi_at (c0 _) rfl
      have a1 : gfi 3 1 (some (hn h)) (ov h (PI (hn h) (I R) (I C) (fun c => if c < j then I (c / C) else 0))) = some (I C) := gfi_at (c0 _) rfl
      have a2 : gfr 3 2 (some (hn h)) (ov h (PI (hn h) (I R) (I C) (fun c => if c < j then I (c / C) else 0))) = some (some (hn h + 1)) := gfr_at (x := some (hn h + 1)) (c0 _) rfl
      have hcl : f_X3_cells (some (hn h)) (ov h (PI (hn h) (I R) (I C) (fun c => if c < j then I (c / C) else 0))) = some (I (R * C), ov h (PI (hn h) (I R) (I C) (fun c => if c < j then I (c / C) else 0))) := by
        unfold f_X3_cells
        rw [a0, Option.bind_some, a1, Option.bind_some, I_mul]
      have hw : asi 0 (some (hn h + 1)) (I j) (I (j / C)) (ov h (PI (hn h) (I R) (I C) (fun c => if c < j then I (c / C) else 0))) = some (ov h (PI (hn h) (I R) (I C) (fun c => if c < j + 1 then I (c / C) else 0))) := by
        have := ov_asi (h := h) (l := PI (hn h) (I R) (I C) (fun c => if c < j then I (c / C) else 0)) (i := 1) (t := 0) (j := j) (x := I (j / C)) rfl (by omega) (by decide)
        rw [this]
        have eu : upd (fun c => if c < j then I (c / C) else 0) j (I (j / C)) = fun c => if c < j + 1 then I (c / C) else 0 := by
          funext c
          simp only [upd]
          by_cases z : c = j
          · subst z; rw [if_pos rfl, if_pos (by omega)]
          · rw [if_neg z]
            by_cases w : c < j
            · rw [if_pos w, if_pos (by omega)]
            · rw [if_neg w, if_neg (by omega)]
        rw [eu]; rfl
      have hz : nz (I C) = some () := nz_I (by omega) (by omega)
      show f_X3_init_L48 (k + 1) _ _ (I j) _ = f_X3_init_L48 k _ _ (I (j + 1)) _
      rw [f_X3_init_L48, rc, Option.bind_some, hcl, Option.bind_some, if_neg (by rw [I_le (by omega) (by omega)]; omega), a2, Option.bind_some, hz, Option.bind_some, I_div (by omega) (by omega), hw, Option.bind_some, show I j + 1 = I (j + 1) from I_add _ 1]
    · have rc : rcv 3 (some (hn h)) (ov h (PI (hn h) (I R) (I C) (fun c => if c < R * C then I (c / C) else 0))) = some () := rcv_at (c0 _)
      have a0 : gfi 3 0 (some (hn h)) (ov h (PI (hn h) (I R) (I C) (fun c => if c < R * C then I (c / C) else 0))) = some (I R) := gfi_at (c0 _) rfl
      have a1 : gfi 3 1 (some (hn h)) (ov h (PI (hn h) (I R) (I C) (fun c => if c < R * C then I (c / C) else 0))) = some (I C) := gfi_at (c0 _) rfl
      have hcl : f_X3_cells (some (hn h)) (ov h (PI (hn h) (I R) (I C) (fun c => if c < R * C then I (c / C) else 0))) = some (I (R * C), ov h (PI (hn h) (I R) (I C) (fun c => if c < R * C then I (c / C) else 0))) := by
        unfold f_X3_cells
        rw [a0, Option.bind_some, a1, Option.bind_some, I_mul]
      show f_X3_init_L48 (k + 1) _ _ (I (R * C)) _ = _
      rw [f_X3_init_L48, rc, Option.bind_some, hcl, Option.bind_some, if_pos (by rw [I_le (by omega) (by omega)]; exact Nat.le_refl _), rc, Option.bind_some]
  have hG := (G.low (h' := ov h (PI (hn h) (I R) (I C) (fun c => if c < R * C then I (c / C) else 0))) rfl (fun a ha => ov_old ha)).mono (nb' := hn h + 5) (by omega)
  obtain ⟨h', mm, ms, r1, r2, r3, r4, r5, r6, r7, r8, r9, r10⟩ := renum (s := lay0 R C) (om := none) (ci := ci) (c0 (fun c => if c < R * C then I (c / C) else 0)) (by rw [nh]; omega) hP (c1 _) (fun d hd => by
    rw [lay0_nc] at hd
    rw [lay0_8, if_pos hd]
    have : d / C ≤ d := Nat.div_le_self _ _
    exact ⟨by omega, rfl⟩) hG
  rw [nh] at r5 r6 r7 r8
  have o : ∀ i c k, (PI (hn h) (I R) (I C) (fun c => if c < R * C then I (c / C) else 0))[i]? = some (c, k) → i ≠ 0 → i ≠ 1 → i < 5 → h'.1 (hn h + i) = some c := fun i c k hi h0 h1 h5 => by
    rw [r5 (hn h + i) (by omega) (by omega) (by omega)]
    exact ov_at hi
  refine ⟨h', mm, ms, (fun d => if d < nc (lay0 R C) then I (rk (lay0 R C) d) else if d < R * C then I (d / C) else 0), ?_, ⟨r2, r3, o 2 _ 25 rfl (by decide) (by decide) (by decide), o 3 _ 25 rfl (by decide) (by decide) (by decide), o 4 _ 10 rfl (by decide) (by decide) (by decide)⟩, fun c hc => ?_, r4, ⟨by omega, r10, fun a ha => ?_⟩, ⟨by omega, r6.2.1, r6.2.2⟩, r7, ⟨by omega, by omega⟩, ?_⟩
  · have e : f_X3_init (some (hn h + 0)) (I R) (I C) (ov h [(.inr (3, [.int 0, .int 0, .null, .null, .null, .null, .null]), 7)]) = f_X3_init_L48 FU (some (hn h + 0)) (I C) (I 0) (ov h (PI (hn h) (I R) (I C) (fun _ => 0))) := by
      have e25 : (25 : Int32) = I 25 := rfl
      have e10 : (10 : Int32) = I 10 := rfl
      unfold f_X3_init
      simp (disch := first | omega | assumption) only [ov_nwO, ov_nwi, ov_nwr, ov_pfC, ovpf, ov_gfiC, ov_gfrC, ov_rcvC, ovob, List.length_cons, List.length_nil, Nat.reduceAdd, Nat.zero_add, List.nil_append, List.cons_append, List.getElem?_cons_zero, List.getElem?_cons_succ, List.getElem?_nil, List.set_cons_zero, List.set_cons_succ, Option.bind_some, Option.map_some, lit_I, va_rf, vI, vR, true_and, Nat.reduceLT, Nat.reduceLeDiff, Nat.reduceEqDiff, if_true, if_false, nn, ov_ov, ov_asiC, ovasi, inb_I, I_clamp, e25, e10]
      rfl
    rw [e, hfill, r1, Option.bind_some]
  · show (if c < nc (lay0 R C) then I (rk (lay0 R C) c) else _) = _
    rw [if_pos (show c < nc (lay0 R C) from hc), lay0_rk hR hC hc]
  · rw [r5 a (by omega) (by omega) (by omega)]; exact ov_old ha
  · have : hs (ov h (PI (hn h) (I R) (I C) (fun c => if c < R * C then I (c / C) else 0))) = hs h + 92 := rfl
    omega
