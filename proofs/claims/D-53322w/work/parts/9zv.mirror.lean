/-! PLAIN LAW: the class: mirror: the page -/
set_option maxRecDepth 100000
theorem upd_up {f g : Nat → Int32} {j : Nat} {v : Int32} (hv : v = g j) : upd (fun d => if d < j then g d else f d) j v = fun d => if d < j + 1 then g d else f d := by
  subst hv
  funext d
  simp only [upd]
  by_cases z : d = j
  · subst z; rw [if_pos rfl, if_pos (by omega)]
  · rw [if_neg z]
    by_cases w : d < j
    · rw [if_pos w, if_pos (by omega)]
    · rw [if_neg w, if_neg (by omega)]
/-- a page whose rows were taken over, numbered anew -/
theorem relaid {m : Nat} {h : PH} {p mm0 : Nat} {ci t : Nat → Nat} {F F0 : F4} (hm : m + 11 < hn h) (X : PgX h p mm0 (I (t 0)) (I (t 1)) F0) (hp : p + 4 < hn h) (hP : PG' t) (W : PgW t F) (h128 : ∀ d, d < nc t → t (8 + d) < 128) (G : GC h ci (hn h)) :
    ∃ (h' : PH) (mm : Nat) (ms : Nat → Nat) (f1 : Nat → Int32), f_X3_renumber (some p) (pgh h p F) = some h' ∧ PgN m h' p mm ms (sRen t) (f1, F.2) ∧ (∀ a, a < hn h → (a < p ∨ p + 4 < a) → h'.1 a = h.1 a) ∧ (∀ k, k < rkTo (sRen t) (nc (sRen t)) → hn h ≤ ms k) ∧ (hn h ≤ hn h' ∧ hn h' ≤ hn h + 60) ∧ hs h' ≤ hs h + 900 ∧ hg h' = hg h := by
  have hnc := nc_le hP
  have hp0 : (pgh h p F).1 p = some (pgm p (I (t 0)) (I (t 1)) (some mm0)) := (pgh_o (Or.inl (Nat.le_refl _))).trans X.1
  have hG : GC (pgh h p F) ci (hn (pgh h p F)) := by
    obtain ⟨z, f, g1, g2, g3, g4, g5⟩ := G
    have key : ∀ a, h.1 a = none → (pgh h p F).1 a = none := fun a ha => by
      refine (pgh_o ?_).trans ha
      obtain ⟨x0, x1, x2, x3, x4⟩ := X
      have n1 : a ≠ p + 1 := fun e => by subst e; rw [x1] at ha; cases ha
      have n2 : a ≠ p + 2 := fun e => by subst e; rw [x2] at ha; cases ha
      have n3 : a ≠ p + 3 := fun e => by subst e; rw [x3] at ha; cases ha
      have n4 : a ≠ p + 4 := fun e => by subst e; rw [x4] at ha; cases ha
      omega
    exact ⟨z, f, g1, g2, key z g3, g4, fun v hv => by obtain ⟨a1, a2, a3, a4⟩ := g5 v hv; exact ⟨a1, a2, key _ a3, a4⟩⟩
  obtain ⟨h', mm, ms, r1, r2, r3, r4, r5, r6, r7, r8, r9, r10⟩ := renum (s := t) hp0 (show p + 4 < hn h from hp) hP pgh_1 (fun d hd => ⟨h128 d hd, (W.1 d hd).1⟩) hG
  have nh : hn (pgh h p F) = hn h := rfl
  have sh : hs (pgh h p F) = hs h := rfl
  rw [nh] at r5 r6 r7 r8
  have e0 : sRen t 0 = t 0 := sRen_ne (Or.inl (by decide)) hP
  have e1 : sRen t 1 = t 1 := sRen_ne (Or.inl (by decide)) hP
  have en := nc_sRen hP
  have er : rkTo (sRen t) (nc (sRen t)) = rkTo t (nc t) := by rw [en]; exact rkTo_sRen hP _ (Nat.le_refl _)
  have hAl : ∀ a, hn h ≤ a → a < hn h' → (∃ c, h'.1 a = some c ∧ (ki c = 1003 ∨ ki c = 1000)) → Al m h' a := fun a q1 q2 ⟨c, q3, q4⟩ => by
    refine ⟨q2, Or.inr (by omega), c, q3, ?_⟩
    unfold frz
    rcases q4 with q4 | q4 <;> rw [q4] <;> decide
  have o : ∀ k, 2 ≤ k → k ≤ 4 → h'.1 (p + k) = (pgh h p F).1 (p + k) := fun k h1 h2 => r5 (p + k) (by omega) (by omega) (by omega)
  refine ⟨h', mm, ms, _, r1, ⟨⟨by rw [e0, e1]; exact r2, r3, (o 2 (by decide) (by decide)).trans pgh_2, (o 3 (by decide) (by decide)).trans pgh_3, (o 4 (by decide) (by decide)).trans pgh_4⟩, ⟨fun c hc => ?_, fun i hi => ?_, W.2.2.1, W.2.2.2⟩, r4, by omega, hAl mm r6.1 r6.2.1 (by obtain ⟨c, q1, q2⟩ := r6.2.2; exact ⟨c, q1, Or.inl q2⟩), fun k hk => ?_⟩, fun a ha hw => ?_, fun k hk => ?_, r8, by omega, r10⟩
  · rw [en] at hc
    obtain ⟨w1, w2, w3⟩ := W.1 c hc
    refine ⟨?_, ?_, ?_⟩
    · show (if c < nc t then I (rk t c) else _) = _
      rw [if_pos hc, sRen_8 hc]
    · rw [sRen_ne (Or.inr (by omega)) hP]; exact w2
    · rw [sRen_ne (Or.inr (by omega)) hP]; exact w3
  · rw [e0, e1] at hi
    rw [sRen_ne (Or.inr (by omega)) hP]; exact W.2.1 i hi
  · rw [er] at hk
    obtain ⟨q1, q2, c, q3, q4⟩ := r7 k hk
    exact hAl (ms k) q1 q2 ⟨c, q3, Or.inr q4⟩
  · rw [r5 a ha (by omega) (by omega)]; exact pgh_o (by omega)
  · rw [er] at hk
    exact (r7 k hk).1
section OP9zv
variable {h : PH} {p q mm mm' R C : Nat} {ms s : Nat → Nat}
def Fm (s : Nat → Nat) (mu : Nat → Nat) (j : Nat) (F0 : F4) : F4 := (fun d => if d < j then I (s (8 + mu d)) else F0.1 d, fun d => if d < j then I (s (33 + mu d)) else F0.2.1 d, fun d => if d < j then I (s (58 + mu d)) else F0.2.2.1 d, F0.2.2.2)
theorem mir_L18 {F0 : F4} (hp : h.1 p = some (pgo p mm' (I (s 0)) (I (s 1)))) (H : ∀ F', PgR (pgh h p F') q mm ms s) (hP : PG' s) (hg : ∀ c, c < nc s → s (58 + c) ≤ 1) :
    f_X3_mirrored_L18 FU (some q) (some p) (I 0) (pgh h p F0) = f_X3_mirrored_L63 FU (some q) (some p) 0 (pgh h p (Fm s (mir (s 1)) (nc s) F0)) := by
  have hnc := nc_le hP
  obtain ⟨a1, a2, a3, a4⟩ := id hP
  have e0 : F0 = Fm s (mir (s 1)) 0 F0 := by
    unfold Fm
    simp only [Nat.not_lt_zero, if_false]
  have hpr := prm_mir hP
  refine (congrArg (fun F => f_X3_mirrored_L18 FU (some q) (some p) (I 0) (pgh h p F)) e0).trans ?_
  refine loop_FU (fun k (j : Nat) => f_X3_mirrored_L18 k (some q) (some p) (I j) (pgh h p (Fm s (mir (s 1)) j F0))) (fun j => j) (nc s) _ (by omega) (fun k j hj => ?_) (fun k => ?_)
  · have HH := H (Fm s (mir (s 1)) j F0)
    have hmj := prm_lt hpr.1 hj
    have hrow := cp_row HH hP hj
    have hcol := cp_col HH hP hj
    have hrp : rcv 3 (some p) (pgh h p (Fm s (mir (s 1)) j F0)) = some () := rcv_at ((pgh_o (Or.inl (Nat.le_refl _))).trans hp)
    have htk := pgh_take (i := j) (j := mir (s 1) j) hp HH (by omega) hmj (hg _ hmj) (fun F' => H F')
    have hmd : md j (s 1) < s 1 := by unfold md; exact Nat.mod_lt _ (by omega)
    have eix : I (s 1) * I (dv j (s 1)) + I (s 1) - 1 - I (md j (s 1)) = I (mir (s 1) j) := by
      rw [I_mul, I_add, show (1 : Int32) = I 1 from rfl, I_sub (by omega), I_sub (by omega)]
      unfold mir
      rw [Nat.mul_comm]
    have eF : (upd (Fm s (mir (s 1)) j F0).1 j (I (s (8 + mir (s 1) j))), upd (Fm s (mir (s 1)) j F0).2.1 j (I (s (33 + mir (s 1) j))), upd (Fm s (mir (s 1)) j F0).2.2.1 j (I (s (58 + mir (s 1) j))), (Fm s (mir (s 1)) j F0).2.2.2) = Fm s (mir (s 1)) (j + 1) F0 := by
      unfold Fm
      dsimp only
      rw [upd_up (g := fun d => I (s (8 + mir (s 1) d))) rfl, upd_up (g := fun d => I (s (33 + mir (s 1) d))) rfl, upd_up (g := fun d => I (s (58 + mir (s 1) d))) rfl]
    rw [eF] at htk
    show f_X3_mirrored_L18 (k + 1) _ _ (I j) _ = f_X3_mirrored_L18 k _ _ (I (j + 1)) _
    rw [f_X3_mirrored_L18, HH.rc, Option.bind_some, cp_cells HH, Option.bind_some, if_neg (by rw [I_le (by omega) (by omega)]; omega), HH.r1, Option.bind_some, HH.rc, Option.bind_some, hrow, Option.bind_some, HH.r1, Option.bind_some, HH.rc, Option.bind_some, hcol, Option.bind_some, hrp, Option.bind_some, eix, htk, Option.bind_some, show I j + 1 = I (j + 1) from I_add _ 1]
  · have HH := H (Fm s (mir (s 1)) (nc s) F0)
    show f_X3_mirrored_L18 (k + 1) _ _ (I (nc s)) _ = _
    rw [f_X3_mirrored_L18, HH.rc, Option.bind_some, cp_cells HH, Option.bind_some, if_pos (by rw [I_le (by omega) (by omega)]; exact Nat.le_refl _)]
/-- the shown sums taken over -/
def Fs (s : Nat → Nat) (mu : Nat → Nat) (j : Nat) (F0 : F4) : F4 := (F0.1, F0.2.1, F0.2.2.1, fun d => if d < j then I (s (83 + mu d)) else F0.2.2.2 d)
theorem Fs_up {s mu : Nat → Nat} {j : Nat} {F0 : F4} : ((Fs s mu j F0).1, (Fs s mu j F0).2.1, (Fs s mu j F0).2.2.1, upd (Fs s mu j F0).2.2.2 j (I (s (83 + mu j)))) = Fs s mu (j + 1) F0 := by
  unfold Fs
  dsimp only
  rw [upd_up (g := fun d => I (s (83 + mu d))) rfl]
theorem mir_L63 {F0 : F4} (hp : h.1 p = some (pgo p mm' (I (s 0)) (I (s 1)))) (H : ∀ F', PgR (pgh h p F') q mm ms s) (hP : PG' s) (hg : ∀ i, i < s 0 + s 1 → s (83 + i) ≤ 1) :
    f_X3_mirrored_L63 FU (some q) (some p) (I 0) (pgh h p F0) = f_X3_mirrored_L91 FU (some q) (some p) 0 (pgh h p (Fs s (lmir (s 0) (s 1)) (s 0) F0)) := by
  obtain ⟨a1, a2, a3, a4⟩ := id hP
  have e0 : F0 = Fs s (lmir (s 0) (s 1)) 0 F0 := by
    unfold Fs
    simp only [Nat.not_lt_zero, if_false]
  refine (congrArg (fun F => f_X3_mirrored_L63 FU (some q) (some p) (I 0) (pgh h p F)) e0).trans ?_
  refine loop_FU (fun k (j : Nat) => f_X3_mirrored_L63 k (some q) (some p) (I j) (pgh h p (Fs s (lmir (s 0) (s 1)) j F0))) (fun j => j) (s 0) _ (by omega) (fun k j hj => ?_) (fun k => ?_)
  · have HH := H (Fs s (lmir (s 0) (s 1)) j F0)
    have hr5 : gfr 3 5 (some p) (pgh h p (Fs s (lmir (s 0) (s 1)) j F0)) = some (some (p + 4)) := gfr_at (x := some (p + 4)) ((pgh_o (Or.inl (Nat.le_refl _))).trans hp) rfl
    have el : lmir (s 0) (s 1) j = j := by unfold lmir; rw [if_pos hj]
    have hw := pgh_w4 (h := h) (p := p) (F := Fs s (lmir (s 0) (s 1)) j F0) (i := j) (v := I (s (83 + lmir (s 0) (s 1) j))) (by omega)
    rw [Fs_up, el] at hw
    show f_X3_mirrored_L63 (k + 1) _ _ (I j) _ = f_X3_mirrored_L63 k _ _ (I (j + 1)) _
    rw [f_X3_mirrored_L63, HH.r0, Option.bind_some, if_neg (by rw [I_le (by omega) (by omega)]; omega), hr5, Option.bind_some, HH.r5, Option.bind_some, HH.sh (by omega), Option.bind_some, gb_le (hg j (by omega)), Option.bind_some, hw, Option.bind_some, show I j + 1 = I (j + 1) from I_add _ 1]
  · have HH := H (Fs s (lmir (s 0) (s 1)) (s 0) F0)
    show f_X3_mirrored_L63 (k + 1) _ _ (I (s 0)) _ = _
    rw [f_X3_mirrored_L63, HH.r0, Option.bind_some, if_pos (by rw [I_le (by omega) (by omega)]; exact Nat.le_refl _)]
theorem mir_L91 {F0 : F4} (hp : h.1 p = some (pgo p mm' (I (s 0)) (I (s 1)))) (H : ∀ F', PgR (pgh h p F') q mm ms s) (hP : PG' s) (hg : ∀ i, i < s 0 + s 1 → s (83 + i) ≤ 1) :
    f_X3_mirrored_L91 FU (some q) (some p) (I 0) (pgh h p (Fs s (lmir (s 0) (s 1)) (s 0) F0)) = (f_X3_renumber (some p) (pgh h p (Fs s (lmir (s 0) (s 1)) (s 0 + s 1) F0))).bind (fun h3 => some (some p, h3)) := by
  obtain ⟨a1, a2, a3, a4⟩ := id hP
  refine loop_FU (fun k (j : Nat) => f_X3_mirrored_L91 k (some q) (some p) (I j) (pgh h p (Fs s (lmir (s 0) (s 1)) (s 0 + j) F0))) (fun j => j) (s 1) _ (by omega) (fun k j hj => ?_) (fun k => ?_)
  · have HH := H (Fs s (lmir (s 0) (s 1)) (s 0 + j) F0)
    have hr5 : gfr 3 5 (some p) (pgh h p (Fs s (lmir (s 0) (s 1)) (s 0 + j) F0)) = some (some (p + 4)) := gfr_at (x := some (p + 4)) ((pgh_o (Or.inl (Nat.le_refl _))).trans hp) rfl
    have el : lmir (s 0) (s 1) (s 0 + j) = s 0 + s 1 - 1 - j := by unfold lmir; rw [if_neg (by omega)]; omega
    have hw := pgh_w4 (h := h) (p := p) (F := Fs s (lmir (s 0) (s 1)) (s 0 + j) F0) (i := s 0 + j) (v := I (s (83 + lmir (s 0) (s 1) (s 0 + j)))) (by omega)
    rw [Fs_up, el] at hw
    have ei : I (s 0) + I (s 1) - 1 - I j = I (s 0 + s 1 - 1 - j) := by
      rw [I_add, show (1 : Int32) = I 1 from rfl, I_sub (by omega), I_sub (by omega)]
    show f_X3_mirrored_L91 (k + 1) _ _ (I j) _ = f_X3_mirrored_L91 k _ _ (I (j + 1)) _
    rw [f_X3_mirrored_L91, HH.r1, Option.bind_some, if_neg (by rw [I_le (by omega) (by omega)]; omega), hr5, Option.bind_some, HH.r0, Option.bind_some, HH.r5, Option.bind_some, Option.bind_some, Option.bind_some, ei, HH.sh (by omega), Option.bind_some, gb_le (hg _ (by omega)), Option.bind_some, I_add, hw, Option.bind_some, show I j + 1 = I (j + 1) from I_add _ 1]
    rfl
  · have HH := H (Fs s (lmir (s 0) (s 1)) (s 0 + s 1) F0)
    have hrp : rcv 3 (some p) (pgh h p (Fs s (lmir (s 0) (s 1)) (s 0 + s 1) F0)) = some () := rcv_at ((pgh_o (Or.inl (Nat.le_refl _))).trans hp)
    show f_X3_mirrored_L91 (k + 1) _ _ (I (s 1)) _ = _
    rw [f_X3_mirrored_L91, HH.r1, Option.bind_some, if_pos (by rw [I_le (by omega) (by omega)]; exact Nat.le_refl _), hrp, Option.bind_some]
end OP9zv
