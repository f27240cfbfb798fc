/-! PLAIN LAW: the class: a board laid -/
set_option maxRecDepth 100000
/-- the first board's numbers, the first n of them -/
def fbI (s : Nat → Nat) (n : Nat) : Nat → Int32 := fun c => if c < n then I (fb s c) else 0
theorem fbI_up {s : Nat → Nat} {n : Nat} : upd (fbI s n) n (I (fb s n)) = fbI s (n + 1) := by
  funext j
  unfold upd fbI
  by_cases e : j = n
  · subst e; simp
  · by_cases e2 : j < n
    · simp [e, e2, show j < n + 1 by omega]
    · simp [e, e2, show ¬ j < n + 1 by omega]
/-- a board's cells, made at n -/
def bdl (n p : Nat) (f : Nat → Int32) : List (PC × Nat) := [(.inr (4, [.ref p, .ref (n + 1)]), 2), (nar 0 25 f, 25)]
theorem cb_init {h : PH} {p mm : Nat} {ms : Nat → Nat} {s : Nat → Nat} (H : PgB h p mm ms s) (hP : PG' s) (hNB : NB s) (hN : Nrm s) (hG : ∀ c, c < nc s → s (58 + c) ≤ 1) : f_X4_init (some (hn h + 0)) (some p) (ov h [(.inr (4, [.null, .null]), 2)]) = some (ov h (bdl (hn h) p (fbI s (nc s)))) := by
  have hn' := nc_le hP
  unfold f_X4_init
  simp (disch := first | omega | assumption) only [ov_nwO, ov_nwi, ov_nwr, ov_pfC, ovpf, ov_gfiC, ov_gfrC, ov_rcvC, ovob, List.length_cons, List.length_nil, Nat.reduceAdd, Nat.zero_add, List.nil_append, List.cons_append, List.getElem?_cons_zero, List.getElem?_cons_succ, List.getElem?_nil, List.set_cons_zero, List.set_cons_succ, Option.bind_some, Option.map_some, lit_I, va_rf, vI, vR, true_and, Nat.reduceLT, Nat.reduceLeDiff, Nat.reduceEqDiff, if_true, if_false, nn, ov_ov, ov_asiC, ovasi, inb_I, I_clamp, ]
  have hi : nar 0 25 (fun _ => I 0) = nar 0 25 (fbI s 0) := by
    refine congrArg (nar 0 25) (funext fun j => ?_)
    simp [fbI]; rfl
  rw [hi]
  refine loop_FU (fun k (q : Nat × (Nat → Int32)) => f_X4_init_L19 k (some (hn h + 0)) (some p) (I q.1) (ov h (bdl (hn h) p q.2))) (fun k => (k, fbI s k)) (nc s) _ (by omega) (fun k j hj => ?_) (fun k => ?_)
  · have Hv : PgR (ov h (bdl (hn h) p (fbI s j))) p mm ms s := H.ov.1
    obtain ⟨b1, b2, b3⟩ := hNB j hj
    have hw : asi 0 (some (hn h + 1)) (I j) (I (fb s j)) (ov h (bdl (hn h) p (fbI s j))) = some (ov h (bdl (hn h) p (fbI s (j + 1)))) := by
      rw [ov_asi (i := 1) (m := 25) (n := 25) rfl (by omega) (by decide), fbI_up]; rfl
    have hr : gfr 4 1 (some (hn h + 0)) (ov h (bdl (hn h) p (fbI s j))) = some (some (hn h + 1)) := ov_gfr (x := some (hn h + 1)) (i := 0) rfl rfl
    by_cases q : s (58 + j) = 1
    · have e : fb s j = 1 <<< s (33 + j) := by unfold fb; rw [if_pos q]
      rw [e] at hw
      simp (disch := first | omega | assumption) only [f_X4_init_L19, f_X4_init_B63, Hv.rc, cp_cells Hv, Option.bind_some, I_le, if_neg, hr, Hv.r4, Hv.g hj, q, lit_I, I_10, if_false, Hv.r3, Hv.n hj, I_shlI, hw, I_add]
    · have q0 : s (58 + j) = 0 := by have := hG j hj; omega
      have e : fb s j = 1 <<< (bsz s (s (8 + j)) + 1) - 2 := by unfold fb; rw [if_neg q]
      have e2 : 2 ≤ 1 <<< (bsz s (s (8 + j)) + 1) := by
        rw [Nat.one_shiftLeft]
        exact show 2 ^ 1 ≤ 2 ^ (bsz s (s (8 + j)) + 1) from Nat.pow_le_pow_right (show 0 < 2 by decide) (by omega)
      rw [e, ← I_sub e2] at hw
      simp (disch := first | omega | assumption) only [f_X4_init_L19, f_X4_init_B63, Hv.rc, cp_cells Hv, Option.bind_some, I_le, if_neg, hr, Hv.r4, Hv.g hj, q0, lit_I, if_true, cp_size Hv hN hj, I_shlI, hw, I_add]
  · have Hv : PgR (ov h (bdl (hn h) p (fbI s (nc s)))) p mm ms s := H.ov.1
    simp (disch := first | omega | assumption) only [f_X4_init_L19, Hv.rc, cp_cells Hv, Option.bind_some, I_le, if_pos]
/-- a new board behind the heap -/
theorem cb_new {h : PH} {p mm : Nat} {ms : Nat → Nat} {s : Nat → Nat} (H : PgB h p mm ms s) (hP : PG' s) (hNB : NB s) (hN : Nrm s) (hG : ∀ c, c < nc s → s (58 + c) ≤ 1) : nwO 4 2 [.null, .null] h = some (some (hn h + 0), ov h [(.inr (4, [.null, .null]), 2)]) ∧ f_X4_init (some (hn h + 0)) (some p) (ov h [(.inr (4, [.null, .null]), 2)]) = some (ov h (bdl (hn h) p (fbI s (nc s)))) := by
  refine ⟨?_, cb_init H hP hNB hN hG⟩
  have := ov_nwO (h := h) (l := []) (ci := 4) (n := 2) (fs := [.null, .null])
  rw [ov_nil] at this
  exact this
theorem BdC_bdl {h : PH} {p : Nat} {f : Nat → Int32} : BdC (ov h (bdl (hn h) p f)) (hn h) p f :=
  ⟨ov_at (i := 0) (n := 2) rfl, ov_at (i := 1) (n := 25) rfl⟩
theorem cs_reset {h : PH} {sh p mm : Nat} {ms : Nat → Nat} {s : Nat → Nat} {x1 x2 x3 : Value} (hs : h.1 sh = some (.inr (2, [.ref p, x1, x2, x3]))) (hsh : sh < hn h) (H : PgB h p mm ms s) (hP : PG' s) (hNB : NB s) (hN : Nrm s) (hG : ∀ c, c < nc s → s (58 + c) ≤ 1) : f_X2_reset (some sh) h = some (ov (hset h sh (.inr (2, [.ref p, .ref (hn h), x2, x3]))) (bdl (hn h) p (fbI s (nc s)))) := by
  obtain ⟨e1, e2⟩ := cb_new H hP hNB hN hG
  have e3 : gfr 2 0 (some sh) (ov h [(.inr (4, [.null, .null]), 2)]) = some (some p) := by
    rw [ov_gfr_o hsh]; exact gfr_at (x := some p) hs rfl
  have e4 : pf 2 1 (some sh) (va_rf (some (hn h + 0))) (ov h (bdl (hn h) p (fbI s (nc s)))) = some (ov (hset h sh (.inr (2, [.ref p, .ref (hn h), x2, x3]))) (bdl (hn h) p (fbI s (nc s)))) := by
    rw [pf_at (fs := [.ref p, x1, x2, x3]) ((ov_old hsh).trans hs) (by simp), ov_hset hsh]; rfl
  simp only [f_X2_reset, e1, e2, e3, e4, Option.bind_some, nn]
