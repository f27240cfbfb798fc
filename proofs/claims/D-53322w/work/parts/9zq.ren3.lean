/-! PLAIN LAW: the class: renumber -/
set_option maxRecDepth 100000
theorem rkTo_sRen {s : Nat → Nat} (hP : PG' s) : ∀ n, n ≤ nc s → rkTo (sRen s) n = rkTo s n := fun n hm => by
  refine sumTo_congr (fun d hd => bit_congr ?_)
  unfold isF
  rw [fst_sRen hP (by omega)]
theorem renum {hs0 : PH} {p : Nat} {ci : Nat → Nat} {s : Nat → Nat} {f1 : Nat → Int32} {om : Option Nat} (hp : hs0.1 p = some (pgm p (I (s 0)) (I (s 1)) om)) (hpl : p + 4 < hn hs0) (hP : PG' s) (hb1 : hs0.1 (p + 1) = some (nar 0 25 f1)) (h128 : ∀ d, d < nc s → s (8 + d) < 128 ∧ f1 d = I (s (8 + d))) (G : GC hs0 ci (hn hs0)) :
    ∃ (h' : PH) (mm : Nat) (ms : Nat → Nat), f_X3_renumber (some p) hs0 = some h' ∧ h'.1 p = some (pgm p (I (s 0)) (I (s 1)) (some mm)) ∧ h'.1 (p + 1) = some (nar 0 25 (fun d => if d < nc s then I (rk s d) else f1 d)) ∧ MbR h' mm ms (sRen s) ∧ (∀ a, a < hn hs0 → a ≠ p → a ≠ p + 1 → h'.1 a = hs0.1 a) ∧ (hn hs0 ≤ mm ∧ mm < hn h' ∧ ∃ c, h'.1 mm = some c ∧ ki c = 1003) ∧ (∀ b, b < rkTo s (nc s) → hn hs0 ≤ ms b ∧ ms b < hn h' ∧ ∃ c, h'.1 (ms b) = some c ∧ ki c = 1000) ∧ (hn hs0 ≤ hn h' ∧ hn h' ≤ hn hs0 + 60) ∧ hs h' ≤ hs hs0 + 900 ∧ hg h' = hg hs0 := by
  have hnc := nc_le hP
  have hrl := rkTo_le s (nc s)
  -- the start
  have start : RN hs0 p ci s f1 0 (ov hs0 [(tmc none none 0 0, 9), (nar 0 25 (fun _ => 0), 25)]) := by
    have O : Old hs0 (ov hs0 [(tmc none none 0 0, 9), (nar 0 25 (fun _ => 0), 25)]) := Old.ov
    have c0 : (ov hs0 [(tmc none none 0 0, 9), (nar 0 25 (fun _ => 0), 25)]).1 (hn hs0) = some (tmc none none 0 0) := ov_at (i := 0) (n := 9) rfl
    have c1 : (ov hs0 [(tmc none none 0 0, 9), (nar 0 25 (fun _ => 0), 25)]).1 (hn hs0 + 1) = some (nar 0 25 (fun _ => 0)) := ov_at (i := 1) (n := 25) rfl
    refine ⟨ov hs0 [(tmc none none 0 0, 9), (nar 0 25 (fun _ => 0), 25)], fun _ => false, fun _ => 0, fun _ => False, ⟨fun _ => 0, 0, fun _ => none, none, fun _ => none, fun _ => none, fun _ => none, fun _ => 0, fun _ => 0, ?_, ⟨fun _ => 0, fun _ => 0, fun _ _ => False, ⟨fun n h => (by cases h), fun n c h => (by cases h), fun n c h => (by cases h), fun c q h => (by cases h), fun c h => (by cases h), fun c h => (by cases h), fun n h => (by cases h)⟩, fun k _ => ⟨fun h => h.elim, fun ⟨rt, h, _⟩ => (by cases h)⟩⟩, fun n h => (by cases h), ⟨by show hn hs0 < hn hs0 + 2; omega, Nat.le_refl _⟩, fun n h => (by cases h), fun n h => (by cases h), fun _ => rfl, G.low rfl (fun a ha => O.2.2 a ha)⟩, fun k => ⟨fun h => h.elim, fun ⟨d, hd, _⟩ => (by omega)⟩, fun d hd => (by omega), ?_, c1, fun a ha _ => O.2.2 a ha, rfl, ⟨Nat.le_refl _, Nat.le_refl _⟩, by show hs hs0 + 34 ≤ _; omega, rfl⟩
    · refine Prod.ext ?_ rfl
      funext a
      show _ = (if a = hn hs0 then some (tmc none none (I 0) 0) else if false = true then _ else (ov hs0 [(tmc none none 0 0, 9), (nar 0 25 (fun _ => 0), 25)]).1 a)
      by_cases e : a = hn hs0
      · rw [if_pos e, e, c0]; rfl
      · rw [if_neg e, if_neg (by decide)]
    · rw [O.2.2 _ (by omega), hb1]
      refine congrArg (fun f => some (nar 0 25 f)) ?_
      funext d; rw [if_neg (by omega)]
  obtain ⟨H, g1, R⟩ := ren_L15 hp hpl hP h128 (nc s) 0 FU _ (by omega) (by rw [FU_eq]; omega) start
  obtain ⟨h0, N, M, K, P, r1, r2, r3, r4, r5, r6, ⟨r7, r8⟩, r9, r10⟩ := R
  obtain ⟨n1, n2, n3, n4, n5⟩ := P.nn
  have HA : ∀ a, (a < hn hs0 ∨ a = hn hs0 + 1) → H.1 a = h0.1 a := fun a ha => by
    refine P.old ?_ (by omega)
    cases hh : N a with
    | false => rfl
    | true =>
      have := n4 a hh
      rcases ha with ha | ha
      · omega
      · rw [ha, r6] at hh; cases hh
  have Hp : H.1 p = some (pgm p (I (s 0)) (I (s 1)) om) := (HA p (Or.inl (by omega))).trans ((r5 p (by omega) (by omega)).trans hp)
  have Hp1 := (HA (p + 1) (Or.inl (by omega))).trans r3
  have Hca := (HA (hn hs0 + 1) (Or.inr rfl)).trans r4
  obtain ⟨rc, hsz⟩ := P.rc
  -- the members' array
  generalize hgb : hset H p (pgm p (I (s 0)) (I (s 1)) (some (hn H))) = Hb
  have nb : hn Hb = hn H := by rw [← hgb]; rfl
  have sb : hs Hb = hs H := by rw [← hgb]; rfl
  have gb' : hg Hb = hg H := by rw [← hgb]; rfl
  have bp : Hb.1 p = some (pgm p (I (s 0)) (I (s 1)) (some (hn Hb))) := by rw [nb, ← hgb]; exact hset_at
  have bo : ∀ a, a ≠ p → Hb.1 a = H.1 a := fun a ha => by rw [← hgb]; exact hset_ne ha
  have bp1 := (bo (p + 1) (by omega)).trans Hp1
  have bca := (bo (hn hs0 + 1) (by omega)).trans Hca
  have e1 : nwr 3 (I (rkTo s (nc s))) H = some (some (hn H), ov H [(rar 3 (rkTo s (nc s)) (fun _ => none), rkTo s (nc s))]) := by
    have := ov_nwr (h := H) (l := []) (t := 3) (k := rkTo s (nc s)) (by omega)
    rw [ov_nil] at this; exact this
  have e2 : pf 3 6 (some p) (va_rf (some (hn H))) (ov H [(rar 3 (rkTo s (nc s)) (fun _ => none), rkTo s (nc s))]) = some (ov Hb (LM (hn Hb) (rkTo s (nc s)) 0 (cntR s (nc s)) (fun _ _ => 0))) := by
    have u1 : (ov H [(rar 3 (rkTo s (nc s)) (fun _ => none), rkTo s (nc s))]).1 p = some (pgm p (I (s 0)) (I (s 1)) om) := (ov_old (by omega)).trans Hp
    rw [pf_at u1 (by simp), ov_hset (by omega)]
    have : hset H p (.inr (3, [Value.int (I (s 0)), .int (I (s 1)), .ref (p + 1), .ref (p + 2), .ref (p + 3), .ref (p + 4), va_rf om].set 6 (va_rf (some (hn H))))) = Hb := by rw [← hgb]; rfl
    unfold pgm at *
    rw [this]
    unfold LM
    have : (fun b => if b < 0 then some (hn Hb + 1 + b) else none) = fun _ : Nat => (none : Option Nat) := by funext b; rw [if_neg (by omega)]
    rw [this]; rfl
  have e3 := ren_L120 (s := s) (n := rkTo s (nc s)) (sz := cntR s (nc s)) bp (by omega) bca (by omega) (by omega) (fun b => by have := cntR_le (s := s) (nc s) b; omega)
  have etop : ov Hb (LM (hn Hb) (rkTo s (nc s)) (rkTo s (nc s)) (cntR s (nc s)) (fun _ _ => 0)) = ov (hset Hb (hn hs0 + 1) (nar 0 25 (fun b => I (cntR s (nc s) b)))) (LM (hn Hb) (rkTo s (nc s)) (rkTo s (nc s)) (cntR s (nc s)) (FR s (nc s))) := by
    rw [hset_self bca]
    congr 2
    funext b
    exact (FR_top hP).symm
  have e4 := ren_L153 (s := s) (ca := hn hs0 + 1) (g := fun d => if d < nc s then I (rk s d) else f1 d) hP bp (by omega) bp1 (fun c hc => if_pos hc) (by omega) ⟨by omega, by omega⟩ ⟨_, bca⟩ (nc s) FU (Nat.le_refl _) (by rw [FU_eq]; omega)
  rw [← etop] at e4
  have rp3 : ∀ l, rcv 3 (some p) (ov Hb l) = some () := fun l => by rw [ov_rcv_o (by omega)]; exact rcv_at bp
  have rcl : ∀ l, f_X3_cells (some p) (ov Hb l) = some (I (nc s), ov Hb l) := fun l => by
    have a0 : gfi 3 0 (some p) (ov Hb l) = some (I (s 0)) := by rw [ov_gfi_o (by omega)]; exact gfi_at bp rfl
    have a1 : gfi 3 1 (some p) (ov Hb l) = some (I (s 1)) := by rw [ov_gfi_o (by omega)]; exact gfi_at bp rfl
    unfold f_X3_cells
    rw [a0, Option.bind_some, a1, Option.bind_some, I_mul]; rfl
  have hLM : ∀ b, b < rkTo s (nc s) → (LM (hn Hb) (rkTo s (nc s)) (rkTo s (nc s)) (cntR s (nc s)) (FR s 0))[1 + b]? = some (nar 0 (cntR s (nc s) b) (FR s 0 b), cntR s (nc s) b) := fun b hb => by
    unfold LM
    rw [show 1 + b = b + 1 by omega, List.getElem?_cons_succ, List.getElem?_map, List.getElem?_range hb]; rfl
  have nh : hn (hset Hb (hn hs0 + 1) (nar 0 25 (fun b => I (cntR s 0 b)))) = hn Hb := rfl
  have fo : ∀ a, a < hn Hb → a ≠ hn hs0 + 1 → (ov (hset Hb (hn hs0 + 1) (nar 0 25 (fun b => I (cntR s 0 b)))) (LM (hn Hb) (rkTo s (nc s)) (rkTo s (nc s)) (cntR s (nc s)) (FR s 0))).1 a = Hb.1 a := fun a ha hne => by
    rw [ov_old (by rw [nh]; exact ha), hset_ne hne]
  have fm : (ov (hset Hb (hn hs0 + 1) (nar 0 25 (fun b => I (cntR s 0 b)))) (LM (hn Hb) (rkTo s (nc s)) (rkTo s (nc s)) (cntR s (nc s)) (FR s 0))).1 (hn Hb + 0) = some (rar 3 (rkTo s (nc s)) (fun b => if b < rkTo s (nc s) then some (hn Hb + 1 + b) else none)) := ov_at (h := hset Hb (hn hs0 + 1) (nar 0 25 (fun b => I (cntR s 0 b)))) (i := 0) rfl
  have fms : ∀ b, b < rkTo s (nc s) → (ov (hset Hb (hn hs0 + 1) (nar 0 25 (fun b => I (cntR s 0 b)))) (LM (hn Hb) (rkTo s (nc s)) (rkTo s (nc s)) (cntR s (nc s)) (FR s 0))).1 (hn Hb + (1 + b)) = some (nar 0 (cntR s (nc s) b) (FR s 0 b)) := fun b hb => ov_at (h := hset Hb (hn hs0 + 1) (nar 0 25 (fun b => I (cntR s 0 b)))) (hLM b hb)
  have hlen : (LM (hn Hb) (rkTo s (nc s)) (rkTo s (nc s)) (cntR s (nc s)) (FR s 0)).length = 1 + rkTo s (nc s) := by simp [LM]; omega
  have hsum : ((LM (hn Hb) (rkTo s (nc s)) (rkTo s (nc s)) (cntR s (nc s)) (FR s 0)).map Prod.snd).sum ≤ 26 * 25 := by
    have key : ∀ j, (((List.range j).map (fun b => (nar 0 (cntR s (nc s) b) (FR s 0 b), cntR s (nc s) b))).map Prod.snd).sum ≤ j * 25 := by
      intro j
      induction j with
      | zero => exact Nat.le_refl _
      | succ j ih =>
        rw [List.range_succ, List.map_append, List.map_append, List.sum_append]
        have := cntR_le (s := s) (nc s) j
        simp only [List.map_cons, List.map_nil, List.sum_cons, List.sum_nil]
        omega
    have := key (rkTo s (nc s))
    unfold LM
    simp only [List.map_cons, List.sum_cons]
    omega
  have hrk := rkTo_sRen hP (nc s) (Nat.le_refl _)
  have hncs := nc_sRen hP
  refine ⟨_, hn Hb, fun b => hn Hb + (1 + b), ?_, ?_, ?_, ?_, fun a ha h1 h2 => ?_, ⟨by omega, ?_, _, fm, rfl⟩, fun b hb => ⟨by show hn hs0 ≤ hn Hb + (1 + b); omega, ?_, _, fms b hb, rfl⟩, ⟨?_, ?_⟩, ?_, ?_⟩
  · -- the walk
    obtain ⟨k, hk⟩ : ∃ k, FU - nc s = k + 1 := ⟨999999 - nc s, by rw [FU_eq]; omega⟩
    rw [hk] at g1
    have w0 : f_X3_renumber (some p) hs0 = f_X3_renumber_L15 FU (some p) (some (hn hs0)) (some (hn hs0 + 1)) (I 0) (ov hs0 [(tmc none none 0 0, 9), (nar 0 25 (fun _ => 0), 25)]) := by
      have e0 : f_X3_renumber (some p) hs0 = f_X3_renumber (some p) (ov hs0 []) := by rw [ov_nil]
      rw [e0]
      unfold f_X3_renumber f_J1_init f_J0_init
      simp (disch := first | omega | assumption) only [ov_nwO, ov_nwi, ov_nwr, ov_pfC, ovpf, ov_gfiC, ov_gfrC, ov_rcvC, ovob, List.length_cons, List.length_nil, Nat.reduceAdd, Nat.zero_add, List.nil_append, List.cons_append, List.getElem?_cons_zero, List.getElem?_cons_succ, List.getElem?_nil, List.set_cons_zero, List.set_cons_succ, Option.bind_some, Option.map_some, lit_I, va_rf, vI, vR, true_and, Nat.reduceLT, Nat.reduceLeDiff, Nat.reduceEqDiff, if_true, if_false, nn, ov_ov, ov_asiC, ovasi, inb_I, I_clamp, ]
      rfl
    have q1 : rcv 3 (some p) H = some () := rcv_at Hp
    have a0 : gfi 3 0 (some p) H = some (I (s 0)) := gfi_at Hp rfl
    have a1 : gfi 3 1 (some p) H = some (I (s 1)) := gfi_at Hp rfl
    have q3 : f_X3_cells (some p) H = some (I (nc s), H) := by
      unfold f_X3_cells
      rw [a0, Option.bind_some, a1, Option.bind_some, I_mul]; rfl
    rw [w0, g1, f_X3_renumber_L15, q1, Option.bind_some, q3, Option.bind_some, if_pos (by rw [I_le (by omega) (by omega)]; exact Nat.le_refl _), rc, Option.bind_some, hsz, Option.bind_some, e1, Option.bind_some, e2, Option.bind_some]
    show f_X3_renumber_L120 FU (some p) (some (hn hs0 + 1)) (I 0) _ = _
    rw [e3, rp3, Option.bind_some, rcl, Option.bind_some, Int32.sub_eq_add_neg]
    exact e4
  · rw [fo p (by omega) (by omega)]; exact bp
  · rw [fo (p + 1) (by omega) (by omega)]; exact bp1
  · refine ⟨?_, fun b hb => ?_⟩
    · rw [hncs, hrk]; exact aln_at (a := hn Hb + 0) fm
    · rw [hncs, hrk] at hb
      have hbl : bl (sRen s) b = blTo (sRen s) b (nc s) := by unfold bl; rw [hncs]
      have hln : bsz (sRen s) b = cntR s (nc s) b := by rw [← bl_len, hbl, cnt_len hP (Nat.le_refl _)]
      refine ⟨?_, ?_, fun k x hx => ?_⟩
      · have : alr 3 (some (hn Hb + 0)) (I b) (ov (hset Hb (hn hs0 + 1) (nar 0 25 (fun b => I (cntR s 0 b)))) (LM (hn Hb) (rkTo s (nc s)) (rkTo s (nc s)) (cntR s (nc s)) (FR s 0))) = some (some (hn Hb + (1 + b))) := by
          rw [alr_at fm hb (by omega), if_pos hb]
          exact congrArg (fun z => some (some z)) (by omega)
        exact this
      · rw [hln]; exact aln_at (fms b hb)
      · rw [hbl] at hx
        have hk : k < cntR s (nc s) b := by
          rw [← cnt_len hP (Nat.le_refl _)]
          exact (List.getElem?_eq_some_iff.mp hx).1
        have := cntR_le (s := s) (nc s) b
        rw [ald_at (fms b hb) hk (by omega)]
        unfold FR
        rw [if_pos (show cntR s 0 b ≤ k from Nat.zero_le _), hx]
  · rw [fo a (by omega) (by omega), bo a h1, HA a (Or.inl ha), r5 a ha h2]
  · rw [ov_hn, nh, hlen]; omega
  · show hn Hb + (1 + b) < _
    rw [ov_hn, nh, hlen]; omega
  · rw [ov_hn, nh, hlen]; omega
  · rw [ov_hn, nh, hlen]; omega
  · rw [ov_hs]
    have : hs (hset Hb (hn hs0 + 1) (nar 0 25 (fun b => I (cntR s 0 b)))) = hs Hb := rfl
    omega
  · show hg Hb = hg hs0
    rw [gb', n3, r10]
