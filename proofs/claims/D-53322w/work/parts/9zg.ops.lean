/-! PLAIN LAW: the class: rule, run, step, rank -/
set_option maxRecDepth 100000
section OP9zg
variable {m x : Nat} {h : PH} {g : GS}
theorem c_mkrun (C : CI m h x g) (hI : RInv g.1) (hS : SB g.1) (G : G4 h) : ∃ h' e1 c1 e2 c2 p sh pb co mm ms v ra ru, nwO 19 4 [.null, .null, .null, .null] h = some (some (hn h), ov h [(.inr (19, [.null, .null, .null, .null]), 4)]) ∧ f_X22_init (some (hn h)) (some x) (ov h [(.inr (19, [.null, .null, .null, .null]), 4)]) = some h' ∧ RunP h h' (nc g.1) (hn h) x (hn h + 1) e1 c1 (hn h + 4) e2 c2 (hn h + 2) p (endF g.1 (g.1 2)).2 (endF g.1 (g.1 2)).1 ((sgL (fb g.1) (nc g.1)).map (fun i => (i, 0)) ++ rnkO (fb g.1) (endF g.1 (g.1 2)).1 0) ∧ hn h' ≤ hn h + 1000 ∧ hs h' ≤ hs h + 5000 ∧ (∀ h', Fr h h' → LKX m x g h' sh p pb co mm ms v ra ru) := by
  have hP := hI.1.1.1
  obtain ⟨sh, p, b, co, mm, ms, v, ra, ru, LK⟩ := C.lkx hP
  obtain ⟨h', e1, c1, e2, c2, r1, r2, r3, r4⟩ := run_new LK G hI.1.1 hI.1.2.1 hS
  refine ⟨h', e1, c1, e2, c2, p, sh, b, co, mm, ms, v, ra, ru, ?_, r1, r2, r3, r4, LK⟩
  have := ov_nwO (h := h) (l := []) (ci := 19) (n := 4) (fs := [.null, .null, .null, .null])
  rw [ov_nil] at this; exact this
theorem endF_ok {s : Nat → Nat} (hQ : QInv s) : (∀ t, t ∈ (endF s (s 2)).1 → t.1 < 5) ∧ (endF s (s 2)).1.length ≤ 150 := by
  have hW := fb_W7 hQ.NB
  exact ⟨fun t ht => (goN_mem 151 (fb s) t ht hW hQ.1).1, goE_len hQ.1⟩
theorem c_rule {y z : Int32} (C : CI m h x g) (hI : RInv g.1) (hS : SB g.1) (G : G4 h) (hZ : BZ g.1 (bd g.1)) : Res m x h (r_rule g y z, g) (f_X0_rule (some x) y z h) := by
  have hQ := hI.1.1
  have hN := hI.1.2.1
  have hP := hQ.1
  have hnc := nc_le hP
  obtain ⟨sh, p, b, co, mm, ms, r0, hpage, hbd, hsh, HB, B, r8, r9, r10, r11⟩ := C.lk hP
  have hir : f_X0_isRule y h = some (I (bit (bt y 0 4 = true)), h) := by
    simp (disch := first | omega | assumption) only [f_X0_isRule, betZ, lit_I, Option.bind_some, gb_bit]
  unfold r_rule
  cases h1 : bt y 0 4 with
  | false =>
    rw [h1] at hir
    refine Res.see C ?_
    simp only [Bool.false_and, Bool.false_eq_true, if_false]
    unfold f_X0_rule
    rw [hir, Option.bind_some, if_pos (show I (bit (false = true)) = 0 from bitZF)]
  | true =>
    rw [h1] at hir
    obtain ⟨e1, -, e3⟩ := bt_na (by decide) (by decide) h1
    generalize na y = r at *
    subst e1
    have pre : ∀ o, (if z = 0 then ((rcv 0 (some x) h).bind (fun u2 => (f_X0_sheet (some x) h).bind (fun q3 => (gfi 2 2 q3.1 q3.2).bind (fun t4 => (f_X0_has t4 (I r) q3.2).bind (fun q5 => if q5.1 = 0 then (some (0, q5.2)) else (some (1, q5.2))))))) else (if z = 1 then ((rcv 0 (some x) h).bind (fun u6 => (f_X0_sheet (some x) h).bind (fun q7 => (gfr 2 3 q7.1 q7.2).bind (fun t8 => (ald 0 t8 (I r) q7.2).bind (fun t9 => some (t9, q7.2)))))) else (if z = 2 then ((nwO 19 4 [.null, .null, .null, .null] h).bind (fun q10 => (nn q10.1).bind (fun u11 => (f_X22_init q10.1 (some x) q10.2).bind (fun h12 => (rcv 19 q10.1 h12).bind (fun u13 => (f_X22_stepsBy q10.1 (I r) h12).bind (fun q14 => some (q14.1, q14.2))))))) else (if z = 3 then ((gfr 0 3 (some x) h).bind (fun t15 => (gfr 5 0 t15 h).bind (fun t16 => (alr 5 t16 (I r) h).bind (fun t17 => (rcv 0 (some x) h).bind (fun u18 => (f_X0_board (some x) h).bind (fun q19 => if clo t17 q19.2 = some 6 then ((f_X6_strikes t17 q19.1 q19.2).bind (fun q20 => some (q20.1, q20.2))) else (if clo t17 q19.2 = some 7 then ((f_X6_strikes t17 q19.1 q19.2).bind (fun q21 => some (q21.1, q21.2))) else (if clo t17 q19.2 = some 8 then ((f_X6_strikes t17 q19.1 q19.2).bind (fun q22 => some (q22.1, q22.2))) else (if clo t17 q19.2 = some 9 then ((f_X6_strikes t17 q19.1 q19.2).bind (fun q23 => some (q23.1, q23.2))) else (if clo t17 q19.2 = some 10 then ((f_X6_strikes t17 q19.1 q19.2).bind (fun q24 => some (q24.1, q24.2))) else (none))))))))))) else (some ((-1), h)))))) = o → f_X0_rule (some x) (I r) z h = o := fun o ho => by
      unfold f_X0_rule
      rw [hir, Option.bind_some, if_neg (show ¬ I (bit (true = true)) = 0 by rw [bitZT]; decide)]
      exact ho
    cases h2 : bt z 0 3 with
    | false =>
      have hz : ∀ k, k ≤ 3 → ¬ z = I k := fun k hk e => by
        rw [e, bt_I (by omega) (by decide) (by decide)] at h2; simp at h2; omega
      refine Res.see C (pre _ ?_)
      simp only [Bool.and_false, Bool.false_eq_true, if_false]
      rw [if_neg (show ¬ z = 0 from hz 0 (by decide)), if_neg (show ¬ z = 1 from hz 1 (by decide)), if_neg (show ¬ z = 2 from hz 2 (by decide)), if_neg (show ¬ z = 3 from hz 3 (by decide))]
    | true =>
      obtain ⟨e4, -, e5⟩ := bt_na (by decide) (by decide) h2
      generalize na z = k at *
      subst e4
      simp only [Bool.and_self, if_true]
      have hk : k = 0 ∨ k = 1 ∨ k = 2 ∨ k = 3 := by omega
      rcases hk with e | e | e | e
      · subst e
        refine Res.see C (pre _ ?_)
        have hh := cl_has (g := h) (show g.1 2 < 2147483648 by have := hQ.2.1.1; omega) (show r < 32 by omega)
        rw [if_pos (show I 0 = 0 from rfl)]
        simp only [r0, hsh, r8, hh, Option.bind_some, if_true]
        have := b01_if (h := h) (a := bit ((g.1 2).testBit r = true)) (by have := bit_lt ((g.1 2).testBit r = true); omega)
        exact this
      · subst e
        refine Res.see C (pre _ ?_)
        rw [if_neg (show ¬ I 1 = 0 by decide), if_pos (show I 1 = 1 from rfl)]
        simp only [r0, hsh, r9, r11 r (by omega), Option.bind_some, Nat.one_ne_zero, if_false, if_true]
      · subst e
        obtain ⟨h', e1, c1, e2, c2, p', sh', pb', co', mm', ms', v', ra', ru', k1, k2, P, k3, k4, LK⟩ := c_mkrun C hI hS G
        obtain ⟨p1, p2, p3, p4, p5, F0⟩ := P.rd
        obtain ⟨w1, w2⟩ := endF_ok hQ
        obtain ⟨h2', s1, s2, s3, s4⟩ := run_stepsBy (rr := r) P (by omega) w1
        refine ⟨h2', pre _ ?_, (C.fr F0).fr s2, F0.keep.trans s2.keep, by omega, by omega⟩
        rw [if_neg (show ¬ I 2 = 0 by decide), if_neg (show ¬ I 2 = 1 by decide), if_pos (show I 2 = 2 from rfl), k1, Option.bind_some, nn, Option.bind_some, k2, Option.bind_some, p1, Option.bind_some, s1, Option.bind_some]
        rfl
      · subst e
        refine Res.see C (pre _ ?_)
        obtain ⟨v, ra, ru, w1, V⟩ := C.vrb
        have CC := CU_of HB.1 B V.1 hQ hN hS hI.1.W7 hI.1.B0
        have hst := cs_strikes CC hZ (show r < 5 by omega)
        obtain ⟨⟨q0, hq⟩, g2⟩ := id V.1
        obtain ⟨g3, g4⟩ := g2 r (by omega)
        have r5 : gfr 5 0 (some v) h = some (some ra) := gfr_at (x := some ra) hq rfl
        rw [if_neg (show ¬ I 3 = 0 by decide), if_neg (show ¬ I 3 = 1 by decide), if_neg (show ¬ I 3 = 2 by decide), if_pos (show I 3 = 3 from rfl), w1, Option.bind_some, r5, Option.bind_some, g3, Option.bind_some, r0, Option.bind_some, hbd, Option.bind_some]
        have nx : ∀ t, ¬ t = 6 + r → ¬ clo (some (ru r)) h = some t := fun t ht e => by rw [g4] at e; cases e; exact ht rfl
        have fin : ((f_X6_strikes (some (ru r)) (some b) h).bind fun q20 => some (q20.1, q20.2)) = some (I (stb g.1 (bd g.1) r), h) := by rw [hst]; rfl
        have hrr : r = 0 ∨ r = 1 ∨ r = 2 ∨ r = 3 ∨ r = 4 := by omega
        simp only [show ¬ (3 : Nat) = 0 by decide, show ¬ (3 : Nat) = 1 by decide, if_false, if_true]
        rcases hrr with rfl | rfl | rfl | rfl | rfl
        · rw [if_pos (show clo (some (ru 0)) h = some 6 from g4)]; exact fin
        · rw [if_neg (nx 6 (by decide)), if_pos (show clo (some (ru 1)) h = some 7 from g4)]; exact fin
        · rw [if_neg (nx 6 (by decide)), if_neg (nx 7 (by decide)), if_pos (show clo (some (ru 2)) h = some 8 from g4)]; exact fin
        · rw [if_neg (nx 6 (by decide)), if_neg (nx 7 (by decide)), if_neg (nx 8 (by decide)), if_pos (show clo (some (ru 3)) h = some 9 from g4)]; exact fin
        · rw [if_neg (nx 6 (by decide)), if_neg (nx 7 (by decide)), if_neg (nx 8 (by decide)), if_neg (nx 9 (by decide)), if_pos (show clo (some (ru 4)) h = some 10 from g4)]; exact fin
theorem c_step {y z : Int32} (C : CI m h x g) (hI : RInv g.1) (hS : SB g.1) (G : G4 h) : Res m x h (r_step g y z, g) (f_X0_step (some x) y z h) := by
  have hQ := hI.1.1
  unfold r_step
  by_cases h0 : y < I 0
  · rw [if_pos h0]
    refine Res.see C ?_
    unfold f_X0_step
    rw [if_pos (show y < 0 from h0)]
  · rw [if_neg h0]
    have hip : f_X0_isPart z h = some (I (bit (bt z 0 3 = true)), h) := by
      simp (disch := first | omega | assumption) only [f_X0_isPart, betZ, lit_I, Option.bind_some, gb_bit]
    cases h1 : bt z 0 3 with
    | false =>
      rw [h1] at hip
      refine Res.see C ?_
      unfold f_X0_step
      rw [if_neg (show ¬ y < 0 from h0), hip, Option.bind_some, if_pos (show I (bit (false = true)) = 0 from bitZF)]
      rfl
    | true =>
      rw [h1] at hip
      obtain ⟨e6, -, e7⟩ := bt_na (by decide) (by decide) h1
      obtain ⟨e8, e9⟩ := na_pos (x := y) (by rw [Int32.not_lt] at h0; exact h0)
      generalize na z = j at *
      generalize na y = i at *
      subst e6 e8
      simp only [if_true]
      obtain ⟨h', e1, c1, e2, c2, p', sh', pb', co', mm', ms', v', ra', ru', k1, k2, P, k3, k4, LK⟩ := c_mkrun C hI hS G
      obtain ⟨p1, p2, p3, p4, p5, F0⟩ := P.rd
      obtain ⟨w1, w2⟩ := endF_ok hQ
      obtain ⟨u1, u2⟩ := P.lst
      refine ⟨h', ?_, C.fr F0, F0.keep, by omega, by omega⟩
      unfold f_X0_step
      rw [if_neg (show ¬ I i < 0 from h0), hip, Option.bind_some, if_neg (show ¬ I (bit (true = true)) = 0 by rw [bitZT]; decide), k1, Option.bind_some, nn, Option.bind_some, k2, Option.bind_some, p2, Option.bind_some, u1, Option.bind_some, u2, Option.bind_some]
      by_cases hi : (endF g.1 (g.1 2)).1.length ≤ i
      · rw [if_pos (by rw [I_le (by omega) (by omega)]; exact hi), List.getElem?_eq_none hi]
      · have ht : (endF g.1 (g.1 2)).1[i]? = some ((endF g.1 (g.1 2)).1[i]'(by omega)) := List.getElem?_eq_getElem (by omega)
        obtain ⟨yy, zz, g1, g2, g3, g4, g5⟩ := P.get ht
        have r0 : gfr 22 0 (some yy) h' = some (some zz) := gfr_at (x := some zz) g3 rfl
        have e0 : ald 0 (some zz) (I j) h' = some (I (prt ((endF g.1 (g.1 2)).1[i]'(by omega)) j)) := by
          rw [ald_at g5 (by omega) (by decide)]
          have : j = 0 ∨ j = 1 ∨ j = 2 ∨ j = 3 := by omega
          rcases this with e | e | e | e <;> subst e <;> rfl
        have ck : chk 22 (some yy) h' = some () := by unfold chk; rw [if_pos (Or.inr (clo_at g3))]
        rw [if_neg (by rw [I_le (by omega) (by omega)]; exact hi), u1, Option.bind_some, g1, Option.bind_some, ck, Option.bind_some, r0, Option.bind_some, e0, Option.bind_some, ht]
theorem c_rank {y : Int32} (C : CI m h x g) (hI : RInv g.1) (hS : SB g.1) (G : G4 h) : Res m x h (r_rank g y, g) (f_X0_rank (some x) y h) := by
  have hQ := hI.1.1
  have hnc := nc_le hQ.1
  unfold r_rank
  by_cases h0 : 0 ≤ y
  · rw [if_pos h0]
    obtain ⟨e8, e9⟩ := na_pos h0
    generalize na y = i at *
    subst e8
    obtain ⟨h', e1, c1, e2, c2, p', sh', pb', co', mm', ms', v', ra', ru', k1, k2, P, k3, k4, LK⟩ := c_mkrun C hI hS G
    obtain ⟨p1, p2, p3, p4, p5, F0⟩ := P.rd
    obtain ⟨l, Q, a1, a2⟩ := P.rq
    have hW := fb_W7 hQ.NB
    have hmem : ∀ t, t ∈ (endF g.1 (g.1 2)).1 → t.2.1 < 1000000 := fun t ht => by
      have := (goN_mem 151 (fb g.1) t ht hW hQ.1).2.2.1
      omega
    have hsort : ((sgL (fb g.1) (nc g.1)).map (fun i => (i, 0)) ++ rnkO (fb g.1) (endF g.1 (g.1 2)).1 0).Pairwise ltO := by
      rw [List.pairwise_append]
      refine ⟨?_, rnkO_sorted (n := 0) _ _ _ hmem, fun a ha b hb => ?_⟩
      · rw [List.pairwise_map]
        have key : ∀ n, (sgL (fb g.1) n).Pairwise (fun a b => ltO (a, 0) (b, 0)) ∧ ∀ c, c ∈ sgL (fb g.1) n → c < n := by
          intro n
          induction n with
          | zero => exact ⟨List.Pairwise.nil, fun c hc => by cases hc⟩
          | succ n ih =>
            simp only [sgL]
            refine ⟨?_, fun c hc => ?_⟩
            · rw [List.pairwise_append]
              refine ⟨ih.1, ?_, fun a ha b hb => ?_⟩
              · split
                · exact List.pairwise_singleton _ _
                · exact List.Pairwise.nil
              · split at hb
                · have e : b = n := by simpa using hb
                  have := ih.2 a ha
                  unfold ltO; dsimp only; omega
                · cases hb
            · rcases List.mem_append.mp hc with q | q
              · have := ih.2 c q; omega
              · split at q
                · have e : c = n := by simpa using q
                  omega
                · cases q
        exact (key _).1
      · obtain ⟨c, hc, rfl⟩ := List.mem_map.mp ha
        have h1 := rnkO_ge _ _ _ b hb
        have h2 := sgL_mem _ _ hc
        unfold ltO; dsimp only; omega
    have hlen : ((sgL (fb g.1) (nc g.1)).map (fun i => (i, 0)) ++ rnkO (fb g.1) (endF g.1 (g.1 2)).1 0).length < FU := by
      have := rnkL_len hQ.NB
      have e : (rnkO (fb g.1) (endF g.1 (g.1 2)).1 0).length = (rnk (fb g.1) (endF g.1 (g.1 2)).1).length := by
        rw [← rnkO_fst (endF g.1 (g.1 2)).1 (fb g.1) 0, List.length_map]
      unfold rnkL at this
      rw [List.length_append] at this ⊢
      rw [List.length_map, e, FU_eq]; omega
    obtain ⟨h2, w1, w2, w3, w4, w5⟩ := RkQ_rank ⟨a1, a2⟩ _ l h' FU i Q hsort hlen e9 F0.1
    have F2 : Fr h h2 := F0.step (by omega) w4 w5
    refine ⟨h2, ?_, C.fr F2, F2.keep, by omega, by omega⟩
    unfold f_X0_rank f_X22_rank
    rw [if_pos h0, k1, Option.bind_some, nn, Option.bind_some, k2, Option.bind_some, p1, Option.bind_some, w1, Option.bind_some]
    have em : ∀ j : Nat, (rnkL g.1)[j]? = (((sgL (fb g.1) (nc g.1)).map (fun i => (i, 0)) ++ rnkO (fb g.1) (endF g.1 (g.1 2)).1 0)[j]?).map Prod.fst := fun j => by
      rw [← List.getElem?_map, List.map_append, List.map_map, rnkO_fst]
      have : ((Prod.fst ∘ fun i : Nat => (i, 0)) : Nat → Nat) = id := rfl
      rw [this, List.map_id]; rfl
    rw [em]
    cases (((sgL (fb g.1) (nc g.1)).map (fun i => (i, 0)) ++ rnkO (fb g.1) (endF g.1 (g.1 2)).1 0)[i]?) <;> rfl
  · rw [if_neg h0]
    refine Res.see C ?_
    unfold f_X0_rank
    rw [if_neg h0]
theorem c_run {y : Int32} (C : CI m h x g) (hI : RInv g.1) (hS : SB g.1) (G : G4 h) : Res m x h (r_run g y, g) (f_X0_run (some x) y h) := by
  have hQ := hI.1.1
  have hP := hQ.1
  have hib : f_X0_isBetween y 0 5 h = some (I (bit (bt y 0 5 = true)), h) := betZ (a := 0) (b := 5)
  unfold r_run
  cases h1 : bt y 0 5 with
  | false =>
    rw [h1] at hib
    refine Res.see C ?_
    unfold f_X0_run
    rw [hib, Option.bind_some, if_pos (show I (bit (false = true)) = 0 from bitZF)]
    rfl
  | true =>
    rw [h1] at hib
    obtain ⟨e6, -, e7⟩ := bt_na (by decide) (by decide) h1
    generalize na y = j at *
    subst e6
    simp only [if_true]
    obtain ⟨h', e1, c1, e2, c2, p', sh', pb', co', mm', ms', v', ra', ru', k1, k2, P, k3, k4, LK⟩ := c_mkrun C hI hS G
    obtain ⟨p1, p2, p3, p4, p5, F0⟩ := P.rd
    obtain ⟨w1, w2⟩ := endF_ok hQ
    obtain ⟨u1, u2⟩ := P.lst
    obtain ⟨B, -⟩ := P.bd hP
    obtain ⟨-, -, HB, -⟩ := LK h' F0
    have hW : W7 g.1 (endF g.1 (g.1 2)).2 := goN_W7 151 _ (fb_W7 hQ.NB)
    have hhd := run_hardest P w1 w2
    have hout := cb_outcome HB.1 B hP hW
    have hsum := cb_sumP HB.1 B hP hW
    obtain ⟨h3, wk1, wk2, wk3, wk4⟩ := run_work P LK w1
    generalize (endF g.1 (g.1 2)).1 = S at *
    generalize (endF g.1 (g.1 2)).2 = ww at *
    have top : ∀ o, (if I j = 0 then ((gfr 19 1 (some (hn h)) h').bind (fun t7 => (rcv 4 t7 h').bind (fun u8 => (f_X4_outcome t7 h').bind (fun q9 => some (q9.1, q9.2))))) else (if I j = 1 then ((gfr 19 0 (some (hn h)) h').bind (fun t10 => (rcv 29 t10 h').bind (fun u11 => (f_J24_size t10 h').bind (fun q12 => some (q12.1, q12.2))))) else (if I j = 2 then (if cz (firstI (fstG S) S.length) = (-99) then (some (0, h')) else ((gfr 19 0 (some (hn h)) h').bind (fun t13 => (rcv 29 t13 h').bind (fun u14 => (f_J24_get t13 (cz (firstI (fstG S) S.length)) h').bind (fun q15 => (chk 22 q15.1 q15.2).bind (fun u16 => (rcv 22 q15.1 q15.2).bind (fun u17 => (f_X25_rule q15.1 q15.2).bind (fun q18 => some (1 + q18.1, q18.2))))))))) else (if I j = 3 then ((rcv 19 (some (hn h)) h').bind (fun u19 => (f_X22_work (some (hn h)) h').bind (fun q20 => some (q20.1, q20.2)))) else (if I j = 4 then ((gfr 19 1 (some (hn h)) h').bind (fun t21 => (rcv 4 t21 h').bind (fun u22 => (f_X4_possible_2 t21 h').bind (fun q23 => some (q23.1, q23.2))))) else (some (cz (firstI (fstG S) S.length), h'))))))) = o → f_X0_run (some x) (I j) h = o := fun o ho => by
      unfold f_X0_run
      rw [hib, Option.bind_some, if_neg (show ¬ I (bit (true = true)) = 0 by rw [bitZT]; decide), k1, Option.bind_some, nn, Option.bind_some, k2, Option.bind_some, p1, Option.bind_some, hhd, Option.bind_some]
      exact ho
    have hj : j = 0 ∨ j = 1 ∨ j = 2 ∨ j = 3 ∨ j = 4 ∨ j = 5 := by omega
    have ne : ∀ a b : Nat, a < 6 → b < 6 → a ≠ b → ¬ I a = I b := fun a b h1 h2 h3 => by rw [I_eq (by omega) (by omega)]; exact h3
    rcases hj with e | e | e | e | e | e
    · subst e
      refine ⟨h', top _ ?_, C.fr F0, F0.keep, by omega, by omega⟩
      rw [if_pos (show I 0 = 0 from rfl), p3, Option.bind_some, B.rc, Option.bind_some]
      have : f_X4_outcome (some (hn h + 2)) h' = some (I (outc g.1 ww), h') := hout
      rw [this, Option.bind_some]; rfl
    · subst e
      refine ⟨h', top _ ?_, C.fr F0, F0.keep, by omega, by omega⟩
      rw [if_neg (show ¬ I 1 = 0 from ne 1 0 (by decide) (by decide) (by decide)), if_pos (show I 1 = 1 from rfl), p2, Option.bind_some, u1, Option.bind_some, u2, Option.bind_some]; rfl
    · subst e
      refine ⟨h', top _ ?_, C.fr F0, F0.keep, by omega, by omega⟩
      rw [if_neg (show ¬ I 2 = 0 from ne 2 0 (by decide) (by decide) (by decide)), if_neg (show ¬ I 2 = 1 from ne 2 1 (by decide) (by decide) (by decide)), if_pos (show I 2 = 2 from rfl)]
      rw [← hrd_first]
      obtain ⟨i1, i2⟩ := hrd_spec (l := S) S.length (Nat.le_refl _)
      by_cases z : S.length = 0
      · rw [i1 z, if_pos (show cz none = -99 from rfl), z]; rfl
      · obtain ⟨bb, b1, b2, b3, b4⟩ := i2 (by omega)
        have ht : S[bb]? = some (S[bb]'b2) := List.getElem?_eq_getElem b2
        obtain ⟨yy, zz, g1, g2, g3, g4, g5⟩ := P.get ht
        obtain ⟨x1, x2, x3⟩ := x25_rule g3 g5
        have hf1 : hrdF S bb = (S[bb]'b2).1 + 1 := by unfold hrdF; rw [ht]
        rw [b1, show cz (some bb) = I bb from rfl, if_neg (show ¬ I bb = -99 from I_neg_ne (b := 99) (by omega) (by decide) (by decide)), p2, Option.bind_some, u1, Option.bind_some, g1, Option.bind_some, x2, Option.bind_some, x3, Option.bind_some, x1, Option.bind_some, ← b3, hf1, show (1 : Int32) = I 1 from rfl, I_add]
        rw [if_neg (by decide), if_neg (by decide), if_pos rfl, Nat.add_comm]
    · subst e
      refine ⟨h3, top _ ?_, (C.fr F0).fr wk2, F0.keep.trans wk2.keep, by omega, by omega⟩
      rw [if_neg (show ¬ I 3 = 0 from ne 3 0 (by decide) (by decide) (by decide)), if_neg (show ¬ I 3 = 1 from ne 3 1 (by decide) (by decide) (by decide)), if_neg (show ¬ I 3 = 2 from ne 3 2 (by decide) (by decide) (by decide)), if_pos (show I 3 = 3 from rfl), p1, Option.bind_some, wk1, Option.bind_some]; rfl
    · subst e
      refine ⟨h', top _ ?_, C.fr F0, F0.keep, by omega, by omega⟩
      rw [if_neg (show ¬ I 4 = 0 from ne 4 0 (by decide) (by decide) (by decide)), if_neg (show ¬ I 4 = 1 from ne 4 1 (by decide) (by decide) (by decide)), if_neg (show ¬ I 4 = 2 from ne 4 2 (by decide) (by decide) (by decide)), if_neg (show ¬ I 4 = 3 from ne 4 3 (by decide) (by decide) (by decide)), if_pos (show I 4 = 4 from rfl), p3, Option.bind_some, B.rc, Option.bind_some, hsum, Option.bind_some]; rfl
    · subst e
      refine ⟨h', top _ ?_, C.fr F0, F0.keep, by omega, by omega⟩
      rw [if_neg (show ¬ I 5 = 0 from ne 5 0 (by decide) (by decide) (by decide)), if_neg (show ¬ I 5 = 1 from ne 5 1 (by decide) (by decide) (by decide)), if_neg (show ¬ I 5 = 2 from ne 5 2 (by decide) (by decide) (by decide)), if_neg (show ¬ I 5 = 3 from ne 5 3 (by decide) (by decide) (by decide)), if_neg (show ¬ I 5 = 4 from ne 5 4 (by decide) (by decide) (by decide))]; rfl
end OP9zg
