/-! PLAIN LAW: the class: a run -/
set_option maxRecDepth 100000
theorem PQX_ext {kd : Nat} {h : PH} {κ κ' : Nat → Nat} {a ea cap : Nat} {l : List Nat} (P : PQX kd h κ a ea cap l) (he : ∀ e, e < hn h → κ' e = κ e) : PQX kd h κ' a ea cap l := by
  obtain ⟨fe, cm, mc, q, a1, a2, a3, a4, a5, a6, a7, a8, a9, a10, a11, a12, a13, a14⟩ := P
  refine ⟨fe, cm, mc, q, a1, a2, a3, a4, a5, a6, a7, a8, fun i hi => ?_, fun i h1 h2 => ?_, a11, a12, a13, a14⟩
  · obtain ⟨⟨c, v, e1, e2, e3, e4⟩, g⟩ := a9 i hi
    exact ⟨⟨c, v, e1, e2, e3, (he _ g).trans e4⟩, g⟩
  · rw [he _ (a9 _ h2).2, he _ (a9 (par i) (by unfold par; omega)).2]; exact a10 i h1 h2
theorem PQX_mem {kd : Nat} {h : PH} {κ : Nat → Nat} {a ea cap : Nat} {l : List Nat} (P : PQX kd h κ a ea cap l) {y : Nat} (hy : y ∈ l) : ELX kd h κ y ∧ y < hn h := by
  obtain ⟨fe, cm, mc, q, a1, a2, a3, a4, a5, a6, a7, a8, a9, a10, a11, a12⟩ := P
  have := List.count_pos_iff.mpr hy
  rw [← a11, cnt_pos] at this
  obtain ⟨j, j1, j2⟩ := this
  rw [← j2]; exact a9 j j1
section RUN9z
variable {h0 h : PH} {r x a1 e1 c1 a2 e2 c2 b p mm : Nat} {ms : Nat → Nat} {s w : Nat → Nat} {S : List SP4} {R : List (Nat × Nat)}
/-- a cell that has become known -/
theorem run_know {c : Nat} (P : RunP h0 h (nc s) r x a1 e1 c1 a2 e2 c2 b p w S R) (hP : PG' s) (hW : W7 s w) (hc : c < nc s) (hR : R.length < 60) (hS : S.length < 1000) :
    ∃ h' e2' c2', f_X22_know (some r) (I c) h = some h' ∧ RunP h0 h' (nc s) r x a1 e1 c1 a2 e2' c2' b p w S (R ++ (if pc (w c) = 1 then [(c, S.length)] else [])) ∧ hn h' ≤ hn h + 2 ∧ hs h' + 2 * c2 ≤ hs h + 2 * c2' + 2 := by
  have hnc := nc_le hP
  obtain ⟨l1, l2, κ, fw, q1, ⟨q2, q3, q4⟩, ⟨q5, q7⟩, ⟨q8, q9, q10⟩, ⟨q11, q12⟩, ⟨g1, g2, g3, g4, g5, g6⟩, q14, q15⟩ := id P
  have r1 : gfr 19 1 (some r) h = some (some b) := gfr_at (x := some b) q1 rfl
  have r2 : gfr 19 2 (some r) h = some (some a2) := gfr_at (x := some a2) q1 rfl
  have r0 : gfr 19 0 (some r) h = some (some a1) := gfr_at (x := some a1) q1 rfl
  have B : BdR h b p s w := q5.R hnc.2 q7
  have hps := cb_possible B hW hc
  have hpl := pc_le (w c)
  by_cases hp : pc (w c) = 1
  · rw [if_pos hp]
    rw [hp] at hps
    -- the new element
    have O1 : Old h (ov h [(.inr (21, [.int (I c), .int (I S.length)]), 2)]) := Old.ov
    have hy1 : (ov h [(.inr (21, [.int (I c), .int (I S.length)]), 2)]).1 (hn h) = some (.inr (21, [.int (I c), .int (I S.length)])) := ov_at (i := 0) (n := 2) rfl
    have P1 := P.fr O1.fr
    have hPQ : PQX 20 (ov h [(.inr (21, [.int (I c), .int (I S.length)]), 2)]) (nqs κ (hn h) (S.length * 1000000 + c)) a2 e2 c2 l2 := (PQX_ext q8 (κ' := nqs κ (hn h) (S.length * 1000000 + c)) (fun e he => by unfold nqs; rw [if_neg (by omega)])).frF (by right; right; right; rfl) O1.fr
    have hE : ELX 20 (ov h [(.inr (21, [.int (I c), .int (I S.length)]), 2)]) (nqs κ (hn h) (S.length * 1000000 + c)) (hn h) := ⟨c, S.length, hy1, by omega, by omega, by unfold nqs; rw [if_pos rfl]; rfl⟩
    have hsz := al_size (q2.frF O1.fr)
    have hrc := al_rc (q2.frF O1.fr)
    have hsz0 := al_size q2
    have e0 : nwO 21 2 [.int 0, .int 0] h = some (some (hn h), ov h [(.inr (21, [.int 0, .int 0]), 2)]) := by
      have := ov_nwO (h := h) (l := []) (ci := 21) (n := 2) (fs := [.int 0, .int 0])
      rw [ov_nil] at this; exact this
    have O0 : Fr h (ov h [(.inr (21, [.int 0, .int 0]), 2)]) := Old.fr Old.ov
    have r0' : gfr 19 0 (some r) (ov h [(.inr (21, [.int 0, .int 0]), 2)]) = some (some a1) := by rw [ov_gfr_o q11]; exact r0
    have hsz' := al_size (q2.frF O0)
    have hrc' := al_rc (q2.frF O0)
    have ei : f_X24_init (some (hn h + 0)) (I c) (I l1.length) (ov h [(.inr (21, [.int 0, .int 0]), 2)]) = some (ov h [(.inr (21, [.int (I c), .int (I S.length)]), 2)]) := by
      rw [q3]
      unfold f_X24_init
      simp (disch := first | omega | assumption) only [ov_nwO, ov_nwi, ov_nwr, ov_pfC, ovpf, ov_gfiC, ov_gfrC, ov_rcvC, ovob, List.length_cons, List.length_nil, Nat.reduceAdd, Nat.zero_add, List.nil_append, List.cons_append, List.getElem?_cons_zero, List.getElem?_cons_succ, List.getElem?_nil, List.set_cons_zero, List.set_cons_succ, Option.bind_some, Option.map_some, lit_I, va_rf, vI, vR, true_and, Nat.reduceLT, Nat.reduceLeDiff, Nat.reduceEqDiff, if_true, if_false, nn, ov_ov, ov_asiC, ovasi, inb_I, I_clamp, ]
    obtain ⟨h', ea', cap', w1, w2, ⟨f1, f2, f3, f4, f5⟩, w4, w5⟩ := pq_add hPQ (by right; right; right; rfl) (by omega) hE (by show hn h < hn h + 1; omega)
    have hn1 : hn (ov h [(.inr (21, [.int (I c), .int (I S.length)]), 2)]) = hn h + 1 := rfl
    have hs1 : hs (ov h [(.inr (21, [.int (I c), .int (I S.length)]), 2)]) = hs h + 2 := rfl
    obtain ⟨-, -, -, -, u1, ⟨u2, u3, u4⟩, ⟨⟨u5, u6⟩, u7⟩, -, ⟨u11, u12⟩, -⟩ := id P1
    generalize hgg : ov h [(.inr (21, [.int (I c), .int (I S.length)]), 2)] = h1 at *
    obtain ⟨fe, cm, mc, q, pa1, pa2, pa3, -⟩ := id hPQ
    have hne : ∀ b (d : PC), b < hn h1 → h1.1 b = some d → ki d ≠ 28 → ki d ≠ 1006 → h'.1 b = some d := fun b d z1 z2 z3 z4 => by
      rw [f3 b z1 (fun e => by subst e; rw [pa1] at z2; cases z2; exact z3 rfl) (fun e => by subst e; rw [pa2] at z2; cases z2; exact z4 rfl)]; exact z2
    have hlen : (l2 ++ [hn h]).length = (R ++ [(c, S.length)]).length := by simp [q9]
    have hR2 : ∀ (i y : Nat) (cq : Nat × Nat), (l2 ++ [hn h])[i]? = some y → (R ++ [(c, S.length)])[i]? = some cq → h'.1 y = some (.inr (21, [.int (I cq.1), .int (I cq.2)])) ∧ nqs κ (hn h) (S.length * 1000000 + c) y = cq.2 * 1000000 + cq.1 ∧ cq.1 < 25 ∧ cq.2 < 1000 := fun i y cq z1 z2 => by
      by_cases hi : i < l2.length
      · rw [List.getElem?_append_left hi] at z1
        rw [List.getElem?_append_left (by omega)] at z2
        obtain ⟨y1, y2, y3⟩ := q10 i y cq z1 z2
        have hyl : y < hn h := (PQX_mem q8 (List.mem_of_getElem? z1)).2
        refine ⟨hne y _ (by omega) ?_ (by simp [ki]) (by simp [ki]), by unfold nqs; rw [if_neg (by omega)]; exact y2, y3⟩
        rw [O1.2.2 y hyl]; exact y1
      · have hi2 : i < (l2 ++ [hn h]).length := (List.getElem?_eq_some_iff.mp z1).1
        have hi3 : i = l2.length := by simp at hi2; omega
        subst hi3
        rw [List.getElem?_append_right (Nat.le_refl _), Nat.sub_self] at z1
        rw [q9, List.getElem?_append_right (Nat.le_refl _), Nat.sub_self] at z2
        cases z1; cases z2
        exact ⟨hne _ _ (by omega) hy1 (by simp [ki]) (by simp [ki]), by unfold nqs; rw [if_pos rfl], by omega, hS⟩
    refine ⟨h', ea', cap', ?_, ⟨l1, l2 ++ [hn h], nqs κ (hn h) (S.length * 1000000 + c), fw, hne _ _ (by omega) (by rw [O1.2.2 r q11]; exact q1) (by simp [ki]) (by simp [ki]), ⟨?_, q3, fun i y t z1 z2 => ?_⟩, ⟨⟨hne _ _ (by omega) (by rw [O1.2.2 b (by omega)]; exact q5.1) (by simp [ki]) (by simp [ki]), hne _ _ (by omega) (by rw [O1.2.2 (b + 1) q12]; exact q5.2) (by simp [ki]) (by simp [ki])⟩, q7⟩, ⟨w2, hlen, hR2⟩, ⟨by omega, by omega⟩, ⟨g1, g2, g3, g4, by omega, g6⟩, fun z => ?_, ?_⟩, by omega, by omega⟩
    · unfold f_X22_know
      rw [r1, Option.bind_some, B.rc, Option.bind_some, hps, Option.bind_some, if_pos (show I 1 = 1 from rfl), r2, Option.bind_some, e0, Option.bind_some, r0', Option.bind_some, hrc', Option.bind_some, hsz', Option.bind_some, nn, Option.bind_some]
      have hrcq := pq_rc hPQ
      have ei' : f_X24_init (some (hn h)) (I c) (I l1.length) (ov h [(.inr (21, [.int 0, .int 0]), 2)]) = some h1 := ei
      rw [ei', Option.bind_some, hrcq, Option.bind_some, w1, Option.bind_some]
    · -- the list is another
      obtain ⟨fe1, mc1, b1, b2, b3, b4, b5, b6, b7, b8⟩ := q2.frF O1.fr
      refine ⟨fe1, mc1, hne _ _ b7 b1 (by simp [ki]) (by simp [ki]), ?_, b3, b4, b5, fun z hz => ?_, by omega, fun hz => by have := b8 hz; omega⟩
      · rcases b2 with ⟨z1, z2⟩ | ⟨z1, z2⟩
        · left; refine ⟨z1, ?_⟩; rw [← z2]; unfold hk; rw [f2]
        · right
          refine ⟨z1, ?_⟩
          rw [f3 e1 (b8 (by omega)) (fun e => by subst e; rw [pa1] at z2; cases z2) (q14 (by omega))]; exact z2
      · obtain ⟨z1, o, z2⟩ := b6 z hz
        exact ⟨by omega, o, hne _ _ z1 z2 (by simp [ki]) (by simp [ki])⟩
    · obtain ⟨z, y1, y2, y3, y4⟩ := q4 i y t z1 z2
      obtain ⟨fe1, mc1, b1, b2, b3, b4, b5, b6, b7⟩ := id q2
      have hyl : y < hn h := (b6 y (List.mem_of_getElem? z1)).1
      exact ⟨z, by omega, y2, hne _ _ (by omega) (by rw [O1.2.2 y hyl]; exact y3) (by simp [ki]) (by simp [ki]), hne _ _ (by omega) (by rw [O1.2.2 z y1]; exact y4) (by simp [ki]) (by simp [ki])⟩
    · rcases f4 with e | e
      · rw [e]; exact q14 z
      · obtain ⟨fe1, mc1, b1, b2, b3, b4, b5, b6, b7, b8⟩ := id q2
        have := b8 z
        omega
    · refine (q15.trans O1.fr).step f1 f2 (fun z hz => f3 z ?_ (by omega) (by omega))
      have := q15.1
      omega
  · rw [if_neg hp, List.append_nil]
    refine ⟨h, e2, c2, ?_, P, by omega, by omega⟩
    unfold f_X22_know
    rw [r1, Option.bind_some, B.rc, Option.bind_some, hps, Option.bind_some, if_neg (by rw [show (1 : Int32) = I 1 from rfl, I_eq (by omega) (by decide)]; exact hp)]
end RUN9z
