/-! PLAIN LAW: the class: a run's steps -/
set_option maxRecDepth 100000
section RUN9za
variable {h0 h : PH} {r x a1 e1 c1 a2 e2 c2 b p mm : Nat} {ms : Nat → Nat} {s w : Nat → Nat} {S : List SP4} {R : List (Nat × Nat)}
theorem run_strike {c n : Nat} (P : RunP h0 h (nc s) r x a1 e1 c1 a2 e2 c2 b p w S R) (hP : PG' s) (hW : W7 s w) (hc : c < nc s) (hn' : n ≤ 6) :
    ∃ h', f_X4_strike (some b) (I c) (I n) h = some h' ∧ RunP h0 h' (nc s) r x a1 e1 c1 a2 e2 c2 b p (strW w c n) S R ∧ hn h' = hn h ∧ hs h' = hs h ∧ ∀ a, a ≠ b + 1 → h'.1 a = h.1 a := by
  have hnc := nc_le hP
  obtain ⟨l1, l2, κ, fw, q1, ⟨q2, q3, q4⟩, ⟨q5, q7⟩, ⟨q8, q9, q10⟩, ⟨q11, q12⟩, ⟨g1, g2, g3, g4, g5, g6⟩, q14, q15⟩ := P
  have hst := cb_strike (n := n) q5 (show c < 25 by omega) (q7 c hc) (by omega)
  have hne : ∀ a (d : PC), h.1 a = some d → ki d ≠ 1000 → (bdw h b (upd fw c (I (andn (w c) (1 <<< n))))).1 a = some d := fun a d z1 z2 => (hset_ne (fun e => by subst e; rw [q5.2] at z1; cases z1; exact z2 rfl)).trans z1
  refine ⟨_, hst, ⟨l1, l2, κ, upd fw c (I (andn (w c) (1 <<< n))), hne _ _ q1 (by simp [ki]), ⟨?_, q3, fun i y t z1 z2 => ?_⟩, ⟨bdw_C q5, fun d hd => ?_⟩, ⟨?_, q9, fun i y cq z1 z2 => ?_⟩, ⟨q11, q12⟩, ⟨g1, g2, g3, g4, g5, g6⟩, q14, q15.step (Nat.le_refl _) rfl (fun a ha => hset_ne (by omega))⟩, rfl, rfl, fun a ha => hset_ne ha⟩
  · obtain ⟨fe1, mc1, b1, b2, -⟩ := id q2
    refine q2.fr (Nat.le_refl _) rfl (fun a d z1 z2 z3 => hne a d z2 ?_)
    rcases z3 with e | ⟨e0, e⟩ | e
    · subst e; rw [b1] at z2; cases z2; simp [ki]
    · subst e
      rcases b2 with ⟨y1, y2⟩ | ⟨y1, y2⟩
      · omega
      · rw [y2] at z2; cases z2; simp [ki]
    · rw [e]; decide
  · obtain ⟨z, y1, y2, y3, y4⟩ := q4 i y t z1 z2
    exact ⟨z, y1, y2, hne _ _ y3 (by simp [ki]), (hset_ne (by omega)).trans y4⟩
  · by_cases e : d = c
    · subst e; unfold strW; rw [nup_eq]; simp [upd]
    · unfold strW; rw [nup_ne e]; simp only [upd, e, if_false]; exact q7 d hd
  · obtain ⟨fe, cm, mc, q, pa1, pa2, pa3, -⟩ := id q8
    refine q8.fr (Nat.le_refl _) (by right; right; right; rfl) (fun a d z1 z2 z3 => hne a d z2 ?_)
    rcases z3 with e | e | e | e | e | e | e | e
    · subst e; rw [pa1] at z2; cases z2; simp [ki]
    · subst e; rw [pa2] at z2; cases z2; simp [ki]
    all_goals rw [e]; decide
  · obtain ⟨y1, y2⟩ := q10 i y cq z1 z2
    exact ⟨hne _ _ y1 (by simp [ki]), y2⟩
/-- the step put down -/
theorem run_put {t : SP4} {v ra : Nat} (P : RunP h0 h (nc s) r x a1 e1 c1 a2 e2 c2 b p w S R) (G : G4 h0) (hv : h.1 v = some (svo ra (qS t))) (hvl : v < hn h) (hS : S.length < 160) :
    ∃ h1 h' e1' c1', f_X5_step (some v) h = some (some (hn h), h1) ∧ Fr h h1 ∧ f_J24_add (some a1) (some (hn h)) h1 = some (1, h') ∧ RunP h0 h' (nc s) r x a1 e1' c1' a2 e2 c2 b p w (S ++ [t]) R ∧ hn h' ≤ hn h + 3 ∧ hs h' + 4 * c1 ≤ hs h + 4 * c1' + 5 ∧ h'.1 v = some (svo ra (qS t)) := by
  obtain ⟨l1, l2, κ, fw, q1, ⟨q2, q3, q4⟩, ⟨q5, q7⟩, ⟨q8, q9, q10⟩, ⟨q11, q12⟩, ⟨g1, g2, g3, g4, g5, g6⟩, q14, q15⟩ := id P
  have es := cs_step hv hvl
  have O1 : Old h (ov h (stpL (hn h) (qS t))) := Old.ov
  have F1 := O1.fr
  have hy1 : (ov h (stpL (hn h) (qS t))).1 (hn h) = some (.inr (22, [.ref (hn h + 1)])) := ov_at (i := 0) (n := 1) rfl
  have hy2 : (ov h (stpL (hn h) (qS t))).1 (hn h + 1) = some (nar 0 4 (stp4 (qS t))) := ov_at (i := 1) (n := 4) rfl
  have hn1 : hn (ov h (stpL (hn h) (qS t))) = hn h + 2 := rfl
  have hs1 : hs (ov h (stpL (hn h) (qS t))) = hs h + 5 := rfl
  obtain ⟨h', ea', cap', w1, w2, f1, f2, f3, f4, f5, f6⟩ := al_add (q2.frF F1) (G.keep (q15.trans F1).keep) (by omega) (show hn h < hn (ov h (stpL (hn h) (qS t))) by omega) ⟨_, hy1⟩
  have P1 := P.fr F1
  have o1 : ∀ a, a < hn h → (ov h (stpL (hn h) (qS t))).1 a = h.1 a := O1.2.2
  generalize hgg : ov h (stpL (hn h) (qS t)) = h1 at *
  obtain ⟨fe1, mc1, b1, b2, b3, b4, b5, b6, b7, b8⟩ := id q2
  obtain ⟨fe, cm, mc, q, pa1, pa2, pa3, -⟩ := id q8
  have hne : ∀ a (d : PC), a < hn h1 → h1.1 a = some d → ki d ≠ 29 → ki d ≠ 1006 → h'.1 a = some d := fun a d z1 z2 z3 z4 => by
    have e29 : ∃ fs, h1.1 a1 = some (.inr (29, fs)) := ⟨_, (o1 _ b7).trans b1⟩
    obtain ⟨fs, e29⟩ := e29
    rw [f3 a z1 (fun e => by subst e; rw [e29] at z2; cases z2; exact z3 rfl) (fun hc e => by
      subst e
      rcases b2 with ⟨y1, y2⟩ | ⟨y1, y2⟩
      · omega
      · rw [o1 _ (b8 hc), y2] at z2; cases z2; exact z4 rfl)]; exact z2
  have hno : ∀ a (d : PC), a < hn h → h.1 a = some d → ki d ≠ 29 → ki d ≠ 1006 → h'.1 a = some d := fun a d z1 z2 z3 z4 => hne a d (by omega) ((o1 a z1).trans z2) z3 z4
  refine ⟨h1, h', ea', cap', es, F1, w1, ⟨l1 ++ [hn h], l2, κ, fw, hno _ _ q11 q1 (by simp [ki]) (by simp [ki]), ⟨w2, by simp [q3], fun i y t' z1 z2 => ?_⟩, ⟨⟨hno _ _ (by omega) q5.1 (by simp [ki]) (by simp [ki]), hno _ _ q12 q5.2 (by simp [ki]) (by simp [ki])⟩, q7⟩, ⟨?_, q9, fun i y cq z1 z2 => ?_⟩, ⟨by omega, by omega⟩, ⟨g1, g2, fun hc => ?_, g4, g5, g6⟩, fun hc => ?_, ?_⟩, by omega, by omega, ?_⟩
  · by_cases hi : i < l1.length
    · rw [List.getElem?_append_left hi] at z1
      rw [List.getElem?_append_left (by omega)] at z2
      obtain ⟨z, y1, y2, y3, y4⟩ := q4 i y t' z1 z2
      exact ⟨z, by omega, y2, hno _ _ (b6 y (List.mem_of_getElem? z1)).1 y3 (by simp [ki]) (by simp [ki]), hno _ _ y1 y4 (by simp [ki]) (by simp [ki])⟩
    · have hi2 : i < (l1 ++ [hn h]).length := (List.getElem?_eq_some_iff.mp z1).1
      have hi3 : i = l1.length := by simp at hi2; omega
      subst hi3
      rw [List.getElem?_append_right (Nat.le_refl _), Nat.sub_self] at z1
      rw [q3, List.getElem?_append_right (Nat.le_refl _), Nat.sub_self] at z2
      cases z1; cases z2
      exact ⟨hn h + 1, by omega, by omega, hne _ _ (by omega) hy1 (by simp [ki]) (by simp [ki]), hne _ _ (by omega) hy2 (by simp [ki]) (by simp [ki])⟩
  · have k8 := q8.frF (by right; right; right; rfl) F1
    refine k8.fr (by omega) (by right; right; right; rfl) (fun a d z1 z2 z3 => ?_)
    by_cases ze : a = e2
    · subst ze
      rw [f3 a z1 (fun e => ?_) (fun hc e => q14 hc e.symm)]
      · exact z2
      · subst e
        rw [pa2] at b1; cases b1
    · refine hne a d z1 z2 ?_ ?_
      · rcases z3 with e | e | e | e | e | e | e | e
        · subst e
          obtain ⟨fe', cm', mc', q', pb1, -⟩ := id k8
          rw [pb1] at z2; cases z2; simp [ki]
        · exact absurd e ze
        all_goals rw [e]; decide
      · rcases z3 with e | e | e | e | e | e | e | e
        · subst e
          obtain ⟨fe', cm', mc', q', pb1, -⟩ := id k8
          rw [pb1] at z2; cases z2; simp [ki]
        · exact absurd e ze
        all_goals rw [e]; decide
  · obtain ⟨y1, y2⟩ := q10 i y cq z1 z2
    exact ⟨hno _ _ (PQX_mem q8 (List.mem_of_getElem? z1)).2 y1 (by simp [ki]) (by simp [ki]), y2⟩
  · rcases f4 with ⟨e, e'⟩ | e
    · rw [e]; exact g3 (by omega)
    · have := q15.1; omega
  · rcases f4 with ⟨e, e'⟩ | e
    · rw [e]; exact q14 (by omega)
    · have : e2 < hn h := by
        obtain ⟨fe', cm', mc', q', y1, y2, y3, y4, y5, y6, y7, y8, y9, y10, y11, y12, y13, y14⟩ := id q8
        exact y13
      omega
  · refine (q15.trans F1).step f1 f2 (fun a ha => f3 a ?_ ?_ (fun hc => ?_))
    · have := q15.1; omega
    · omega
    · have := g3 hc; omega
  · exact hno _ _ hvl hv (by simp [ki, svo]) (by simp [ki, svo])
end RUN9za
