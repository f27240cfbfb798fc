/-! PLAIN LAW: the class: numbers and clues written -/
set_option maxRecDepth 100000
theorem b01_upd {f : Nat → Int32} {i : Nat} {x : Int32} (h : b01 f) (hx : x = 0 ∨ x = 1) : b01 (upd f i x) := by
  intro j; unfold upd; split
  · exact hx
  · exact h j
theorem b01_I {k : Nat} (h : k ≤ 1) : I k = 0 ∨ I k = 1 := by
  have : k = 0 ∨ k = 1 := by omega
  rcases this with rfl | rfl
  · exact Or.inl rfl
  · exact Or.inr rfl
section PX97
variable {m x n0 : Nat} {h : PH} {st sh sl p b co mm : Nat} {ms : Nat → Nat} {f : F4} {fc fw : Nat → Int32} {fs : Nat → Option Nat} {s : Nat → Nat} {L : List (Nat → Nat)} {n : Nat} {tx : Nat → Nat}
theorem Mid.write {c k : Nat} (M : Mid m x n0 h st sh sl p b co mm ms f fc fw fs s L n tx) (hP : PG' s) (hc : c < nc s) (hk : k < 1000000) : ∃ h' f', f_X3_write (some p) (I c) (I k) h = some h' ∧ Mid m x n0 h' st sh sl p b co mm ms f' fc fw fs (sWr s c k) L n tx ∧ Old (tr n0 h) h' ∧ hn h' = hn h ∧ hs h' = hs h := by
  have hnc := nc_le hP
  have hd := dv_lt hP hc
  have X := M.2.1.1.2.2.2.1
  have W := M.2.2.1
  have Hpg := M.pg hP
  obtain ⟨y0, y1, y2, y3, y4⟩ := X
  have hPP := hP
  obtain ⟨a1, a2, a3, a4⟩ := hPP
  have r3 : gfr 3 3 (some p) h = some (some (p + 2)) := Hpg.1.r3
  have w1 : asi 0 (some (p + 2)) (I c) (I k) h = some (hset h (p + 2) (nar 0 25 (upd f.2.1 c (I k)))) := asi_at y2 (by omega) (by decide)
  by_cases hk0 : k = 0
  · subst hk0
    have H1 : PgX (hset h (p + 2) (nar 0 25 (upd f.2.1 c (I 0)))) p mm (I (s 0)) (I (s 1)) (f.1, upd f.2.1 c (I 0), f.2.2) := ⟨(hset_ne (by omega)).trans y0, (hset_ne (by omega)).trans y1, hset_at, (hset_ne (by omega)).trans y3, (hset_ne (by omega)).trans y4⟩
    generalize hh1 : hset h (p + 2) (nar 0 25 (upd f.2.1 c (I 0))) = h1 at w1 H1
    obtain ⟨z0, z1, z2, z3, z4⟩ := H1
    have w2 : asi 1 (some (p + 3)) (I c) (I 0) h1 = some (hset h1 (p + 3) (nar 1 25 (upd f.2.2.1 c (I 0)))) := asi_at z3 (by omega) (by decide)
    have g4 : gfr 3 4 (some p) h1 = some (some (p + 3)) := gfr_at (x := some (p + 3)) z0 rfl
    have H2 : PgX (hset h1 (p + 3) (nar 1 25 (upd f.2.2.1 c (I 0)))) p mm (I (s 0)) (I (s 1)) (f.1, upd f.2.1 c (I 0), upd f.2.2.1 c (I 0), f.2.2.2) := ⟨(hset_ne (by omega)).trans z0, (hset_ne (by omega)).trans z1, (hset_ne (by omega)).trans z2, hset_at, (hset_ne (by omega)).trans z4⟩
    generalize hh2 : hset h1 (p + 3) (nar 1 25 (upd f.2.2.1 c (I 0))) = h2 at w2 H2
    obtain ⟨v0, v1, v2, v3, v4⟩ := H2
    have lineR : ∀ g : PH, g.1 p = some (pgo p mm (I (s 0)) (I (s 1))) → f_X3_lineOf (some p) (I c) (I 1) g = some (I (dv c (s 1)), g) ∧ f_X3_lineOf (some p) (I c) (I 0) g = some (I (s 0 + md c (s 1)), g) := fun g hg => by
      have q0 : gfi 3 0 (some p) g = some (I (s 0)) := gfi_at hg rfl
      have q1 : gfi 3 1 (some p) g = some (I (s 1)) := gfi_at hg rfl
      have q2 : rcv 3 (some p) g = some () := rcv_at hg
      constructor
      · simp (disch := omega) only [f_X3_lineOf, f_X3_rowOf, lit_I, I_10, if_false, q1, q2, Option.bind_some, nz_I, I_dv]
      · simp (disch := omega) only [f_X3_lineOf, f_X3_columnOf, lit_I, if_true, q0, q1, q2, Option.bind_some, nz_I, I_dv, I_md, I_add]
    have g5 : gfr 3 5 (some p) h2 = some (some (p + 4)) := gfr_at (x := some (p + 4)) v0 rfl
    have w3 : asi 1 (some (p + 4)) (I (dv c (s 1))) (I 0) h2 = some (hset h2 (p + 4) (nar 1 10 (upd f.2.2.2 (dv c (s 1)) (I 0)))) := asi_at v4 (by omega) (by decide)
    have H3 : PgX (hset h2 (p + 4) (nar 1 10 (upd f.2.2.2 (dv c (s 1)) (I 0)))) p mm (I (s 0)) (I (s 1)) (f.1, upd f.2.1 c (I 0), upd f.2.2.1 c (I 0), upd f.2.2.2 (dv c (s 1)) (I 0)) := ⟨(hset_ne (by omega)).trans v0, (hset_ne (by omega)).trans v1, (hset_ne (by omega)).trans v2, (hset_ne (by omega)).trans v3, hset_at⟩
    generalize hh3 : hset h2 (p + 4) (nar 1 10 (upd f.2.2.2 (dv c (s 1)) (I 0))) = h3 at w3 H3
    obtain ⟨u0, u1, u2, u3, u4⟩ := H3
    have g6 : gfr 3 5 (some p) h3 = some (some (p + 4)) := gfr_at (x := some (p + 4)) u0 rfl
    have w4 : asi 1 (some (p + 4)) (I (s 0 + md c (s 1))) (I 0) h3 = some (hset h3 (p + 4) (nar 1 10 (upd (upd f.2.2.2 (dv c (s 1)) (I 0)) (s 0 + md c (s 1)) (I 0)))) := asi_at u4 (by omega) (by decide)
    have H4 : PgX (hset h3 (p + 4) (nar 1 10 (upd (upd f.2.2.2 (dv c (s 1)) (I 0)) (s 0 + md c (s 1)) (I 0)))) p mm (I (s 0)) (I (s 1)) (f.1, upd f.2.1 c (I 0), upd f.2.2.1 c (I 0), upd (upd f.2.2.2 (dv c (s 1)) (I 0)) (s 0 + md c (s 1)) (I 0)) := ⟨(hset_ne (by omega)).trans u0, (hset_ne (by omega)).trans u1, (hset_ne (by omega)).trans u2, (hset_ne (by omega)).trans u3, hset_at⟩
    have hrow : ∀ k, sWr s c 0 k = if k = 33 + c ∨ k = 58 + c ∨ k = 83 + dv c (s 1) ∨ k = 83 + s 0 + md c (s 1) then 0 else s k := fun k => by
      unfold sWr
      rw [if_pos rfl]
      by_cases e : k = 33 + c
      · subst e; rw [nup_eq, if_pos (Or.inl rfl)]
      · rw [nup_ne e, sEmp_at hP hc]
    obtain ⟨M', O'⟩ := M.page (t := sWr s c 0) (f' := (f.1, upd f.2.1 c (I 0), upd f.2.2.1 c (I 0), upd (upd f.2.2.2 (dv c (s 1)) (I 0)) (s 0 + md c (s 1)) (I 0))) (h' := hset h3 (p + 4) (nar 1 10 (upd (upd f.2.2.2 (dv c (s 1)) (I 0)) (s 0 + md c (s 1)) (I 0)))) (by rw [← hh3, ← hh2, ← hh1]; rfl) (by rw [← hh3, ← hh2, ← hh1]; rfl) (fun a k1 k2 k3 k4 => by rw [hset_ne k4, ← hh3, hset_ne k4, ← hh2, hset_ne k3, ← hh1, hset_ne k2]) H4
      (PgW_row W (by rw [hrow, if_neg (by omega)]) (by rw [hrow, if_neg (by omega)]) (fun d hd => by
        obtain ⟨q1, q2, q3⟩ := W.1 d hd
        rw [hrow, hrow, hrow]
        refine ⟨by rw [if_neg (by omega)]; exact q1, ?_, ?_⟩
        · by_cases e : d = c
          · subst e; rw [if_pos (Or.inl rfl)]; simp [upd]
          · rw [if_neg (by omega)]; simp only [upd, e, if_false]; exact q2
        · by_cases e : d = c
          · subst e; rw [if_pos (Or.inr (Or.inl rfl))]; simp [upd]
          · rw [if_neg (by omega)]; simp only [upd, e, if_false]; exact q3) (fun i hi => by
        rw [hrow]
        by_cases e : i = s 0 + md c (s 1)
        · subst e; rw [if_pos (by omega)]; simp [upd]
        · by_cases e2 : i = dv c (s 1)
          · subst e2; rw [if_pos (by omega)]; simp [upd]
          · rw [if_neg (by omega)]; simp only [upd, e, e2, if_false]; exact W.2.1 i hi) (b01_upd W.2.2.1 (Or.inl rfl)) (b01_upd (b01_upd W.2.2.2 (Or.inl rfl)) (Or.inl rfl)))
      (fun k hk => by rw [hrow, if_neg (by omega)]) (fun k hk => by rw [hrow, if_neg (by omega)]) hP
    refine ⟨_, _, ?_, M', O', by rw [← hh3, ← hh2, ← hh1]; rfl, by rw [← hh3, ← hh2, ← hh1]; rfl⟩
    have gb0 : gb (I 0) = some () := rfl
    simp only [f_X3_write, lit_I, r3, w1, if_true, g4, gb0, w2, g5, rcv_at v0, (lineR h2 v0).1, w3, g6, rcv_at u0, (lineR h3 u0).2, w4, Option.bind_some]
  · have e0 : sWr s c k = nup s (33 + c) k := by unfold sWr; rw [if_neg hk0]
    rw [e0]
    have H1 : PgX (hset h (p + 2) (nar 0 25 (upd f.2.1 c (I k)))) p mm (I (s 0)) (I (s 1)) (f.1, upd f.2.1 c (I k), f.2.2) := ⟨(hset_ne (by omega)).trans y0, (hset_ne (by omega)).trans y1, hset_at, (hset_ne (by omega)).trans y3, (hset_ne (by omega)).trans y4⟩
    obtain ⟨M', O'⟩ := M.page (t := nup s (33 + c) k) (h' := hset h (p + 2) (nar 0 25 (upd f.2.1 c (I k)))) (f' := (f.1, upd f.2.1 c (I k), f.2.2)) rfl rfl (fun a k1 k2 k3 k4 => hset_ne k2) H1 (PgW_row W (nup_ne (by omega)) (nup_ne (by omega)) (fun d hd => by
        obtain ⟨q1, q2, q3⟩ := W.1 d hd
        refine ⟨by rw [nup_ne (by omega)]; exact q1, ?_, by rw [nup_ne (by omega)]; exact q3⟩
        by_cases e : d = c
        · subst e; rw [nup_eq]; simp [upd]
        · rw [nup_ne (by omega)]; simp only [upd, e, if_false]; exact q2) (fun i hi => by rw [nup_ne (by omega)]; exact W.2.1 i hi) W.2.2.1 W.2.2.2) (fun k hk => nup_ne (by omega)) (fun k hk => nup_ne (by omega)) hP
    refine ⟨_, _, ?_, M', O', rfl, rfl⟩
    have e1 : ¬ I k = I 0 := by rw [I_eq (by omega) (by decide)]; exact hk0
    simp only [f_X3_write, r3, w1, Option.bind_some, lit_I, e1, if_false]
theorem Mid.clue {kind i k : Nat} (M : Mid m x n0 h st sh sl p b co mm ms f fc fw fs s L n tx) (hP : PG' s) (hkind : kind ≤ 1) (hi : if kind = 0 then i < nc s else i < s 0 + s 1) (hk : k ≤ 1) : ∃ h' f', f_X3_setClue (some p) (I kind) (I i) (I k) h = some h' ∧ Mid m x n0 h' st sh sl p b co mm ms f' fc fw fs (nup s ((if kind = 0 then 58 else 83) + i) k) L n tx ∧ Old (tr n0 h) h' ∧ hn h' = hn h ∧ hs h' = hs h := by
  have hnc := nc_le hP
  have X := M.2.1.1.2.2.2.1
  have W := M.2.2.1
  have Hpg := M.pg hP
  obtain ⟨y0, y1, y2, y3, y4⟩ := X
  have hPP := hP
  obtain ⟨a1, a2, a3, a4⟩ := hPP
  have gbk : gb (I k) = some () := by
    have := b01_I hk
    unfold gb; rw [if_pos this]
  have hkk : kind = 0 ∨ kind = 1 := by omega
  rcases hkk with rfl | rfl
  · rw [if_pos rfl] at hi
    rw [if_pos rfl]
    have w1 : asi 1 (some (p + 3)) (I i) (I k) h = some (hset h (p + 3) (nar 1 25 (upd f.2.2.1 i (I k)))) := asi_at y3 (by omega) (by decide)
    have H1 : PgX (hset h (p + 3) (nar 1 25 (upd f.2.2.1 i (I k)))) p mm (I (s 0)) (I (s 1)) (f.1, f.2.1, upd f.2.2.1 i (I k), f.2.2.2) := ⟨(hset_ne (by omega)).trans y0, (hset_ne (by omega)).trans y1, (hset_ne (by omega)).trans y2, hset_at, (hset_ne (by omega)).trans y4⟩
    obtain ⟨M', O'⟩ := M.page (t := nup s (58 + i) k) (h' := hset h (p + 3) (nar 1 25 (upd f.2.2.1 i (I k)))) (f' := (f.1, f.2.1, upd f.2.2.1 i (I k), f.2.2.2)) rfl rfl (fun a k1 k2 k3 k4 => hset_ne k3) H1 (PgW_row W (nup_ne (by omega)) (nup_ne (by omega)) (fun d hd => by
        obtain ⟨q1, q2, q3⟩ := W.1 d hd
        refine ⟨by rw [nup_ne (by omega)]; exact q1, by rw [nup_ne (by omega)]; exact q2, ?_⟩
        by_cases e : d = i
        · subst e; rw [nup_eq]; simp [upd]
        · rw [nup_ne (by omega)]; simp only [upd, e, if_false]; exact q3) (fun j hj => by rw [nup_ne (by omega)]; exact W.2.1 j hj) (b01_upd W.2.2.1 (b01_I hk)) W.2.2.2) (fun k hk => nup_ne (by omega)) (fun k hk => nup_ne (by omega)) hP
    refine ⟨_, _, ?_, M', O', rfl, rfl⟩
    simp only [f_X3_setClue, lit_I, if_true, Hpg.1.r4, gbk, w1, Option.bind_some]
  · rw [if_neg (by decide)] at hi
    rw [if_neg (by decide)]
    have w1 : asi 1 (some (p + 4)) (I i) (I k) h = some (hset h (p + 4) (nar 1 10 (upd f.2.2.2 i (I k)))) := asi_at y4 (by omega) (by decide)
    have H1 : PgX (hset h (p + 4) (nar 1 10 (upd f.2.2.2 i (I k)))) p mm (I (s 0)) (I (s 1)) (f.1, f.2.1, f.2.2.1, upd f.2.2.2 i (I k)) := ⟨(hset_ne (by omega)).trans y0, (hset_ne (by omega)).trans y1, (hset_ne (by omega)).trans y2, (hset_ne (by omega)).trans y3, hset_at⟩
    obtain ⟨M', O'⟩ := M.page (t := nup s (83 + i) k) (h' := hset h (p + 4) (nar 1 10 (upd f.2.2.2 i (I k)))) (f' := (f.1, f.2.1, f.2.2.1, upd f.2.2.2 i (I k))) rfl rfl (fun a k1 k2 k3 k4 => hset_ne k4) H1 (PgW_row W (nup_ne (by omega)) (nup_ne (by omega)) (fun d hd => by
        obtain ⟨q1, q2, q3⟩ := W.1 d hd
        exact ⟨by rw [nup_ne (by omega)]; exact q1, by rw [nup_ne (by omega)]; exact q2, by rw [nup_ne (by omega)]; exact q3⟩) (fun j hj => by
        by_cases e : j = i
        · subst e; rw [nup_eq]; simp [upd]
        · rw [nup_ne (by omega)]; simp only [upd, e, if_false]; exact W.2.1 j hj) W.2.2.1 (b01_upd W.2.2.2 (b01_I hk))) (fun k hk => nup_ne (by omega)) (fun k hk => nup_ne (by omega)) hP
    refine ⟨_, _, ?_, M', O', rfl, rfl⟩
    simp only [f_X3_setClue, lit_I, I_10, if_false, Hpg.1.r5, gbk, w1, Option.bind_some]
end PX97
