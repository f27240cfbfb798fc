/-! PLAIN LAW: the class: mirror -/
set_option maxRecDepth 100000
/-- a heap with the page's four rows laid over it -/
def pgh (h : PH) (p : Nat) (F : F4) : PH := (fun a => if a = p + 1 then some (nar 0 25 F.1) else if a = p + 2 then some (nar 0 25 F.2.1) else if a = p + 3 then some (nar 1 25 F.2.2.1) else if a = p + 4 then some (nar 1 10 F.2.2.2) else h.1 a, h.2)
section PGH
variable {h : PH} {p : Nat} {F : F4}
theorem pgh_1 : (pgh h p F).1 (p + 1) = some (nar 0 25 F.1) := by simp [pgh]
theorem pgh_2 : (pgh h p F).1 (p + 2) = some (nar 0 25 F.2.1) := by simp [pgh]
theorem pgh_3 : (pgh h p F).1 (p + 3) = some (nar 1 25 F.2.2.1) := by simp [pgh]
theorem pgh_4 : (pgh h p F).1 (p + 4) = some (nar 1 10 F.2.2.2) := by simp [pgh]
theorem pgh_o {a : Nat} (ha : a ≤ p ∨ p + 4 < a) : (pgh h p F).1 a = h.1 a := by
  show (if a = p + 1 then _ else if a = p + 2 then _ else if a = p + 3 then _ else if a = p + 4 then _ else h.1 a) = _
  rw [if_neg (by omega), if_neg (by omega), if_neg (by omega), if_neg (by omega)]
theorem pgh_self {mm : Nat} {r c : Int32} (X : PgX h p mm r c F) : pgh h p F = h := by
  obtain ⟨x0, x1, x2, x3, x4⟩ := X
  refine Prod.ext ?_ rfl
  funext a
  show (if a = p + 1 then _ else if a = p + 2 then _ else if a = p + 3 then _ else if a = p + 4 then _ else h.1 a) = _
  by_cases e1 : a = p + 1
  · rw [if_pos e1, e1, x1]
  rw [if_neg e1]
  by_cases e2 : a = p + 2
  · rw [if_pos e2, e2, x2]
  rw [if_neg e2]
  by_cases e3 : a = p + 3
  · rw [if_pos e3, e3, x3]
  rw [if_neg e3]
  by_cases e4 : a = p + 4
  · rw [if_pos e4, e4, x4]
  rw [if_neg e4]
theorem pgh_set {k : Nat} {d : PC} {F' : F4} (hk : 1 ≤ k ∧ k ≤ 4) (hd : (pgh h p F').1 (p + k) = some d) (ho : ∀ j, 1 ≤ j → j ≤ 4 → j ≠ k → (pgh h p F').1 (p + j) = (pgh h p F).1 (p + j)) : hset (pgh h p F) (p + k) d = pgh h p F' := by
  refine Prod.ext ?_ rfl
  funext a
  by_cases e : a = p + k
  · rw [e, hset_at, hd]
  · rw [hset_ne e]
    by_cases w : a ≤ p ∨ p + 4 < a
    · rw [pgh_o w, pgh_o w]
    · obtain ⟨j, hj⟩ : ∃ j, a = p + j := ⟨a - p, by omega⟩
      subst hj
      exact (ho j (by omega) (by omega) (by omega)).symm
theorem pgh_w1 {i : Nat} {v : Int32} (hi : i < 25) : asi 0 (some (p + 1)) (I i) v (pgh h p F) = some (pgh h p (upd F.1 i v, F.2)) := by
  rw [asi_at pgh_1 hi (by decide)]
  refine congrArg some (pgh_set (k := 1) ⟨by decide, by decide⟩ pgh_1 (fun j h1 h2 h3 => ?_))
  have : j = 2 ∨ j = 3 ∨ j = 4 := by omega
  rcases this with rfl | rfl | rfl
  · rw [pgh_2, pgh_2]
  · rw [pgh_3, pgh_3]
  · rw [pgh_4, pgh_4]
theorem pgh_w2 {i : Nat} {v : Int32} (hi : i < 25) : asi 0 (some (p + 2)) (I i) v (pgh h p F) = some (pgh h p (F.1, upd F.2.1 i v, F.2.2)) := by
  rw [asi_at pgh_2 hi (by decide)]
  refine congrArg some (pgh_set (k := 2) ⟨by decide, by decide⟩ pgh_2 (fun j h1 h2 h3 => ?_))
  have : j = 1 ∨ j = 3 ∨ j = 4 := by omega
  rcases this with rfl | rfl | rfl
  · rw [pgh_1, pgh_1]
  · rw [pgh_3, pgh_3]
  · rw [pgh_4, pgh_4]
theorem pgh_w3 {i : Nat} {v : Int32} (hi : i < 25) : asi 1 (some (p + 3)) (I i) v (pgh h p F) = some (pgh h p (F.1, F.2.1, upd F.2.2.1 i v, F.2.2.2)) := by
  rw [asi_at pgh_3 hi (by decide)]
  refine congrArg some (pgh_set (k := 3) ⟨by decide, by decide⟩ pgh_3 (fun j h1 h2 h3 => ?_))
  have : j = 1 ∨ j = 2 ∨ j = 4 := by omega
  rcases this with rfl | rfl | rfl
  · rw [pgh_1, pgh_1]
  · rw [pgh_2, pgh_2]
  · rw [pgh_4, pgh_4]
theorem pgh_w4 {i : Nat} {v : Int32} (hi : i < 10) : asi 1 (some (p + 4)) (I i) v (pgh h p F) = some (pgh h p (F.1, F.2.1, F.2.2.1, upd F.2.2.2 i v)) := by
  rw [asi_at pgh_4 hi (by decide)]
  refine congrArg some (pgh_set (k := 4) ⟨by decide, by decide⟩ pgh_4 (fun j h1 h2 h3 => ?_))
  have : j = 1 ∨ j = 2 ∨ j = 3 := by omega
  rcases this with rfl | rfl | rfl
  · rw [pgh_1, pgh_1]
  · rw [pgh_2, pgh_2]
  · rw [pgh_3, pgh_3]
/-- one cell taken over from another page -/
theorem pgh_take {q mm mm' i j : Nat} {ms s : Nat → Nat} {r c : Int32} (hp : h.1 p = some (pgo p mm' r c)) (H : PgR (pgh h p F) q mm ms s) (hi : i < 25) (hj : j < nc s) (hg : s (58 + j) ≤ 1) (hH : ∀ F', PgR (pgh h p F') q mm ms s) :
    f_X3_take (some p) (I i) (some q) (I j) (pgh h p F) = some (pgh h p (upd F.1 i (I (s (8 + j))), upd F.2.1 i (I (s (33 + j))), upd F.2.2.1 i (I (s (58 + j))), F.2.2.2)) := by
  have w : ∀ F', (pgh h p F').1 p = some (pgo p mm' r c) := fun F' => (pgh_o (Or.inl (Nat.le_refl _))).trans hp
  have r2 : ∀ F', gfr 3 2 (some p) (pgh h p F') = some (some (p + 1)) := fun F' => gfr_at (x := some (p + 1)) (w F') rfl
  have r3 : ∀ F', gfr 3 3 (some p) (pgh h p F') = some (some (p + 2)) := fun F' => gfr_at (x := some (p + 2)) (w F') rfl
  have r4 : ∀ F', gfr 3 4 (some p) (pgh h p F') = some (some (p + 3)) := fun F' => gfr_at (x := some (p + 3)) (w F') rfl
  unfold f_X3_take
  rw [r2, Option.bind_some, (hH F).r2, Option.bind_some, (hH F).b hj, Option.bind_some, pgh_w1 hi, Option.bind_some, r3, Option.bind_some, (hH _).r3, Option.bind_some, (hH _).n hj, Option.bind_some, pgh_w2 hi, Option.bind_some, r4, Option.bind_some, (hH _).r4, Option.bind_some, (hH _).g hj, Option.bind_some, gb_le hg, Option.bind_some, pgh_w3 hi, Option.bind_some]
theorem PgB_pgh {q mm : Nat} {ms s : Nat → Nat} {p : Nat} (H : PgB h q mm ms s) (hn' : hn h ≤ p + 1) : PgR (pgh h p F) q mm ms s := by
  refine PgR_agree (fun a ha => ?_) H.1
  have := H.2 a ha
  have e : (pgh h p F).1 a = h.1 a := pgh_o (Or.inl (by omega))
  simp only [lk, e]
  rfl
end PGH
