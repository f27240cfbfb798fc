/-! PLAIN LAW: the class: a run to its end -/
set_option maxRecDepth 100000
/-- the cells that become known, with the step's number -/
def rnkO (w : Nat → Nat) : List SP4 → Nat → List (Nat × Nat)
  | [], _ => []
  | t :: l, k => (if pc (strW w t.2.1 t.2.2.1 t.2.1) = 1 then [(t.2.1, k + 1)] else []) ++ rnkO (strW w t.2.1 t.2.2.1) l (k + 1)
theorem rnkO_fst : ∀ (l : List SP4) (w : Nat → Nat) (k : Nat), (rnkO w l k).map Prod.fst = rnk w l := by
  intro l
  induction l with
  | nil => intro w k; rfl
  | cons t l ih =>
    intro w k
    simp only [rnkO, rnk, List.map_append, ih]
    congr 1
    split <;> rfl
theorem rnkO_ge : ∀ (l : List SP4) (w : Nat → Nat) (k : Nat) (cq : Nat × Nat), cq ∈ rnkO w l k → k + 1 ≤ cq.2 := by
  intro l
  induction l with
  | nil => intro w k cq h; cases h
  | cons t l ih =>
    intro w k cq h
    simp only [rnkO, List.mem_append] at h
    rcases h with h | h
    · split at h
      · have : cq = (t.2.1, k + 1) := by simpa using h
        rw [this]; exact Nat.le_refl _
      · cases h
    · have := ih _ _ cq h; omega
def ltO (a b : Nat × Nat) : Prop := a.2 * 1000000 + a.1 < b.2 * 1000000 + b.1
theorem rnkO_sorted {n : Nat} : ∀ (l : List SP4) (w : Nat → Nat) (k : Nat), (∀ t, t ∈ l → t.2.1 < 1000000) → (rnkO w l k).Pairwise ltO := by
  intro l
  induction l with
  | nil => intro w k _; exact List.Pairwise.nil
  | cons t l ih =>
    intro w k ht
    simp only [rnkO]
    rw [List.pairwise_append]
    refine ⟨?_, ih _ _ (fun t' h' => ht t' (by simp [h'])), fun a ha b hb => ?_⟩
    · split
      · exact List.pairwise_singleton _ _
      · exact List.Pairwise.nil
    · split at ha
      · have e : a = (t.2.1, k + 1) := by simpa using ha
        have := rnkO_ge _ _ _ b hb
        have := ht t (by simp)
        rw [e]; unfold ltO; dsimp only; omega
      · cases ha
section RUN9zb
variable {h0 h : PH} {m r x a1 e1 c1 a2 e2 c2 b p : Nat} {w : Nat → Nat} {S : List SP4} {R : List (Nat × Nat)} {g : GS} {sh pb co mm v ra : Nat} {ms ru : Nat → Nat}
theorem RunP.rd {n : Nat} (P : RunP h0 h n r x a1 e1 c1 a2 e2 c2 b p w S R) : rcv 19 (some r) h = some () ∧ gfr 19 0 (some r) h = some (some a1) ∧ gfr 19 1 (some r) h = some (some b) ∧ gfr 19 2 (some r) h = some (some a2) ∧ gfr 19 3 (some r) h = some (some x) ∧ Fr h0 h := by
  obtain ⟨l1, l2, κ, fw, q1, q2, q3, q4, q5, q6, q7, q8⟩ := P
  exact ⟨rcv_at q1, gfr_at (x := some a1) q1 rfl, gfr_at (x := some b) q1 rfl, gfr_at (x := some a2) q1 rfl, gfr_at (x := some x) q1 rfl, q8⟩
theorem RunP.bd {s : Nat → Nat} (P : RunP h0 h (nc s) r x a1 e1 c1 a2 e2 c2 b p w S R) (hP : PG' s) : BdR h b p s w ∧ ∃ fw, BdC h b p fw := by
  obtain ⟨l1, l2, κ, fw, q1, q2, ⟨q3, q4⟩, -⟩ := P
  exact ⟨q3.R (nc_le hP).2 q4, fw, q3⟩
theorem RunP.lst {n : Nat} (P : RunP h0 h n r x a1 e1 c1 a2 e2 c2 b p w S R) : rcv 29 (some a1) h = some () ∧ f_J24_size (some a1) h = some (I S.length, h) := by
  obtain ⟨l1, l2, κ, fw, q1, ⟨q2, q3, q4⟩, -⟩ := P
  have := al_size q2
  rw [q3] at this
  exact ⟨al_rc q2, this⟩
theorem run_go (LK : ∀ h', Fr h0 h' → LKX m x g h' sh p pb co mm ms v ra ru) (G : G4 h0) (hQ : QInv g.1) (hN : Nrm g.1) (hS : SB g.1) :
    ∀ (M k : Nat) (w : Nat → Nat) (S : List SP4) (R : List (Nat × Nat)) (h : PH) (e1 c1 e2 c2 : Nat), RunP h0 h (nc g.1) r x a1 e1 c1 a2 e2 c2 b p w S R → W7 g.1 w → B0 g.1 w → mu g.1 w < M → M ≤ k → S.length + mu g.1 w ≤ 150 → R.length + (rnk w (goN g.1 (g.1 2) M w).1).length ≤ 50 →
    ∃ h' e1' c1' e2' c2', f_X22_init_L80 k (some r) (some x) h = some h' ∧ RunP h0 h' (nc g.1) r x a1 e1' c1' a2 e2' c2' b p (goN g.1 (g.1 2) M w).2 (S ++ (goN g.1 (g.1 2) M w).1) (R ++ rnkO w (goN g.1 (g.1 2) M w).1 S.length) ∧ hn h' ≤ hn h + 5 * (goN g.1 (g.1 2) M w).1.length ∧ hs h' + 4 * c1 + 2 * c2 ≤ hs h + 4 * c1' + 2 * c2' + 7 * (goN g.1 (g.1 2) M w).1.length := by
  have hP := hQ.1
  have hnc := nc_le hP
  intro M
  induction M with
  | zero => intro k w S R h e1 c1 e2 c2 _ _ _ hM; omega
  | succ M ih =>
    intro k w S R h e1 c1 e2 c2 P hW hB hM hk hSl hRl
    obtain ⟨k, rfl⟩ : ∃ k', k = k' + 1 := ⟨k - 1, by omega⟩
    obtain ⟨p1, p2, p3, p4, p5, F0⟩ := P.rd
    obtain ⟨⟨x1, x2, x3, x4⟩, ⟨x5, x6, x7, x8, x9⟩, HB, V, -, x10, x11⟩ := LK h F0
    obtain ⟨B, -⟩ := P.bd hP
    have CC := CU_of HB.1 B V.1 hQ hN hS hW hB
    obtain ⟨q, f1, f2⟩ := cs_find CC (show g.1 2 < 1000000 by have := hQ.2.1.1; omega)
    obtain ⟨⟨q0, hq⟩, -⟩ := id V.1
    have F1 : Fr h (sol h v ra q) := Fr_sol hq
    have P1 := P.fr F1
    have hv1 : (sol h v ra q).1 v = some (svo ra q) := hset_at
    have n1 : hn (sol h v ra q) = hn h := rfl
    have s1 : hs (sol h v ra q) = hs h := rfl
    generalize hgg : sol h v ra q = h1 at *
    cases hf : findS g.1 w (g.1 2) with
    | none =>
      rw [hf] at f1
      have e : goN g.1 (g.1 2) (M + 1) w = ([], w) := by simp [goN, hf]
      rw [e]
      refine ⟨h1, e1, c1, e2, c2, ?_, ?_, by omega, by simp; omega⟩
      · rw [f_X22_init_L80, x5, Option.bind_some, p3, Option.bind_some, x1, Option.bind_some, x4, Option.bind_some, x6, Option.bind_some, V.rc, Option.bind_some, f1, Option.bind_some, if_pos (show I (bit ((none : Option SP4).isSome = true)) = 0 from bitZF)]
      · simp only [List.append_nil, rnkO]; exact P1
    | some t =>
      rw [hf] at f1
      obtain ⟨h0', t1, t2, t3, t4, t5, t6, t7⟩ := findS_some hf
      have hqt := f2 t hf
      rw [hqt] at hv1
      obtain ⟨z1, z2, z3, z4, z5, F1'⟩ := P1.rd
      obtain ⟨⟨y1, y2, y3, y4⟩, ⟨y5, y6, y7, y8, y9⟩, HB1, V1, -⟩ := LK h1 F1'
      obtain ⟨B1, fw1, BC1⟩ := P1.bd hP
      have g2 : gfi 5 2 (some v) h1 = some (I t.2.1) := gfi_at hv1 rfl
      have g3 : gfi 5 3 (some v) h1 = some (I t.2.2.1) := gfi_at hv1 rfl
      obtain ⟨h2, r1, P2, n2, s2, fr2⟩ := run_strike P1 hP hW (show t.2.1 < nc g.1 from t3) (show t.2.2.1 ≤ 6 by omega)
      have hvb : v ≠ b + 1 := fun e => by
        rw [e, BC1.2] at hv1; cases hv1
      have hv2 : h2.1 v = some (svo ra (qS t)) := (fr2 v hvb).trans hv1
      obtain ⟨-, z2', -, -, -, F2⟩ := P2.rd
      obtain ⟨-, ⟨y5', -⟩, -, V2, -⟩ := LK h2 F2
      have hmu := mu_str t3 t4 t5 t6
      obtain ⟨h3, h4, e1', c1', r2, F3, r3, P3, n3, s3, hv3⟩ := run_put (t := t) P2 G hv2 V2.2.1 (by omega)
      obtain ⟨z1'', -, -, -, -, F4⟩ := P3.rd
      obtain ⟨-, ⟨y5'', -⟩, -⟩ := LK h4 F4
      have hl3 := ((P2.fr F3).lst).1
      have g2' : gfi 5 2 (some v) h4 = some (I t.2.1) := gfi_at hv3 rfl
      have hW2 : W7 g.1 (strW w t.2.1 t.2.2.1) := strW_W7 hW
      have egoN : goN g.1 (g.1 2) (M + 1) w = (t :: (goN g.1 (g.1 2) M (strW w t.2.1 t.2.2.1)).1, (goN g.1 (g.1 2) M (strW w t.2.1 t.2.2.1)).2) := by simp [goN, hf]
      rw [egoN] at hRl ⊢
      simp only [rnk, List.length_append] at hRl
      obtain ⟨h5, e2', c2', r4, P4, n4, s4⟩ := run_know (c := t.2.1) P3 hP hW2 t3 (by omega) (by simp; omega)
      have hlen : (S ++ [t]).length = S.length + 1 := by simp
      rw [hlen] at P4
      obtain ⟨h6, e1'', c1'', e2'', c2'', r5, P5, n5, s5⟩ := ih k (strW w t.2.1 t.2.2.1) (S ++ [t]) _ h5 e1' c1' e2' c2' P4 hW2 (strW_B0 hB) (by omega) (by omega) (by rw [hlen]; omega) (by
        rw [List.length_append]
        have : (if pc (strW w t.2.1 t.2.2.1 t.2.1) = 1 then [(t.2.1, S.length + 1)] else []).length = (if pc (strW w t.2.1 t.2.2.1 t.2.1) = 1 then [t.2.1] else []).length := by split <;> rfl
        omega)
      refine ⟨h6, e1'', c1'', e2'', c2'', ?_, ?_, ?_, ?_⟩
      · rw [f_X22_init_L80, x5, Option.bind_some, p3, Option.bind_some, x1, Option.bind_some, x4, Option.bind_some, x6, Option.bind_some, V.rc, Option.bind_some, f1, Option.bind_some, if_neg (show ¬ I (bit ((some t : Option SP4).isSome = true)) = 0 by rw [show (some t : Option SP4).isSome = true from rfl, bitZT]; decide), z3, Option.bind_some, y5, Option.bind_some, g2, Option.bind_some, Option.bind_some, g3, Option.bind_some, B1.rc, Option.bind_some, r1, Option.bind_some, z2', Option.bind_some, y5', Option.bind_some, V2.rc, Option.bind_some, r2, Option.bind_some, hl3, Option.bind_some, r3, Option.bind_some, y5'', Option.bind_some, g2', Option.bind_some, z1'', Option.bind_some, r4, Option.bind_some, r5]
      · rw [hlen] at P5
        simp only [List.append_assoc, List.singleton_append, rnkO] at P5 ⊢
        exact P5
      · simp only [List.length_cons]; omega
      · simp only [List.length_cons]; omega
end RUN9zb
