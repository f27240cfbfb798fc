/-! PLAIN LAW: the class: a run made -/
set_option maxRecDepth 100000
theorem ov_hk {h : PH} {l : List (PC × Nat)} {j : Nat} : hk (ov h l) j = hk h j := rfl
/-- the cells of a new run -/
def runL (n x p z : Nat) (f : Nat → Int32) : List (PC × Nat) := [(.inr (19, [.ref (n + 1), .ref (n + 2), .ref (n + 4), .ref x]), 4), (.inr (29, [.int 0, .ref z, .int 0]), 3), (.inr (4, [.ref p, .ref (n + 3)]), 2), (nar 0 25 f, 25), (.inr (28, [.ref (n + 6), .int 0, .ref (n + 5), .int 0]), 4), (.inr (20, []), 0), (rar 6 11 (fun _ => none), 11)]
section RUN9zc
variable {h0 h : PH} {m r x a1 e1 c1 a2 e2 c2 b p : Nat} {w : Nat → Nat} {S : List SP4} {R : List (Nat × Nat)} {g : GS} {sh pb co mm v ra : Nat} {ms ru : Nat → Nat}
theorem run_58 (LK : ∀ h', Fr h0 h' → LKX m x g h' sh p pb co mm ms v ra ru) (hP : PG' g.1) (hW : W7 g.1 w) (hS : S.length < 1000) :
    ∀ (d c k : Nat) (h : PH) (e2 c2 : Nat), c + d = nc g.1 → d < k → RunP h0 h (nc g.1) r x a1 e1 c1 a2 e2 c2 b p w S ((sgL w c).map (fun i => (i, S.length))) →
    ∃ h' e2' c2', f_X22_init_L58 k (some r) (some x) (I c) h = f_X22_init_L80 FU (some r) (some x) h' ∧ RunP h0 h' (nc g.1) r x a1 e1 c1 a2 e2' c2' b p w S ((sgL w (nc g.1)).map (fun i => (i, S.length))) ∧ hn h' ≤ hn h + 2 * d ∧ hs h' + 2 * c2 ≤ hs h + 2 * c2' + 2 * d := by
  have hnc := nc_le hP
  intro d
  induction d with
  | zero =>
    intro c k h e2 c2 hc hk P
    obtain ⟨k, rfl⟩ : ∃ k', k = k' + 1 := ⟨k - 1, by omega⟩
    obtain ⟨p1, -, -, -, -, F0⟩ := P.rd
    obtain ⟨⟨x1, x2, x3, x4⟩, -, HB, -⟩ := LK h F0
    have e : c = nc g.1 := by omega
    subst e
    refine ⟨h, e2, c2, ?_, P, by omega, by omega⟩
    rw [f_X22_init_L58, x1, Option.bind_some, x2, Option.bind_some, HB.1.rc, Option.bind_some, cp_cells HB.1, Option.bind_some, if_pos (by rw [I_le (by omega) (by omega)]; exact Nat.le_refl _)]
  | succ d ih =>
    intro c k h e2 c2 hc hk P
    obtain ⟨k, rfl⟩ : ∃ k', k = k' + 1 := ⟨k - 1, by omega⟩
    obtain ⟨p1, -, -, -, -, F0⟩ := P.rd
    obtain ⟨⟨x1, x2, x3, x4⟩, -, HB, -⟩ := LK h F0
    have hsl : ∀ n, (sgL w n).length ≤ n := fun n => by
      induction n with
      | zero => exact Nat.le_refl _
      | succ n ih => simp only [sgL, List.length_append]; split <;> simp <;> omega
    have := hsl c
    obtain ⟨h1, e2', c2', r1, P1, n1, s1⟩ := run_know (c := c) P hP hW (by omega) (by simp; omega) hS
    have e : (sgL w c).map (fun i => (i, S.length)) ++ (if pc (w c) = 1 then [(c, S.length)] else []) = (sgL w (c + 1)).map (fun i => (i, S.length)) := by
      simp only [sgL, List.map_append]; congr 1; split <;> rfl
    rw [e] at P1
    obtain ⟨h2, e2'', c2'', r2, P2, n2, s2⟩ := ih (c + 1) k h1 e2' c2' (by omega) (by omega) P1
    refine ⟨h2, e2'', c2'', ?_, P2, by omega, by omega⟩
    rw [f_X22_init_L58, x1, Option.bind_some, x2, Option.bind_some, HB.1.rc, Option.bind_some, cp_cells HB.1, Option.bind_some, if_neg (by rw [I_le (by omega) (by omega)]; omega), p1, Option.bind_some, r1, Option.bind_some, show I c + 1 = I (c + 1) from I_add _ 1, r2]
/-- a new run -/
theorem run_new (LK : ∀ h', Fr h0 h' → LKX m x g h' sh p pb co mm ms v ra ru) (G : G4 h0) (hQ : QInv g.1) (hN : Nrm g.1) (hS : SB g.1) :
    ∃ h' e1 c1 e2 c2, f_X22_init (some (hn h0)) (some x) (ov h0 [(.inr (19, [.null, .null, .null, .null]), 4)]) = some h' ∧ RunP h0 h' (nc g.1) (hn h0) x (hn h0 + 1) e1 c1 (hn h0 + 4) e2 c2 (hn h0 + 2) p (endF g.1 (g.1 2)).2 (endF g.1 (g.1 2)).1 ((sgL (fb g.1) (nc g.1)).map (fun i => (i, 0)) ++ rnkO (fb g.1) (endF g.1 (g.1 2)).1 0) ∧ hn h' ≤ hn h0 + 1000 ∧ hs h' ≤ hs h0 + 5000 := by
  have hP := hQ.1
  have hnc := nc_le hP
  obtain ⟨-, -, HB0, -, -, -, hx⟩ := LK h0 (Fr.refl h0)
  obtain ⟨z, f, g1, g2, g3, g4⟩ := id G
  have LK' : ∀ l, rcv 0 (some x) (ov h0 l) = some () ∧ f_X0_page (some x) (ov h0 l) = some (some p, ov h0 l) := fun l => by
    obtain ⟨⟨x1, x2, -⟩, -⟩ := LK (ov h0 l) (Old.fr Old.ov)
    exact ⟨x1, x2⟩
  have l1 : ∀ l, rcv 0 (some x) (ov h0 l) = some () := fun l => (LK' l).1
  have l2 : ∀ l, f_X0_page (some x) (ov h0 l) = some (some p, ov h0 l) := fun l => (LK' l).2
  have hb4 : ∀ c0 c1 : PC × Nat, f_X4_init (some (hn h0 + 2)) (some p) (ov h0 [c0, c1, (.inr (4, [.null, .null]), 2)]) = some (ov h0 [c0, c1, (.inr (4, [.ref p, .ref (hn h0 + 3)]), 2), (nar 0 25 (fbI g.1 (nc g.1)), 25)]) := fun c0 c1 => by
    have := cb_init (h := ov h0 [c0, c1]) HB0.ov hP hQ.NB hN (fun c hc => (hQ.2.2.1 c hc).2.2.1)
    rw [ov_ov, ov_ov] at this
    exact this
  have hW := fb_W7 hQ.NB
  have hB : B0 g.1 (fb g.1) := fun c hc => fb_0 hQ hc
  have O : Old h0 (ov h0 (runL (hn h0) x p z (fbI g.1 (nc g.1)))) := Old.ov
  have A : ∀ i c k, (runL (hn h0) x p z (fbI g.1 (nc g.1)))[i]? = some (c, k) → (ov h0 (runL (hn h0) x p z (fbI g.1 (nc g.1)))).1 (hn h0 + i) = some c := fun i c k hi => ov_at hi
  have P0 : RunP h0 (ov h0 (runL (hn h0) x p z (fbI g.1 (nc g.1)))) (nc g.1) (hn h0) x (hn h0 + 1) z 0 (hn h0 + 4) (hn h0 + 6) 11 (hn h0 + 2) p (fb g.1) [] ((sgL (fb g.1) 0).map (fun i => (i, ([] : List SP4).length))) := by
    have hl : hn (ov h0 (runL (hn h0) x p z (fbI g.1 (nc g.1)))) = hn h0 + 7 := rfl
    refine ⟨[], [], fun _ => 0, fbI g.1 (nc g.1), A 0 _ 4 rfl, ⟨⟨fun _ => none, 0, A 1 _ 3 rfl, Or.inl ⟨rfl, g1⟩, Nat.le_refl _, by decide, fun i y hy => (by cases hy), fun y hy => (by cases hy), by omega, fun h => (by omega)⟩, rfl, fun i y t h => (by cases h)⟩, ⟨⟨A 2 _ 2 rfl, A 3 _ 25 rfl⟩, fun c hc => by unfold fbI; rw [if_pos hc]⟩, ⟨⟨fun _ => none, hn h0 + 5, 0, fun _ => 0, A 4 _ 4 rfl, A 6 _ 11 rfl, A 5 _ 0 rfl, by decide, by decide, by decide, fun i hi => (by cases hi), fun i _ _ => rfl, fun i hi => (by cases hi), fun i h1 h2 => (by cases h2), fun y => rfl, by omega, by omega, by omega⟩, rfl, fun i y cq h => (by cases h)⟩, ⟨by omega, by omega⟩, ⟨by omega, by omega, fun h => by omega, by omega, by omega, by omega⟩, fun h => by omega, O.fr⟩
  obtain ⟨h1, e2, c2, r1, P1, n1, s1⟩ := run_58 (S := []) LK hP hW (by decide) (nc g.1) 0 FU _ _ _ (by omega) (by rw [FU_eq]; omega) P0
  have hmu := mu_le g.1 (fb g.1)
  have hrl := rnk_len (s := g.1) (rules := g.1 2) 151 (fb g.1) hW
  have hsg : (sgL (fb g.1) (nc g.1)).length = sgl g.1 (fb g.1) := sgL_len _ _
  obtain ⟨h2, e1', c1', e2', c2', r2, P2, n2, s2⟩ := run_go LK G hQ hN hS 151 FU (fb g.1) [] _ h1 z 0 e2 c2 P1 hW hB (by omega) (by rw [FU_eq]; omega) (by simp; omega) (by
    rw [List.length_map, hsg]; omega)
  have hgl := goE_len (s := g.1) (w := fb g.1) (rules := g.1 2) hP
  unfold goE at hgl
  have hcap : c1' ≤ 300 ∧ c2' ≤ 300 := by
    obtain ⟨k1, k2, κ, fw, -, ⟨⟨_, _, _, _, _, q4, _⟩, -⟩, -, ⟨⟨_, _, _, _, _, _, _, _, _, q9, _⟩, -⟩, -⟩ := P2
    exact ⟨q4, q9⟩
  refine ⟨h2, e1', c1', e2', c2', ?_, ?_, ?_, ?_⟩
  · rw [← r2, ← r1]
    unfold f_X22_init f_J24_init f_J23_init f_J14_init f_X23_init f_J20_init f_J20_init_2 f_J19_init f_J14_init
    have e11 : (11 : Int32) = I 11 := rfl
    have e0 : hn h0 = hn h0 + 0 := rfl
    rw [e0]
    simp (disch := first | omega | assumption) only [ov_nwO, ov_nwi, ov_nwr, ov_pfC, ovpf, ov_gfiC, ov_gfrC, ov_rcvC, ovob, List.length_cons, List.length_nil, Nat.reduceAdd, Nat.zero_add, List.nil_append, List.cons_append, List.getElem?_cons_zero, List.getElem?_cons_succ, List.getElem?_nil, List.set_cons_zero, List.set_cons_succ, Option.bind_some, Option.map_some, lit_I, va_rf, vI, vR, true_and, Nat.reduceLT, Nat.reduceLeDiff, Nat.reduceEqDiff, if_true, if_false, nn, ov_ov, ov_asiC, ovasi, inb_I, I_clamp, l1, l2, hb4, ov_hk, g1, e11, I_le, if_pos]
    rfl
  · simp only [List.nil_append] at P2
    exact P2
  · have : hn (ov h0 (runL (hn h0) x p z (fbI g.1 (nc g.1)))) = hn h0 + 7 := rfl
    omega
  · have : hs (ov h0 (runL (hn h0) x p z (fbI g.1 (nc g.1)))) = hs h0 + 49 := rfl
    omega
end RUN9zc
