/-! PLAIN LAW: the class: rank -/
set_option maxRecDepth 100000
def RkQ (h : PH) (r a2 e2 c2 : Nat) (l : List Nat) (R : List (Nat × Nat)) : Prop := ∃ (κ : Nat → Nat) (fs : List Value), h.1 r = some (.inr (19, fs)) ∧ fs[2]? = some (.ref a2) ∧ r < hn h ∧ PQX 20 h κ a2 e2 c2 l ∧ l.length = R.length ∧ ∀ (i y : Nat) (cq : Nat × Nat), l[i]? = some y → R[i]? = some cq → h.1 y = some (.inr (21, [.int (I cq.1), .int (I cq.2)])) ∧ κ y = cq.2 * 1000000 + cq.1 ∧ cq.1 < 25 ∧ cq.2 < 1000
theorem RkQ_poll {h : PH} {r a2 e2 c2 y0 : Nat} {l : List Nat} {R : List (Nat × Nat)} {c0 : Nat × Nat} (Q : RkQ h r a2 e2 c2 (y0 :: l) (c0 :: R)) (hs' : (c0 :: R).Pairwise ltO) : ∃ h', f_J20_poll (some a2) h = some (some y0, h') ∧ RkQ h' r a2 e2 c2 l R ∧ hn h' = hn h ∧ hs h' = hs h ∧ hg h' = hg h ∧ (∀ b, b < hn h → b ≠ a2 → b ≠ e2 → h'.1 b = h.1 b) ∧ chk 21 (some y0) h' = some () ∧ gfi 21 0 (some y0) h' = some (I c0.1) := by
  obtain ⟨κ, fs, q1, q2, q3, q4, q5, q6⟩ := Q
  obtain ⟨h', y, w1, w2, w3, w4, ⟨f1, f2, f3, f4, f5⟩, w6, w7, w8, w9⟩ := pq_poll q4 (by right; right; right; rfl) (by simp)
  obtain ⟨z1, z2, z3, z4⟩ := q6 0 y0 c0 rfl rfl
  have hlen : l.length = R.length := by simpa using q5
  have hy : y = y0 := by
    rcases List.mem_cons.mp w2 with e | e
    · exact e
    · exfalso
      obtain ⟨j, hj, hjl⟩ := List.mem_iff_getElem.mp e
      have hjR : R[j]? = some (R[j]'(by omega)) := List.getElem?_eq_getElem (by omega)
      obtain ⟨-, k2, -⟩ := q6 (j + 1) y (R[j]'(by omega)) (by rw [List.getElem?_cons_succ, List.getElem?_eq_getElem hj, hjl]) (by rw [List.getElem?_cons_succ]; exact hjR)
      have h1 := w3 y0 (by simp)
      have h2 := (List.pairwise_cons.mp hs').1 _ (List.getElem_mem (by omega : j < R.length))
      unfold ltO at h2
      omega
  subst hy
  have he : (y :: l).erase y = l := List.erase_cons_head _ _
  rw [he] at w4
  obtain ⟨fe, cm, mc, q, p1, p2, p3, -⟩ := id q4
  have hne : ∀ b (d : PC), b < hn h → h.1 b = some d → ki d ≠ 28 → ki d ≠ 1006 → h'.1 b = some d := fun b d a1 a2 a3 a4 => by
    rw [f3 b a1 (fun e => by subst e; rw [p1] at a2; cases a2; exact a3 rfl) (fun e => by subst e; rw [p2] at a2; cases a2; exact a4 rfl)]; exact a2
  have hy0 := hne y _ w9 z1 (by simp [ki]) (by simp [ki])
  refine ⟨h', w1, ⟨κ, fs, hne _ _ q3 q1 (by simp [ki]) (by simp [ki]), q2, by omega, w4, hlen, fun i y' cq a1 a2 => ?_⟩, w6, w7, f2, f3, ?_, gfi_at hy0 rfl⟩
  · obtain ⟨k1, k2⟩ := q6 (i + 1) y' cq (by rw [List.getElem?_cons_succ]; exact a1) (by rw [List.getElem?_cons_succ]; exact a2)
    exact ⟨hne _ _ (PQX_mem q4 (by have := List.mem_of_getElem? a1; simp [this])).2 k1 (by simp [ki]) (by simp [ki]), k2⟩
  · unfold chk; rw [if_pos (Or.inr (clo_at hy0))]
theorem RkQ_rank {r a2 e2 c2 n0 : Nat} (ha2 : n0 ≤ a2 ∧ n0 ≤ e2) : ∀ (R : List (Nat × Nat)) (l : List Nat) (h : PH) (k x : Nat), RkQ h r a2 e2 c2 l R → R.Pairwise ltO → R.length < k → x < 2147483648 → n0 ≤ hn h →
    ∃ h', f_X22_rank_L2 k (some r) (I x) h = some ((match R[x]? with | some cq => I cq.1 | none => -99), h') ∧ hn h' = hn h ∧ hs h' = hs h ∧ hg h' = hg h ∧ ∀ b, b < n0 → h'.1 b = h.1 b := by
  intro R
  induction R with
  | nil =>
    intro l h k x Q _ hk hx hn0
    obtain ⟨k, rfl⟩ : ∃ k', k = k' + 1 := ⟨k - 1, by simp at hk; omega⟩
    obtain ⟨κ, fs, q1, q2, q3, q4, q5, q6⟩ := Q
    have hl : l = [] := List.length_eq_zero_iff.mp (by simpa using q5)
    subst hl
    have r2 : gfr 19 2 (some r) h = some (some a2) := gfr_at (x := some a2) q1 q2
    have em := pq_empty q4
    have rc := pq_rc q4
    have e1 : I (bit (([] : List Nat) = [])) = 1 := by simp [bit]; rfl
    have b33 : f_X22_rank_B33 (some r) h = some (-99, h) := by
      unfold f_X22_rank_B33
      rw [r2, Option.bind_some, rc, Option.bind_some, em, Option.bind_some, if_neg (show ¬ I (bit (([] : List Nat) = [])) = 0 by rw [e1]; decide)]
    refine ⟨h, ?_, rfl, rfl, rfl, fun b _ => rfl⟩
    rw [f_X22_rank_L2]
    by_cases h0 : I x ≤ 0
    · rw [if_pos h0, b33]; rfl
    · rw [if_neg h0, r2, Option.bind_some, rc, Option.bind_some, em, Option.bind_some, if_neg (show ¬ I (bit (([] : List Nat) = [])) = 0 by rw [e1]; decide), b33]; rfl
  | cons c0 R ih =>
    intro l h k x Q hs' hk hx hn0
    obtain ⟨k, rfl⟩ : ∃ k', k = k' + 1 := ⟨k - 1, by simp at hk; omega⟩
    obtain ⟨y0, l, rfl⟩ : ∃ y0 l', l = y0 :: l' := by
      obtain ⟨κ, fs, q1, q2, q3, q4, q5, q6⟩ := id Q
      cases l with
      | nil => simp at q5
      | cons y t => exact ⟨y, t, rfl⟩
    obtain ⟨κ, fs, q1, q2, q3, q4, q5, q6⟩ := id Q
    have r2 : gfr 19 2 (some r) h = some (some a2) := gfr_at (x := some a2) q1 q2
    have em := pq_empty q4
    have rc := pq_rc q4
    have e1 : I (bit ((y0 :: l) = [])) = 0 := by simp [bit]; rfl
    obtain ⟨h1, p1, Q1, n1, s1, g1, f1, ck, gc⟩ := RkQ_poll Q hs'
    have o1 : ∀ b, b < n0 → h1.1 b = h.1 b := fun b hb => f1 b (by omega) (by omega) (by omega)
    rw [f_X22_rank_L2]
    by_cases h0 : x = 0
    · subst h0
      refine ⟨h1, ?_, n1, s1, g1, o1⟩
      rw [if_pos (by decide)]
      unfold f_X22_rank_B33
      rw [r2, Option.bind_some, rc, Option.bind_some, em, Option.bind_some, if_pos e1, r2, Option.bind_some, rc, Option.bind_some, p1, Option.bind_some, ck, Option.bind_some, gc, Option.bind_some]
      rfl
    · obtain ⟨h2, w1, n2, s2, g2, f2⟩ := ih l h1 k (x - 1) Q1 (List.pairwise_cons.mp hs').2 (by simp at hk; omega) (by omega) (by omega)
      refine ⟨h2, ?_, by omega, by omega, g2.trans g1, fun b hb => (f2 b hb).trans (o1 b hb)⟩
      have ex : I x + (-1) = I (x - 1) := I_addM (b := 1) (by omega)
      rw [if_neg (by rw [show (0 : Int32) = I 0 from rfl, I_le hx (by decide)]; omega), r2, Option.bind_some, rc, Option.bind_some, em, Option.bind_some, if_pos e1, r2, Option.bind_some, rc, Option.bind_some, p1, Option.bind_some, ck, Option.bind_some, ex, w1]
      obtain ⟨j, rfl⟩ : ∃ j, x = j + 1 := ⟨x - 1, by omega⟩
      rw [List.getElem?_cons_succ]
      rfl
theorem RunP.rq {h0 h : PH} {n r x a1 e1 c1 a2 e2 c2 b p : Nat} {w : Nat → Nat} {S : List SP4} {R : List (Nat × Nat)} (P : RunP h0 h n r x a1 e1 c1 a2 e2 c2 b p w S R) : ∃ l, RkQ h r a2 e2 c2 l R ∧ hn h0 ≤ a2 ∧ hn h0 ≤ e2 := by
  obtain ⟨l1, l2, κ, fw, q1, q2, q3, ⟨q4, q5, q6⟩, ⟨q7, q8⟩, ⟨g1, g2, g3, g4, g5, g6⟩, -⟩ := P
  exact ⟨l2, ⟨κ, _, q1, rfl, q7, q4, q5, q6⟩, g4, g5⟩
