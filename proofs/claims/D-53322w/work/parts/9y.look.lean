/-! PLAIN LAW: the class: the object read in any later heap -/
set_option maxRecDepth 100000
def LKX (m x : Nat) (g : GS) (h : PH) (sh p b co mm : Nat) (ms : Nat → Nat) (v ra : Nat) (ru : Nat → Nat) : Prop :=
  (rcv 0 (some x) h = some () ∧ f_X0_page (some x) h = some (some p, h) ∧ f_X0_board (some x) h = some (some b, h) ∧ f_X0_sheet (some x) h = some (some sh, h)) ∧
  (gfr 0 3 (some x) h = some (some v) ∧ gfi 2 2 (some sh) h = some (I (g.1 2)) ∧ gfr 2 3 (some sh) h = some (some co) ∧ rcv 2 (some sh) h = some () ∧ (∀ r, r < 5 → ald 0 (some co) (I r) h = some (I (g.1 (3 + r))))) ∧
  PgB h p mm ms g.1 ∧ VRB m h v ra ru ∧ BdR h b p g.1 (bd g.1) ∧ m + 11 < hn h ∧ x < hn h
theorem CI.lkx {m x : Nat} {h : PH} {g : GS} (C : CI m h x g) (hP : PG' g.1) : ∃ sh p b co mm ms v ra ru, ∀ h', Fr h h' → LKX m x g h' sh p b co mm ms v ra ru := by
  obtain ⟨st, d, da, u, ua, v, ra, ru, la, CM0, sh, sl, fs, t1, t2, ⟨p2, b2, co, mm2, ms2, f, al, fc, fw, S⟩, t4, t5, t6⟩ := C
  have hnc := nc_le hP
  refine ⟨sh, p2, b2, co, mm2, ms2, v, ra, ru, fun h' F => ?_⟩
  obtain ⟨c1, -, -, -, c5, c6, o1, -, -, -, -, o6, o7⟩ := CM0.fr F
  have t1' := F.2.2.1 _ _ t5.1 t1 (by simp [ki, sto])
  obtain ⟨⟨s1, s2⟩, X, W, M, ⟨Bc, b3⟩, ⟨k1, k2⟩, l1, l2, l3, l4, l5, l6, l7⟩ := S.las F.las
  subst s2
  have r0 : gfr 0 0 (some x) h' = some (some st) := gfr_at (x := some st) c1 rfl
  have r1 : gfr 1 0 (some st) h' = some (some sh) := gfr_at (x := some sh) t1' rfl
  have r2 : gfr 2 0 (some sh) h' = some (some p2) := gfr_at (x := some p2) s1 rfl
  have r3 : gfr 2 1 (some sh) h' = some (some b2) := gfr_at (x := some b2) s1 rfl
  refine ⟨⟨rcv_at c1, ?_, ?_, ?_⟩, ⟨gfr_at (x := some v) c1 rfl, gfi_at s1 rfl, gfr_at (x := some co) s1 rfl, rcv_at s1, fun r hr => by rw [ald_at k1 hr (by decide), k2 r hr]⟩, PgW_R X W M hP ⟨(l2 _ (by omega) (Nat.le_refl _)).1, l6.1, fun k hk => (l7 k hk).1⟩, ⟨c5, o6.1, c6⟩, Bc.R hnc.2 b3, o7, o1.1⟩
  · simp only [f_X0_page, r0, r1, r2, Option.bind_some]
  · simp only [f_X0_board, r0, r1, r3, Option.bind_some]
  · simp only [f_X0_sheet, r0, r1, Option.bind_some]
theorem Fr.step {h0 h h' : PH} (F : Fr h0 h) (hl : hn h ≤ hn h') (hgg : hg h' = hg h) (hb : ∀ b, b < hn h0 → h'.1 b = h.1 b) : Fr h0 h' := by
  obtain ⟨a1, a2, a3, a4, a5, a6⟩ := F
  refine ⟨Nat.le_trans a1 hl, hgg.trans a2, fun a c h1 h2 h3 => (hb a h1).trans (a3 a c h1 h2 h3), fun a ra q h1 h2 => ?_, fun a h1 h2 => (hb a h1).trans (a5 a h1 h2), fun a c h1 h2 => ?_⟩
  · obtain ⟨q', e⟩ := a4 a ra q h1 h2
    exact ⟨q', (hb a h1).trans e⟩
  · obtain ⟨c', e1, e2⟩ := a6 a c h1 h2
    exact ⟨c', (hb a h1).trans e1, e2⟩
theorem PQX.frF {kd : Nat} {h h' : PH} {κ : Nat → Nat} {a ea cap : Nat} {l : List Nat} (P : PQX kd h κ a ea cap l) (hk : kdOK kd) (F : Fr h h') : PQX kd h' κ a ea cap l := by
  obtain ⟨fe, cm, mc, q, a1, a2, a3, -⟩ := id P
  refine P.fr F.1 hk (fun b c h1 h2 h3 => F.2.2.1 b c h1 h2 ?_)
  rcases h3 with e | e | e | e | e | e | e | e
  · subst e; rw [a1] at h2; cases h2; simp [ki]
  · subst e; rw [a2] at h2; cases h2; simp [ki]
  all_goals rw [e]; decide
theorem ALX.frF {h h' : PH} {a ea cap : Nat} {l : List Nat} (A : ALX h a ea cap l) (F : Fr h h') : ALX h' a ea cap l := by
  obtain ⟨fe, mc, a1, a2, -⟩ := id A
  obtain ⟨fe, mc, a1, a2, a3, a4, a5, a6, a7, a8⟩ := A
  refine ⟨fe, mc, F.2.2.1 _ _ a7 a1 (by simp [ki]), ?_, a3, a4, a5, fun x hx => ?_, Nat.lt_of_lt_of_le a7 F.1, fun hc => Nat.lt_of_lt_of_le (a8 hc) F.1⟩
  · rcases a2 with ⟨q1, q2⟩ | ⟨q1, q2⟩
    · left; refine ⟨q1, ?_⟩; rw [← q2]; unfold hk; rw [F.2.1]
    · right; exact ⟨q1, F.2.2.1 _ _ (a8 (by omega)) q2 (by simp [ki])⟩
  · obtain ⟨q1, o, q2⟩ := a6 x hx
    exact ⟨Nat.lt_of_lt_of_le q1 F.1, o, F.2.2.1 _ _ q1 q2 (by simp [ki])⟩
/-- a run on its way -/
def RunP (h0 h : PH) (n : Nat) (r x a1 e1 c1 a2 e2 c2 b p : Nat) (w : Nat → Nat) (S : List SP4) (R : List (Nat × Nat)) : Prop :=
  ∃ (l1 l2 : List Nat) (κ : Nat → Nat) (fw : Nat → Int32), h.1 r = some (.inr (19, [.ref a1, .ref b, .ref a2, .ref x])) ∧
  (ALX h a1 e1 c1 l1 ∧ l1.length = S.length ∧ ∀ (i y : Nat) (t : SP4), l1[i]? = some y → S[i]? = some t → ∃ z, z < hn h ∧ b + 1 < z ∧ h.1 y = some (.inr (22, [.ref z])) ∧ h.1 z = some (nar 0 4 (stp4 (qS t)))) ∧
  (BdC h b p fw ∧ ∀ c, c < n → fw c = I (w c)) ∧
  (PQX 20 h κ a2 e2 c2 l2 ∧ l2.length = R.length ∧ ∀ (i y : Nat) (cq : Nat × Nat), l2[i]? = some y → R[i]? = some cq → h.1 y = some (.inr (21, [.int (I cq.1), .int (I cq.2)])) ∧ κ y = cq.2 * 1000000 + cq.1 ∧ cq.1 < 25 ∧ cq.2 < 1000) ∧
  (r < hn h ∧ b + 1 < hn h) ∧ (hn h0 ≤ r ∧ hn h0 ≤ a1 ∧ (0 < c1 → hn h0 ≤ e1) ∧ hn h0 ≤ a2 ∧ hn h0 ≤ e2 ∧ hn h0 ≤ b) ∧ (0 < c1 → e1 ≠ e2) ∧ Fr h0 h
section RUN9y
variable {h0 h : PH} {n r x a1 e1 c1 a2 e2 c2 b p : Nat} {w : Nat → Nat} {S : List SP4} {R : List (Nat × Nat)}
theorem RunP.fr {h' : PH} (P : RunP h0 h n r x a1 e1 c1 a2 e2 c2 b p w S R) (F : Fr h h') : RunP h0 h' n r x a1 e1 c1 a2 e2 c2 b p w S R := by
  obtain ⟨l1, l2, κ, fw, q1, ⟨q2, q3, q4⟩, ⟨⟨q5, q6⟩, q7⟩, ⟨q8, q9, q10⟩, ⟨q11, q12⟩, q13, q14, q15⟩ := P
  have hm1 : ∀ i y, l1[i]? = some y → y < hn h := fun i y hy => by
    obtain ⟨fe, mc, z1, z2, z3, z4, z5, z6, z7⟩ := id q2
    exact (z6 y (List.mem_of_getElem? hy)).1
  have hm2 : ∀ i (y : Nat) cq, l2[i]? = some y → R[i]? = some cq → y < hn h := fun i y cq hy hc => by
    obtain ⟨e1, -⟩ := q10 i y cq hy hc
    obtain ⟨fe, cm, mc, q, g1, g2, g3, g4, g5, g6, g7, g8, g9, g10, g11, g12⟩ := id q8
    have hy' := List.mem_of_getElem? hy
    have := List.count_pos_iff.mpr hy'
    rw [← g11, cnt_pos] at this
    obtain ⟨j, j1, j2⟩ := this
    rw [← j2]; exact (g9 j j1).2
  refine ⟨l1, l2, κ, fw, F.2.2.1 _ _ q11 q1 (by simp [ki]), ⟨q2.frF F, q3, fun i y t h1 h2 => ?_⟩, ⟨⟨F.2.2.1 _ _ (by omega) q5 (by simp [ki]), F.2.2.1 _ _ q12 q6 (by simp [ki])⟩, q7⟩, ⟨q8.frF (by right; right; right; rfl) F, q9, fun i y cq h1 h2 => ?_⟩, ⟨Nat.lt_of_lt_of_le q11 F.1, Nat.lt_of_lt_of_le q12 F.1⟩, q13, q14, q15.trans F⟩
  · obtain ⟨z, z1, z2, z3, z4⟩ := q4 i y t h1 h2
    exact ⟨z, Nat.lt_of_lt_of_le z1 F.1, z2, F.2.2.1 _ _ (hm1 i y h1) z3 (by simp [ki]), F.2.2.1 _ _ z1 z4 (by simp [ki])⟩
  · obtain ⟨z1, z2⟩ := q10 i y cq h1 h2
    exact ⟨F.2.2.1 _ _ (hm2 i y cq h1 h2) z1 (by simp [ki]), z2⟩
end RUN9y
