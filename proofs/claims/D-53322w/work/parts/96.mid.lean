/-! PLAIN LAW: the class: in the midst of a call that changes -/
set_option maxRecDepth 100000
def Mid (m x n0 : Nat) (h : PH) (st sh sl p b co mm : Nat) (ms : Nat → Nat) (f : F4) (fc fw : Nat → Int32) (fs : Nat → Option Nat) (s : Nat → Nat) (L : List (Nat → Nat)) (n : Nat) (tx : Nat → Nat) : Prop :=
  (∃ d da u ua v ra ru la, CM m (tr n0 h) x st L n tx d da u ua v ra ru la) ∧ LVX h n0 st sh sl p b co mm (I (s 0)) (I (s 1)) f (I (s 2)) fc fw fs ∧ PgW s f ∧ MbR h mm ms s ∧ (Al m h mm ∧ ∀ k, k < rkTo s (nc s) → Al m h (ms k) ∧ ms k ≠ p + 1 ∧ ms k ≠ p + 2 ∧ ms k ≠ b + 1 ∧ ms k ≠ co) ∧ (∀ r, r < 5 → fc r = I (s (3 + r))) ∧ SlC m (tr n0 h) fs s ∧ n0 ≤ hn h
theorem Al_tr {m n a : Nat} {h : PH} (A : Al m (tr n h) a) (hl : n ≤ hn h) : Al m h a := ⟨Nat.lt_of_lt_of_le A.1 hl, A.2.1, A.2.2⟩
theorem Keep_old {h0 h1 h : PH} (K : Keep h0 h1) (O : Old (tr (hn h0) h1) h) : Keep h0 h :=
  ⟨O.1, O.2.1.trans K.2.1, fun a ha => by rw [O.2.2 a ha]; exact K.2.2 a ha⟩
theorem ca_begin2 {m x : Nat} {h : PH} {g : GS} (C : CI m h x g) (hP : PInv g.1) :
    ∃ h1 mm ms f fc fw fs, f_X0_act (some x) h = some (some (hn h + 1), h1) ∧ Mid m x (hn h) h1 (hn h) (hn h + 1) (hn h + 10) (hn h + 2) (hn h + 8) (hn h + 7) mm ms f fc fw fs g.1 (push g.2.1 g.1) g.2.2.1 g.2.2.2 ∧ (∀ c, c < nc g.1 → fw c = I (g.1 (93 + c))) ∧ Keep h h1 ∧ hn h1 = hn h + 11 ∧ hs h1 = hs h + 132 ∧ (∀ a c, h.1 a = some c → a < hn h → ki c ≠ 0 → ki c ≠ 26 → ki c ≠ 1006 → h1.1 a = h.1 a) ∧ (∀ k y, 1 ≤ k → gfr 0 k (some x) h = some y → gfr 0 k (some x) h1 = some y) := by
  obtain ⟨h1, d, da, u, ua, v, ra, ru, la, mm, ms, f, fc, fw, fs, e1, e2, e3, e4, e5, e6, e7, e8, e9, e10, e11, e12⟩ := ca_act C hP
  have hl : hn h ≤ hn h1 := by omega
  refine ⟨h1, mm, ms, f, fc, fw, fs, e1, ⟨⟨d, da, u, ua, v, ra, ru, la, e2⟩, e3, e4, e5, ⟨Al_tr e6.1 hl, fun k hk => ⟨Al_tr (e6.2 k hk) hl, ?_⟩⟩, e8, e9, hl⟩, e7, e10, e11, e12⟩
  have : ms k < hn h := (e6.2 k hk).1
  omega
theorem ca_begin {m x : Nat} {h : PH} {g : GS} (C : CI m h x g) (hP : PInv g.1) :
    ∃ h1 mm ms f fc fw fs, f_X0_act (some x) h = some (some (hn h + 1), h1) ∧ Mid m x (hn h) h1 (hn h) (hn h + 1) (hn h + 10) (hn h + 2) (hn h + 8) (hn h + 7) mm ms f fc fw fs g.1 (push g.2.1 g.1) g.2.2.1 g.2.2.2 ∧ (∀ c, c < nc g.1 → fw c = I (g.1 (93 + c))) ∧ Keep h h1 ∧ hn h1 = hn h + 11 ∧ hs h1 = hs h + 132 := by
  obtain ⟨h1, mm, ms, f, fc, fw, fs, e1, e2, e3, e4, e5, e6, -⟩ := ca_begin2 C hP
  exact ⟨h1, mm, ms, f, fc, fw, fs, e1, e2, e3, e4, e5, e6⟩
section MID
variable {m x n0 : Nat} {h : PH} {st sh sl p b co mm : Nat} {ms : Nat → Nat} {f : F4} {fc fw : Nat → Int32} {fs : Nat → Option Nat} {s : Nat → Nat} {L : List (Nat → Nat)} {n : Nat} {tx : Nat → Nat}
theorem Mid.m11 (M : Mid m x n0 h st sh sl p b co mm ms f fc fw fs s L n tx) : m + 11 < n0 := by
  obtain ⟨⟨d, da, u, ua, v, ra, ru, la, -, -, -, -, -, -, -, -, -, -, -, -, h1⟩, -⟩ := M
  exact h1
theorem Mid.pg (M : Mid m x n0 h st sh sl p b co mm ms f fc fw fs s L n tx) (hP : PG' s) : PgB h p mm ms s := by
  obtain ⟨-, X, W, R, A, -⟩ := M
  exact PgW_R X.1.2.2.2.1 W R hP ⟨X.2.2.1.2.2.2.1, A.1.1, fun k hk => (A.2 k hk).1.1⟩
/-- the call is at its end -/
theorem Mid.fin (M : Mid m x n0 h st sh sl p b co mm ms f fc fw fs s L n tx) (hw : ∀ c, c < nc s → fw c = I (s (93 + c))) : CI m h x (s, L, n, tx) := by
  have hm := M.m11
  obtain ⟨⟨d, da, u, ua, v, ra, ru, la, C⟩, X, W, R, A, hfc, S, hl⟩ := M
  exact ⟨st, d, da, u, ua, v, ra, ru, la, C.old (old_tr hl), St_of hm X rfl rfl W R A.1 (fun k hk => (A.2 k hk).1) hw hfc rfl (S.las (old_tr hl).las)⟩
theorem SlC.row {t : Nat → Nat} (S : SlC m h fs s) (ht : ∀ k, 118 ≤ k → t k = s k) : SlC m h fs t := by
  intro q hq
  have e : slt t q = slt s q := by funext k; unfold slt; exact ht _ (by omega)
  rw [ht _ (by omega), e]
  exact S q hq
theorem PgW_row {t : Nat → Nat} {f' : F4} (W : PgW s f) (h0 : t 0 = s 0) (h1 : t 1 = s 1) (hb : ∀ c, c < nc s → f'.1 c = I (t (8 + c)) ∧ f'.2.1 c = I (t (33 + c)) ∧ f'.2.2.1 c = I (t (58 + c))) (hi : ∀ i, i < s 0 + s 1 → f'.2.2.2 i = I (t (83 + i))) (q1 : b01 f'.2.2.1) (q2 : b01 f'.2.2.2) : PgW t f' := by
  refine ⟨fun c hc => hb c (by rw [nc_of h0 h1] at hc; exact hc), fun i hi' => hi i (by rw [h0, h1] at hi'; exact hi'), q1, q2⟩
/-- the new page's rows change -/
theorem Mid.page {h' : PH} {t : Nat → Nat} {f' : F4} (M : Mid m x n0 h st sh sl p b co mm ms f fc fw fs s L n tx) (hn' : hn h' = hn h) (hg' : hg h' = hg h) (ha : ∀ a, a ≠ p + 1 → a ≠ p + 2 → a ≠ p + 3 → a ≠ p + 4 → h'.1 a = h.1 a) (X' : PgX h' p mm (I (s 0)) (I (s 1)) f') (W' : PgW t f') (hlo : ∀ k, k < 33 → t k = s k) (hhi : ∀ k, 118 ≤ k → t k = s k) (hP : PG' s) : Mid m x n0 h' st sh sl p b co mm ms f' fc fw fs t L n tx ∧ Old (tr n0 h) h' := by
  obtain ⟨⟨d, da, u, ua, v, ra, ru, la, C⟩, ⟨⟨x1, x2, x3, x4, x5, x6⟩, ⟨b1, b2, b3, b4, b5, b6⟩, ⟨c1, c2, c3, c4, c5, c6⟩, D⟩, W, R, A, hfc, S, hl⟩ := M
  have hnc := nc_le hP
  have e0 := hlo 0 (by decide)
  have e1 := hlo 1 (by decide)
  have hncE : nc t = nc s := nc_of e0 e1
  obtain ⟨y0, y1, y2, y3, y4⟩ := x4
  have nk : ∀ a (c : PC), h.1 a = some c → ki c ≠ 1000 → ki c ≠ 1001 → h'.1 a = h.1 a := fun a c hc k1 k2 => by
    refine ha a ?_ ?_ ?_ ?_
    · intro e; subst e; rw [y1] at hc; cases hc; exact k1 rfl
    · intro e; subst e; rw [y2] at hc; cases hc; exact k1 rfl
    · intro e; subst e; rw [y3] at hc; cases hc; exact k2 rfl
    · intro e; subst e; rw [y4] at hc; cases hc; exact k2 rfl
  have nk2 : ∀ a f, h.1 a = some (nar 0 25 f) ∨ h.1 a = some (nar 0 5 f) → a ≠ p + 1 → a ≠ p + 2 → h'.1 a = h.1 a := fun a f hc k1 k2 => by
    refine ha a k1 k2 ?_ ?_
    · intro e; subst e; rw [y3] at hc; rcases hc with hc | hc <;> cases hc
    · intro e; subst e; rw [y4] at hc; rcases hc with hc | hc <;> cases hc
  have O : Old (tr n0 h) h' := ⟨by rw [hn']; exact hl, hg', fun a h1 => by have : a < n0 := h1; exact ha a (by omega) (by omega) (by omega) (by omega)⟩
  have LA : ∀ a, Al m h a → a ≠ p + 1 → a ≠ p + 2 → a ≠ p + 3 → a ≠ p + 4 → Al m h' a ∧ h'.1 a = h.1 a := fun a A0 k1 k2 k3 k4 => by
    obtain ⟨z1, z2, c, z3, z4⟩ := A0
    have e := ha a k1 k2 k3 k4
    exact ⟨⟨by rw [hn']; exact z1, z2, c, e.trans z3, z4⟩, e⟩
  have e3 : h'.1 mm = h.1 mm := by
    obtain ⟨c, hc, hf⟩ := A.1.2.2
    have hm3 := R.1
    refine nk mm c hc ?_ ?_
    · intro e; simp only [aln, ar, lk_own hc] at hm3
      cases c with
      | inr o => simp at hm3
      | inl o => simp only [ki] at e; have : ¬ o.1 = 3 := by omega
                 simp [this] at hm3
    · intro e; simp only [aln, ar, lk_own hc] at hm3
      cases c with
      | inr o => simp at hm3
      | inl o => simp only [ki] at e; have : ¬ o.1 = 3 := by omega
                 simp [this] at hm3
  have e4 : ∀ k, k < rkTo s (nc s) → h'.1 (ms k) = h.1 (ms k) := fun k hk => by
    obtain ⟨A1, A2, A3, -⟩ := A.2 k hk
    have hm3 := (R.2 k hk).2.1
    refine ha _ A2 A3 ?_ ?_
    · intro e; rw [e] at hm3; simp only [aln, ar, lk_own y3] at hm3; simp at hm3
    · intro e; rw [e] at hm3; simp only [aln, ar, lk_own y4] at hm3; simp at hm3
  have hR : MbR h' mm ms s := MbR_agree (A.1.lk e3) (fun k hk => (A.2 k hk).1.lk (e4 k hk)) R
  have er : rkTo t (nc t) = rkTo s (nc s) := by
    have hM := MbR_row e0 e1 (fun c hc => hlo _ (by omega)) hR
    have q1 := hM.1
    rw [hR.1] at q1
    have q2 := Option.some.inj q1
    have r1 := rkTo_le s (nc s)
    have r2 := rkTo_le t (nc t)
    rw [I_eq (by omega) (by omega)] at q2
    exact q2.symm
  have O2 : Old (tr n0 h) (tr n0 h') := tr_old O
  refine ⟨⟨⟨d, da, u, ua, v, ra, ru, la, C.old O2⟩, ⟨⟨(nk _ _ x1 (by simp [ki, sto]) (by simp [ki, sto])).trans x1, (nk _ _ x2 (by simp [ki]) (by simp [ki])).trans x2, ?_, by rw [e0, e1]; exact X', ⟨(nk _ _ x5.1 (by simp [ki]) (by simp [ki])).trans x5.1, (nk2 _ fw (Or.inl x5.2) D.1 D.2.1).trans x5.2⟩, (nk2 _ fc (Or.inr x6) D.2.2.1 D.2.2.2.1).trans x6⟩, ⟨b1, b2, b3, b4, b5, b6⟩, by rw [hn']; exact ⟨c1, c2, c3, c4, c5, c6⟩, D⟩, W', MbR_row e0 e1 (fun c hc => hlo _ (by omega)) hR, ⟨⟨by rw [hn']; exact A.1.1, A.1.2.1, ?_⟩, fun k hk => ?_⟩, fun r hr => by rw [hlo _ (by omega)]; exact hfc r hr, (SlC.row S hhi).las O2.las, by rw [hn']; exact hl⟩, O⟩
  · rw [hlo 2 (by decide)]; exact (nk _ _ x3 (by simp [ki, sho]) (by simp [ki, sho])).trans x3
  · rw [e3]; exact A.1.2.2
  · rw [er] at hk
    obtain ⟨A1, A2⟩ := A.2 k hk
    exact ⟨⟨by rw [hn']; exact A1.1, A1.2.1, by rw [e4 k hk]; exact A1.2.2⟩, A2⟩
/-- the board is laid anew -/
theorem Mid.reset (M : Mid m x n0 h st sh sl p b co mm ms f fc fw fs s L n tx) (hQ : QInv s) (hN : Nrm s) : ∃ h', f_X2_reset (some sh) h = some h' ∧ Mid m x n0 h' st sh sl p (hn h) co mm ms f fc (fbI s (nc s)) fs (sReset s) L n tx ∧ Old (tr n0 h) h' ∧ hn h' = hn h + 2 ∧ hs h' = hs h + 27 := by
  have hP := hQ.1
  have hnc := nc_le hP
  have hpg := M.pg hP
  obtain ⟨⟨d, da, u, ua, v, ra, ru, la, C⟩, ⟨⟨x1, x2, x3, x4, x5, x6⟩, ⟨b1, b2, b3, b4, b5, b6⟩, ⟨c1, c2, c3, c4, c5, c6⟩, D⟩, W, R, A, hfc, S, hl⟩ := M
  have e := cs_reset x3 c2 hpg hP hQ.NB hN (fun c hc => (hQ.2.2.1 c hc).2.2.1)
  have OS : ∀ a, a < hn h → a ≠ sh → (ov (hset h sh (.inr (2, [.ref p, .ref (hn h), .int (I (s 2)), .ref co]))) (bdl (hn h) p (fbI s (nc s)))).1 a = h.1 a := fun a h1 h2 => (ov_old (h := hset h sh _) h1).trans (hset_ne h2)
  have O : Old (tr n0 h) (ov (hset h sh (.inr (2, [.ref p, .ref (hn h), .int (I (s 2)), .ref co]))) (bdl (hn h) p (fbI s (nc s)))) := ⟨by rw [ov_hn]; show n0 ≤ hn h + 2; omega, rfl, fun a h1 => by have h2 : a < n0 := h1; exact OS a (by omega) (by omega)⟩
  have O2 := tr_old O
  have hsh : ∀ a (c : PC), h.1 a = some c → a < hn h → ki c ≠ 2 → (ov (hset h sh (.inr (2, [.ref p, .ref (hn h), .int (I (s 2)), .ref co]))) (bdl (hn h) p (fbI s (nc s)))).1 a = h.1 a := fun a c q1 q2 q3 => OS a q2 (fun e => by subst e; rw [x3] at q1; cases q1; exact q3 rfl)
  have r0 := sReset_lo (s := s) (k := 0) (Or.inl (by decide))
  have r1 := sReset_lo (s := s) (k := 1) (Or.inl (by decide))
  have hmk : ∀ a, Al m h a → a ≠ sh → Al m (ov (hset h sh (.inr (2, [.ref p, .ref (hn h), .int (I (s 2)), .ref co]))) (bdl (hn h) p (fbI s (nc s)))) a ∧ (ov (hset h sh (.inr (2, [.ref p, .ref (hn h), .int (I (s 2)), .ref co]))) (bdl (hn h) p (fbI s (nc s)))).1 a = h.1 a := fun a A0 q => by
    obtain ⟨z1, z2, c, z3, z4⟩ := A0
    have e := OS a z1 q
    exact ⟨⟨by rw [ov_hn]; show a < hn h + 2; omega, z2, c, e.trans z3, z4⟩, e⟩
  have nmm : mm ≠ sh := by
    intro e; have := R.1; rw [e] at this; simp only [aln, ar, lk_own x3, sho] at this; simp at this
  have nms : ∀ k, k < rkTo s (nc s) → ms k ≠ sh := fun k hk e => by
    have := (R.2 k hk).2.1; rw [e] at this; simp only [aln, ar, lk_own x3, sho] at this; simp at this
  have hR : MbR (ov (hset h sh (.inr (2, [.ref p, .ref (hn h), .int (I (s 2)), .ref co]))) (bdl (hn h) p (fbI s (nc s)))) mm ms s := MbR_agree (A.1.lk (hmk _ A.1 nmm).2) (fun k hk => (A.2 k hk).1.lk (hmk _ (A.2 k hk).1 (nms k hk)).2) R
  have hR2 := MbR_row (t := sReset s) r0 r1 (fun c hc => sReset_lo (Or.inl (by omega))) hR
  have er : rkTo (sReset s) (nc (sReset s)) = rkTo s (nc s) := by
    have q1 := hR2.1
    rw [hR.1] at q1
    have q2 := Option.some.inj q1
    have t1 := rkTo_le s (nc s)
    have t2 := rkTo_le (sReset s) (nc (sReset s))
    rw [nc_sReset] at t2 q2 ⊢
    rw [I_eq (by omega) (by omega)] at q2
    exact q2.symm
  have a1 := hP.2.1
  have a4 := hP.2.2.2
  refine ⟨_, e, ⟨⟨d, da, u, ua, v, ra, ru, la, C.old O2⟩, ⟨⟨(hsh _ _ x1 c1 (by simp [ki, sto])).trans x1, (hsh _ _ x2 c3 (by simp [ki])).trans x2, ?_, ?_, ⟨ov_at (h := hset h sh _) (i := 0) (n := 2) rfl, ov_at (h := hset h sh _) (i := 1) (n := 25) rfl⟩, (hsh _ _ x6 c6 (by simp [ki])).trans x6⟩, ⟨b1, b2, b3, b4, hl, b6⟩, ?_, ?_⟩, ?_, hR2, ⟨(hmk _ A.1 nmm).1, fun k hk => ?_⟩, fun r hr => by rw [sReset_lo (Or.inl (by omega))]; exact hfc r hr, (SlC.row S (fun k hk => sReset_lo (Or.inr hk))).las O2.las, by rw [ov_hn]; show n0 ≤ hn h + 2; omega⟩, O, rfl, rfl⟩
  · rw [sReset_lo (k := 2) (Or.inl (by decide))]; exact (ov_old (h := hset h sh _) c2).trans hset_at
  · rw [r0, r1]
    obtain ⟨y0, y1, y2, y3, y4⟩ := x4
    exact ⟨(hsh _ _ y0 (by omega) (by simp [ki, pgo])).trans y0, (hsh _ _ y1 (by omega) (by simp [ki])).trans y1, (hsh _ _ y2 (by omega) (by simp [ki])).trans y2, (hsh _ _ y3 (by omega) (by simp [ki])).trans y3, (hsh _ _ y4 (by omega) (by simp [ki])).trans y4⟩
  · show st < hn h + 2 ∧ sh < hn h + 2 ∧ sl < hn h + 2 ∧ p + 4 < hn h + 2 ∧ hn h + 1 < hn h + 2 ∧ co < hn h + 2
    omega
  · omega
  · refine PgW_row W r0 r1 (fun c hc => ?_) (fun i hi => ?_) W.2.2.1 W.2.2.2
    · rw [sReset_lo (Or.inl (by omega)), sReset_lo (Or.inl (by omega)), sReset_lo (Or.inl (by omega))]; exact W.1 c hc
    · rw [sReset_lo (Or.inl (by omega))]; exact W.2.1 i hi
  · rw [er] at hk
    obtain ⟨A1, A2, A3, A4, A5⟩ := A.2 k hk
    refine ⟨(hmk _ A1 (nms k hk)).1, A2, A3, ?_, A5⟩
    have := A1.1
    omega
theorem Mid.reset_w (hP : PG' s) : ∀ c, c < nc (sReset s) → fbI s (nc s) c = I (sReset s (93 + c)) := fun c hc => by
  rw [nc_sReset] at hc
  rw [sReset_93 hP hc]; unfold fbI; rw [if_pos hc]
end MID
