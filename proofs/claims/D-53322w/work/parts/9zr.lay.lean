/-! PLAIN LAW: the class: a page laid -/
set_option maxRecDepth 100000
/-- in the midst of a change, but for page and board -/
def MidW (m x n0 : Nat) (h : PH) (st sh sl co : Nat) (fc : Nat → Int32) (fs : Nat → Option Nat) (s : Nat → Nat) (L : List (Nat → Nat)) (n : Nat) (tx : Nat → Nat) : Prop :=
  (∃ d da u ua v ra ru la, CM m (tr n0 h) x st L n tx d da u ua v ra ru la) ∧ (h.1 st = some (sto sh sl) ∧ h.1 sl = some (rar 4 2 fs) ∧ (∃ p b : Nat, h.1 sh = some (sho p b co (I (s 2)))) ∧ h.1 co = some (nar 0 5 fc)) ∧ (n0 ≤ st ∧ n0 ≤ sh ∧ n0 ≤ sl ∧ n0 ≤ co) ∧ (st < hn h ∧ sh < hn h ∧ sl < hn h ∧ co < hn h) ∧ (∀ r, r < 5 → fc r = I (s (3 + r))) ∧ SlC m (tr n0 h) fs s ∧ n0 ≤ hn h ∧ m + 11 < n0
section LAY
variable {m x n0 : Nat} {h : PH} {st sh sl p b co mm : Nat} {ms : Nat → Nat} {f : F4} {fc fw : Nat → Int32} {fs : Nat → Option Nat} {s : Nat → Nat} {L : List (Nat → Nat)} {n : Nat} {tx : Nat → Nat}
theorem Mid.W (M : Mid m x n0 h st sh sl p b co mm ms f fc fw fs s L n tx) : MidW m x n0 h st sh sl co fc fs s L n tx := by
  have h11 := M.m11
  obtain ⟨C, ⟨⟨x1, x2, x3, x4, x5, x6⟩, ⟨b1, b2, b3, b4, b5, b6⟩, ⟨c1, c2, c3, c4, c5, c6⟩, D⟩, W, R, A, hfc, S, hl⟩ := M
  exact ⟨C, ⟨x1, x2, ⟨p, b, x3⟩, x6⟩, ⟨b1, b2, b3, b6⟩, ⟨c1, c2, c3, c6⟩, hfc, S, hl, h11⟩
theorem Mid.N (M : Mid m x n0 h st sh sl p b co mm ms f fc fw fs s L n tx) : PgN m h p mm ms s f ∧ n0 ≤ p ∧ (co ≠ p + 1 ∧ co ≠ p + 2) ∧ ∀ k, k < rkTo s (nc s) → ms k ≠ p + 1 ∧ ms k ≠ p + 2 := by
  obtain ⟨C, ⟨⟨x1, x2, x3, x4, x5, x6⟩, ⟨b1, b2, b3, b4, b5, b6⟩, ⟨c1, c2, c3, c4, c5, c6⟩, D⟩, W, R, A, hfc, S, hl⟩ := M
  exact ⟨⟨x4, W, R, c4, A.1, fun k hk => (A.2 k hk).1⟩, b4, ⟨D.2.2.1, D.2.2.2.1⟩, fun k hk => ⟨(A.2 k hk).2.1, (A.2 k hk).2.2.1⟩⟩
theorem MidW.step {h' : PH} (M : MidW m x n0 h st sh sl co fc fs s L n tx) (hl' : hn h ≤ hn h') (hgg : hg h' = hg h) (ho : ∀ a, a < n0 → h'.1 a = h.1 a) (h4 : h'.1 st = h.1 st ∧ h'.1 sl = h.1 sl ∧ h'.1 sh = h.1 sh ∧ h'.1 co = h.1 co) : MidW m x n0 h' st sh sl co fc fs s L n tx := by
  obtain ⟨⟨d, da, u, ua, v, ra, ru, la, C⟩, ⟨x1, x2, ⟨p, b, x3⟩, x4⟩, B, c, hfc, S, hl, h11⟩ := M
  have O : Old (tr n0 h) (tr n0 h') := ⟨Nat.le_refl _, hgg, fun a ha => ho a ha⟩
  exact ⟨⟨d, da, u, ua, v, ra, ru, la, C.old O⟩, ⟨h4.1.trans x1, h4.2.1.trans x2, ⟨p, b, h4.2.2.1.trans x3⟩, h4.2.2.2.trans x4⟩, B, by omega, hfc, S.las O.las, by omega, h11⟩
/-- a page becomes the sheet's, and its board is laid -/
theorem MidW.lay {t : Nat → Nat} (M : MidW m x n0 h st sh sl co fc fs s L n tx) (N : PgN m h p mm ms t f) (hp0 : n0 ≤ p) (hco : co ≠ p + 1 ∧ co ≠ p + 2) (hms : ∀ k, k < rkTo t (nc t) → ms k ≠ p + 1 ∧ ms k ≠ p + 2) (hQ : QInv t) (hN : Nrm t) (h2 : t 2 = s 2) (h3 : ∀ r, r < 5 → t (3 + r) = s (3 + r)) (h118 : ∀ k, 118 ≤ k → t k = s k) :
    ∃ h', f_X0_lay (some sh) (some p) h = some (I (rkTo t (nc t)), h') ∧ CI m h' x (sReset t, L, n, tx) ∧ Old (tr n0 h) h' ∧ hn h' = hn h + 2 ∧ hs h' = hs h + 27 ∧ h'.1 sh = some (sho p (hn h) co (I (t 2))) ∧ (∀ a, a < hn h → a ≠ sh → h'.1 a = h.1 a) := by
  have hP := hQ.1
  have hnc := nc_le hP
  obtain ⟨⟨d, da, u, ua, v, ra, ru, la, C⟩, ⟨x1, x2, ⟨p0, b0, x3⟩, x4⟩, ⟨b1, b2, b3, b6⟩, ⟨c1, c2, c3, c6⟩, hfc, S, hl, h11⟩ := M
  obtain ⟨⟨y0, y1, y2, y3, y4⟩, W, R, hp4, A, A2⟩ := id N
  have e1 : pf 2 0 (some sh) (va_rf (some p)) h = some (hset h sh (sho p b0 co (I (s 2)))) := pf_at x3 (by simp)
  have hne : ∀ a (c : PC) (d : PC), h.1 a = some c → ki c ≠ 2 → (hset h sh d).1 a = h.1 a := fun a c d q1 q2 => hset_ne (fun e => by subst e; rw [x3] at q1; cases q1; exact q2 rfl)
  have AA : ∀ a (c' : PC) (d : PC), h.1 a = some c' → ki c' ≠ 2 → Al m h a → Al m (hset h sh d) a ∧ (hset h sh d).1 a = h.1 a := fun a c' d q1 q2 A0 => by
    obtain ⟨z1, z2, c, z3, z4⟩ := A0
    have e := hne a c' d q1 q2
    exact ⟨⟨z1, z2, c, e.trans z3, z4⟩, e⟩
  have kmm : ∃ c, h.1 mm = some c ∧ ki c = 1003 := by
    obtain ⟨-, -, c, z3, -⟩ := id A
    exact ⟨c, z3, aln_kd z3 R.1⟩
  have kms : ∀ k, k < rkTo t (nc t) → ∃ c, h.1 (ms k) = some c ∧ ki c = 1000 := fun k hk => by
    obtain ⟨-, -, c, z3, -⟩ := A2 k hk
    exact ⟨c, z3, aln_kd z3 (R.2 k hk).2.1⟩
  obtain ⟨cm, km1, km2⟩ := kmm
  have Am : ∀ d, Al m (hset h sh d) mm ∧ (hset h sh d).1 mm = h.1 mm := fun d => AA mm cm d km1 (by omega) A
  have Ams : ∀ d k, k < rkTo t (nc t) → Al m (hset h sh d) (ms k) ∧ (hset h sh d).1 (ms k) = h.1 (ms k) := fun d k hk => by
    obtain ⟨c, k1, k2⟩ := kms k hk
    exact AA (ms k) c d k1 (by omega) (A2 k hk)
  have N1 : ∀ d, PgN m (hset h sh d) p mm ms t f := fun d =>
    ⟨⟨(hne _ _ d y0 (by simp [ki, pgo])).trans y0, (hne _ _ d y1 (by simp [ki])).trans y1, (hne _ _ d y2 (by simp [ki])).trans y2, (hne _ _ d y3 (by simp [ki])).trans y3, (hne _ _ d y4 (by simp [ki])).trans y4⟩, W, MbR_agree (A.lk (Am d).2) (fun k hk => (A2 k hk).lk (Ams d k hk).2) R, hp4, (Am d).1, fun k hk => (Ams d k hk).1⟩
  have hs1 : (hset h sh (sho p b0 co (I (s 2)))).1 sh = some (.inr (2, [.ref p, .ref b0, .int (I (s 2)), .ref co])) := hset_at
  have e2 := cs_reset hs1 c2 ((N1 (sho p b0 co (I (s 2)))).B hP) hP hQ.NB hN (fun c hc => (hQ.2.2.1 c hc).2.2.1)
  rw [hset_hset] at e2
  have hnh : hn (hset h sh (sho p b0 co (I (s 2)))) = hn h := rfl
  rw [hnh] at e2
  have e0 : (.inr (2, [.ref p, .ref (hn h), .int (I (s 2)), .ref co]) : PC) = sho p (hn h) co (I (s 2)) := rfl
  rw [e0] at e2
  have N2 := N1 (sho p (hn h) co (I (s 2)))
  generalize hgh : hset h sh (sho p (hn h) co (I (s 2))) = hb at *
  have nb : hn hb = hn h := by rw [← hgh]; rfl
  have sb : hs hb = hs h := by rw [← hgh]; rfl
  have bsh : hb.1 sh = some (sho p (hn h) co (I (s 2))) := by rw [← hgh]; exact hset_at
  have bo : ∀ a, a ≠ sh → hb.1 a = h.1 a := fun a ha => by rw [← hgh]; exact hset_ne ha
  have OB : Old hb (ov hb (bdl (hn h) p (fbI t (nc t)))) := Old.ov
  have OT : Old (tr n0 h) (ov hb (bdl (hn h) p (fbI t (nc t)))) := ⟨by rw [ov_hn, nb]; show n0 ≤ hn h + 2; omega, by rw [ov_hg, ← hgh]; rfl, fun a ha => by have h2 : a < n0 := ha; rw [ov_old (by omega), bo a (by omega)]; rfl⟩
  have C2 := C.old OT
  have ne : ∀ a (c : PC), h.1 a = some c → a < hn h → ki c ≠ 2 → (ov hb (bdl (hn h) p (fbI t (nc t)))).1 a = some c := fun a c q1 q2 q3 => by
    rw [ov_old (by omega), bo a (fun e => by subst e; rw [x3] at q1; cases q1; exact q3 rfl)]; exact q1
  have LS := OB.las (m := m)
  obtain ⟨Y, W2, R2, hp42, A3, A4⟩ := N2
  have R3 : MbR (ov hb (bdl (hn h) p (fbI t (nc t)))) mm ms t := MbR_agree (A3.lk (LS _ A3).2) (fun k hk => (A4 k hk).lk (LS _ (A4 k hk)).2) R2
  have r0 := sReset_lo (s := t) (k := 0) (Or.inl (by decide))
  have r1 := sReset_lo (s := t) (k := 1) (Or.inl (by decide))
  have R4 := MbR_row (t := sReset t) r0 r1 (fun c hc => sReset_lo (Or.inl (by omega))) R3
  have er : rkTo (sReset t) (nc (sReset t)) = rkTo t (nc t) := rkTo_E r0 r1 (fun c hc => sReset_lo (Or.inl (by omega)))
  have a1 := hP.2.1
  have a4 := hP.2.2.2
  have hb0 : (ov hb (bdl (hn h) p (fbI t (nc t)))).1 (hn h) = some (.inr (4, [.ref p, .ref (hn h + 1)])) := by
    have := ov_at (h := hb) (l := bdl (hn h) p (fbI t (nc t))) (i := 0) (n := 2) rfl
    rw [nb] at this; exact this
  have hb1 : (ov hb (bdl (hn h) p (fbI t (nc t)))).1 (hn h + 1) = some (nar 0 25 (fbI t (nc t))) := by
    have := ov_at (h := hb) (l := bdl (hn h) p (fbI t (nc t))) (i := 1) (n := 25) rfl
    rw [nb] at this; exact this
  have hnf : hn (ov hb (bdl (hn h) p (fbI t (nc t)))) = hn h + 2 := by rw [ov_hn, nb]; rfl
  have X : LVX (ov hb (bdl (hn h) p (fbI t (nc t)))) n0 st sh sl p (hn h) co mm (I (sReset t 0)) (I (sReset t 1)) f (I (s 2)) fc (fbI t (nc t)) fs := by
    refine ⟨⟨ne _ _ x1 c1 (by simp [ki, sto]), ne _ _ x2 c3 (by simp [ki]), by rw [ov_old (by omega)]; exact bsh, ?_, ⟨hb0, hb1⟩, ne _ _ x4 c6 (by simp [ki])⟩, ⟨b1, b2, b3, hp0, by omega, b6⟩, by rw [hnf]; omega, by omega⟩
    rw [r0, r1]
    exact ⟨ne _ _ y0 (by omega) (by simp [ki, pgo]), ne _ _ y1 (by omega) (by simp [ki]), ne _ _ y2 (by omega) (by simp [ki]), ne _ _ y3 (by omega) (by simp [ki]), ne _ _ y4 (by omega) (by simp [ki])⟩
  have W3 : PgW (sReset t) f := PgW_row W r0 r1 (fun c hc => by
    rw [sReset_lo (Or.inl (by omega)), sReset_lo (Or.inl (by omega)), sReset_lo (Or.inl (by omega))]; exact W.1 c hc) (fun i hi => by rw [sReset_lo (Or.inl (by omega))]; exact W.2.1 i hi) W.2.2.1 W.2.2.2
  have SS : SlC m (ov hb (bdl (hn h) p (fbI t (nc t)))) fs (sReset t) := (SlC.row S (t := sReset t) (fun k hk => by rw [sReset_lo (Or.inr hk), h118 k hk])).las OT.las
  have ST := St_of h11 X rfl rfl W3 R4 (LS _ A3).1 (fun k hk => (LS _ (A4 k (by rw [← er]; exact hk))).1) (Mid.reset_w hP) (fun r hr => by rw [sReset_lo (Or.inl (by omega)), h3 r hr]; exact hfc r hr) (by rw [sReset_lo (k := 2) (Or.inl (by decide)), h2]) SS
  have Pg2 := (N1 (sho p b0 co (I (s 2))))
  have Pgf : PgR (ov hb (bdl (hn h) p (fbI t (nc t)))) p mm ms t := by
    have hX : PgX (ov hb (bdl (hn h) p (fbI t (nc t)))) p mm (I (t 0)) (I (t 1)) f := ⟨ne _ _ y0 (by omega) (by simp [ki, pgo]), ne _ _ y1 (by omega) (by simp [ki]), ne _ _ y2 (by omega) (by simp [ki]), ne _ _ y3 (by omega) (by simp [ki]), ne _ _ y4 (by omega) (by simp [ki])⟩
    exact hX.R W R3 hP
  refine ⟨_, ?_, ⟨st, d, da, u, ua, v, ra, ru, la, C2, ST⟩, OT, hnf, by rw [ov_hs, sb]; rfl, by rw [ov_old (by omega), h2]; exact bsh, fun a h1 h2 => by rw [ov_old (by omega), bo a h2]⟩
  have rc2 : rcv 2 (some sh) (hset h sh (sho p b0 co (I (s 2)))) = some () := rcv_at hs1
  unfold f_X0_lay
  rw [e1, Option.bind_some, rc2, Option.bind_some, e2, Option.bind_some, Pgf.rc, Option.bind_some, cp_blocks Pgf, Option.bind_some]
end LAY
