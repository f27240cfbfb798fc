/-! PLAIN LAW: the class: pages solved, in a look and in the midst of a change -/
set_option maxRecDepth 100000
/-- the solver, and that it is old -/
def VRO (h : PH) (v ra : Nat) (ru : Nat → Nat) : Prop := VR h v ra ru ∧ v < hn h ∧ ra < hn h ∧ ∀ k, k < 5 → ru k < hn h ∧ ∃ o, h.1 (ru k) = some (.inr (6 + k, o))
theorem VR_fr {h h' : PH} {v ra : Nat} {ru : Nat → Nat} (V : VR h v ra ru) (hv : v < hn h) (F : Fr h h') (e1 : lk h' ra = lk h ra) (e2 : ∀ k, k < 5 → lk h' (ru k) = lk h (ru k)) : VR h' v ra ru := by
  obtain ⟨⟨q, hq⟩, g⟩ := V
  refine ⟨F.2.2.2.1 _ _ _ hv hq, fun k hk => ?_⟩
  obtain ⟨g1, g2⟩ := g k hk
  refine ⟨?_, ?_⟩
  · rw [← g1]; simp only [alr, ar, e1]
  · rw [← g2]; simp only [clo, e2 k hk]
/-- the solver, and where it lies -/
def VRB (m : Nat) (h : PH) (v ra : Nat) (ru : Nat → Nat) : Prop := VR h v ra ru ∧ v < hn h ∧ Al m h ra ∧ ∀ k, k < 5 → Al m h (ru k)
theorem VRB.fr {m : Nat} {h h' : PH} {v ra : Nat} {ru : Nat → Nat} (V : VRB m h v ra ru) (F : Fr h h') : VRB m h' v ra ru := by
  obtain ⟨a1, a2, a3, a4⟩ := V
  have LS := F.las (m := m)
  exact ⟨VR_fr a1 a2 F (a3.lk (LS _ a3).2) (fun k hk => (a4 k hk).lk (LS _ (a4 k hk)).2), Nat.lt_of_lt_of_le a2 F.1, (LS _ a3).1, fun k hk => (LS _ (a4 k hk)).1⟩
theorem CI.vrb {m x : Nat} {h : PH} {g : GS} (C : CI m h x g) : ∃ v ra ru, gfr 0 3 (some x) h = some (some v) ∧ VRB m h v ra ru := by
  obtain ⟨st, d, da, u, ua, v, ra, ru, la, ⟨c1, c2, c3, c4, c5, c6, o1, o2, o3, o4, o5, o6, o7⟩, S⟩ := C
  exact ⟨v, ra, ru, gfr_at (x := some v) c1 rfl, c5, o6.1, c6⟩
theorem Mid.vrb {m x n0 : Nat} {h : PH} {st sh sl p b co mm : Nat} {ms : Nat → Nat} {f : F4} {fc fw : Nat → Int32} {fs : Nat → Option Nat} {s : Nat → Nat} {L : List (Nat → Nat)} {n : Nat} {tx : Nat → Nat} (M : Mid m x n0 h st sh sl p b co mm ms f fc fw fs s L n tx) : ∃ v ra ru, gfr 0 3 (some x) h = some (some v) ∧ VRB m h v ra ru := by
  obtain ⟨⟨d, da, u, ua, v, ra, ru, la, ⟨c1, c2, c3, c4, c5, c6, o1, o2, o3, o4, o5, o6, o7⟩⟩, -, -, -, -, -, -, hl⟩ := M
  exact ⟨v, ra, ru, gfr_at (x := some v) c1 rfl, c5, Nat.lt_of_lt_of_le o6.1 hl, Al_tr c6.1 hl, fun k hk => Al_tr (c6.2 k hk) hl⟩
theorem VRB.rc {m : Nat} {h : PH} {v ra : Nat} {ru : Nat → Nat} (V : VRB m h v ra ru) : rcv 5 (some v) h = some () := by
  obtain ⟨⟨⟨q, hq⟩, -⟩, -⟩ := V
  exact rcv_at hq
section OP9r
variable {m v ra : Nat} {ru : Nat → Nat} {h : PH}
/-- a new board of a page, solved -/
theorem fr_solve {p mm rules L : Nat} {ms : Nat → Nat} {s w : Nat → Nat} {f : Nat → Int32} (V : VRB m h v ra ru) (H : PgB h p mm ms s) (hQ : QInv s) (hN : Nrm s) (hS : SB s) (hW : W7 s w) (hB : B0 s w) (hru : rules < 1000000) (hL : L < 2147483648) (hf : ∀ c, c < nc s → f c = I (w c)) :
    ∃ h', f_X5_solve (some v) (some (hn h + 0)) (I rules) (I L) (ov h (bdl (hn h) p f)) = some (I (goN s rules L w).1.length, h') ∧ Fr h h' ∧ hn h' = hn h + 2 ∧ hs h' = hs h + 27 ∧ PgB h' p mm ms s ∧ BdR h' (hn h + 0) p s (goN s rules L w).2 ∧ ∃ f', BdC h' (hn h) p f' := by
  have hnc := nc_le hQ.1
  have V1 := V.fr (Old.fr (Old.ov (l := bdl (hn h) p f)))
  have hBd : BdC (ov h (bdl (hn h) p f)) (hn h) p f := BdC_new
  have hPg := (H.ov (l := bdl (hn h) p f)).1
  have CC := CU_of hPg (hBd.R hnc.2 hf) V1.1 hQ hN hS hW hB
  have hlt := H.2
  have D : DjB p ms s (hn h) := ⟨by have := hlt (p + 1) (Or.inl (by omega)); omega, by have := hlt (p + 2) (Or.inl (by omega)); omega, fun k hk => by have := hlt (ms k) (Or.inr (Or.inr ⟨k, hk, rfl⟩)); omega⟩
  obtain ⟨f', q', s1, s2⟩ := cs_solve (rules := rules) (L := L) hru hL D CC hBd hf
  rw [bdw_new] at s1
  have F1 : Fr h (ov h (bdl (hn h) p f')) := Old.fr Old.ov
  have V2 := V.fr F1
  obtain ⟨⟨q0, hq⟩, -⟩ := id V2.1
  have hP2 := (H.ov (l := bdl (hn h) p f'))
  have hB2 : BdC (sol (ov h (bdl (hn h) p f')) v ra q') (hn h) p f' := by
    have B0 : BdC (ov h (bdl (hn h) p f')) (hn h) p f' := BdC_new
    refine ⟨(hset_ne (fun e => ?_)).trans B0.1, (hset_ne (fun e => ?_)).trans B0.2⟩
    · have := V.2.1; omega
    · have := V.2.1; omega
  exact ⟨_, s1, F1.trans (Fr_sol hq), rfl, rfl, ⟨PgR_sol V2.1 hP2.1, hP2.2⟩, BdR_sol V2.1 (BdC_new.R hnc.2 s2), f', hB2⟩
/-- can a page be solved -/
theorem fr_solvable {p mm rules : Nat} {ms : Nat → Nat} {s : Nat → Nat} (V : VRB m h v ra ru) (H : PgB h p mm ms s) (hQ : QInv s) (hN : Nrm s) (hS : SB s) (hru : rules < 1000000) :
    ∃ h', f_X5_isSolvable (some v) (some p) (I rules) h = some (I (bit (solv s rules = true)), h') ∧ Fr h h' ∧ hn h' = hn h + 2 ∧ hs h' = hs h + 27 := by
  have hnc := nc_le hQ.1
  have hW := fb_W7 hQ.NB
  have hB : B0 s (fb s) := fun c hc => fb_0 hQ hc
  obtain ⟨h', a4, a5, a7, a8, a9, a10, -⟩ := fr_solve (f := fbI s (nc s)) (w := fb s) (L := 2147483647) V H hQ hN hS hW hB hru (by decide) (fun c hc => by unfold fbI; rw [if_pos hc])
  rw [goN_big hQ.1] at a4 a10
  have hW2 : W7 s (goE s rules (fb s)).2 := goN_W7 151 _ hW
  have hout := cb_outcome a9.1 a10 hQ.1 hW2
  have a3 := (V.fr (Old.fr (Old.ov (l := bdl (hn h) p (fbI s (nc s)))))).rc
  obtain ⟨n1, n2⟩ := cb_new H hQ.1 hQ.NB hN (fun c hc => (hQ.2.2.1 c hc).2.2.1)
  refine ⟨h', ?_, a5, a7, a8⟩
  have e : solv s rules = (outc s (goE s rules (fb s)).2 == 1) := rfl
  unfold f_X5_isSolvable
  rw [n1, Option.bind_some]
  simp only [nn, Option.bind_some, n2, a3, show (2147483647 : Int32) = I 2147483647 from rfl, a4, a10.rc, hout]
  have hol := outc_le s (goE s rules (fb s)).2
  by_cases q : outc s (goE s rules (fb s)).2 = 1
  · rw [if_pos (by rw [q]; rfl), e, q]; rfl
  · rw [if_neg (by rw [show (1 : Int32) = I 1 from rfl, I_eq (by omega) (by decide)]; exact q), e]
    have : (outc s (goE s rules (fb s)).2 == 1) = false := by simpa using q
    rw [this]; rfl
end OP9r
/-- a page of the object's own, copied -/
def PgN (m : Nat) (h : PH) (p mm : Nat) (ms : Nat → Nat) (s : Nat → Nat) (f : F4) : Prop := PgX h p mm (I (s 0)) (I (s 1)) f ∧ PgW s f ∧ MbR h mm ms s ∧ p + 4 < hn h ∧ Al m h mm ∧ ∀ k, k < rkTo s (nc s) → Al m h (ms k)
theorem PgN.B {m : Nat} {h : PH} {p mm : Nat} {ms : Nat → Nat} {s : Nat → Nat} {f : F4} (N : PgN m h p mm ms s f) (hP : PG' s) : PgB h p mm ms s := PgW_R N.1 N.2.1 N.2.2.1 hP ⟨N.2.2.2.1, N.2.2.2.2.1.1, fun k hk => (N.2.2.2.2.2 k hk).1⟩
theorem CI.pgn {m x : Nat} {h : PH} {g : GS} (C : CI m h x g) : ∃ p mm ms f, f_X0_page (some x) h = some (some p, h) ∧ PgN m h p mm ms g.1 f := by
  obtain ⟨st, d, da, u, ua, v, ra, ru, la, CM0, sh, sl, fs, t1, t2, ⟨p2, b2, co, mm2, ms2, f, al, fc, fw, ⟨⟨s1, s2⟩, X, W, M, ⟨Bc, b3⟩, ⟨c1, c2⟩, l1, l2, l3, l4, l5, l6, l7⟩⟩, -⟩ := C
  have r0 : gfr 0 0 (some x) h = some (some st) := gfr_at (x := some st) CM0.1 rfl
  have r1 : gfr 1 0 (some st) h = some (some sh) := gfr_at (x := some sh) t1 rfl
  have r2 : gfr 2 0 (some sh) h = some (some p2) := gfr_at (x := some p2) s1 rfl
  refine ⟨p2, mm2, ms2, f, ?_, X, W, M, (l2 _ (by omega) (Nat.le_refl _)).1, l6, l7⟩
  simp only [f_X0_page, r0, r1, r2, Option.bind_some]
/-- a page of the same blocks -/
theorem MbR_same {h : PH} {mm : Nat} {ms : Nat → Nat} {s t : Nat → Nat} (hP : PG' s) (he : ∀ k, k < 33 → t k = s k) (M : MbR h mm ms s) : MbR h mm ms t ∧ rkTo t (nc t) = rkTo s (nc s) := by
  have hnc := nc_le hP
  exact ⟨MbR_row (he 0 (by decide)) (he 1 (by decide)) (fun c hc => he _ (by omega)) M, rkTo_E (he 0 (by decide)) (he 1 (by decide)) (fun c hc => he _ (by omega))⟩
theorem PgN.copy {m : Nat} {h : PH} {p mm : Nat} {ms : Nat → Nat} {s : Nat → Nat} {f : F4} (N : PgN m h p mm ms s f) (hP : PG' s) : ∃ h', f_X3_copy (some p) h = some (some (hn h), h') ∧ PgN m h' (hn h) mm ms s (f4cut f) ∧ Old h h' ∧ hn h' = hn h + 5 ∧ hs h' = hs h + 92 := by
  obtain ⟨X, W, M, hp, A, A2⟩ := N
  have O : Old h (ov h (pgl (hn h) mm (I (s 0)) (I (s 1)) (f4cut f))) := Old.ov
  have hX := PgX_pgl (h := h) (mm := mm) (r := I (s 0)) (c := I (s 1)) (f := f4cut f) (l := []) (l2 := [])
  simp only [List.length_nil, Nat.add_zero, List.nil_append, List.append_nil] at hX
  have LS := O.las (m := m)
  exact ⟨_, cp_copy X hp W.2.2.1 W.2.2.2, ⟨hX, PgW_cut W hP, MbR_agree (A.lk (LS _ A).2) (fun k hk => (A2 k hk).lk (LS _ (A2 k hk)).2) M, by show hn h + 4 < hn h + 5; omega, (LS _ A).1, fun k hk => (LS _ (A2 k hk)).1⟩, O, rfl, rfl⟩
theorem place_eq (kind i : Nat) : place kind i = (if kind = 0 then 58 else 83) + i := rfl
/-- a clue of a page of the object's own set -/
theorem PgN.clue {m : Nat} {h : PH} {p mm kind i k : Nat} {ms : Nat → Nat} {s : Nat → Nat} {f : F4} (N : PgN m h p mm ms s f) (hP : PG' s) (hkind : kind ≤ 1) (hi : i < clAll s kind) (hk : k ≤ 1) (hnm : mm < p ∧ ∀ k, k < rkTo s (nc s) → ms k < p) : ∃ h' f', f_X3_setClue (some p) (I kind) (I i) (I k) h = some h' ∧ PgN m h' p mm ms (nup s (place kind i) k) f' ∧ hn h' = hn h ∧ hs h' = hs h ∧ hg h' = hg h ∧ (∀ a, a < p ∨ p + 4 < a → h'.1 a = h.1 a) := by
  have hnc := nc_le hP
  have Hpg := (N.B hP).1
  obtain ⟨⟨y0, y1, y2, y3, y4⟩, W, M, hp, A, A2⟩ := N
  obtain ⟨a1, a2, a3, a4⟩ := id hP
  have gbk : gb (I k) = some () := gb_le hk
  have low : ∀ j, j < 33 → nup s (place kind i) k j = s j := fun j hj => nup_ne (by unfold place; split <;> omega)
  obtain ⟨M2, er⟩ := MbR_same hP low M
  have hkk : kind = 0 ∨ kind = 1 := by omega
  have fin : ∀ a c (f' : F4), p ≤ a → a ≤ p + 4 → PgX (hset h a c) p mm (I (s 0)) (I (s 1)) f' → PgW (nup s (place kind i) k) f' → PgN m (hset h a c) p mm ms (nup s (place kind i) k) f' := fun a c f' g1 g2 X' W' => by
    have LA : ∀ b, b < p → Al m h b → Al m (hset h a c) b ∧ (hset h a c).1 b = h.1 b := fun b hb A => by
      obtain ⟨z1, z2, d, z3, z4⟩ := A
      exact ⟨⟨z1, z2, d, (hset_ne (by omega)).trans z3, z4⟩, hset_ne (by omega)⟩
    refine ⟨by rw [low 0 (by decide), low 1 (by decide)]; exact X', W', MbR_agree (A.lk (LA _ hnm.1 A).2) (fun j hj => (A2 j (by rw [← er]; exact hj)).lk (LA _ (hnm.2 j (by rw [← er]; exact hj)) (A2 j (by rw [← er]; exact hj))).2) M2, hp, (LA _ hnm.1 A).1, fun j hj => ?_⟩
    rw [er] at hj
    exact (LA _ (hnm.2 j hj) (A2 j hj)).1
  rcases hkk with rfl | rfl
  · have hi' : i < nc s := hi
    have e58 : place 0 i = 58 + i := rfl
    have w1 : asi 1 (some (p + 3)) (I i) (I k) h = some (hset h (p + 3) (nar 1 25 (upd f.2.2.1 i (I k)))) := asi_at y3 (by omega) (by decide)
    have H1 : PgX (hset h (p + 3) (nar 1 25 (upd f.2.2.1 i (I k)))) p mm (I (s 0)) (I (s 1)) (f.1, f.2.1, upd f.2.2.1 i (I k), f.2.2.2) := ⟨(hset_ne (by omega)).trans y0, (hset_ne (by omega)).trans y1, (hset_ne (by omega)).trans y2, hset_at, (hset_ne (by omega)).trans y4⟩
    refine ⟨_, _, ?_, fin (p + 3) _ _ (by omega) (by omega) H1 (PgW_row W (low 0 (by decide)) (low 1 (by decide)) (fun d hd => ?_) (fun j hj => ?_) (b01_upd W.2.2.1 (b01_I hk)) W.2.2.2), rfl, rfl, rfl, fun a ha => hset_ne (by omega)⟩
    · simp only [f_X3_setClue, lit_I, if_true, Hpg.r4, gbk, w1, Option.bind_some]
    · obtain ⟨q1, q2, q3⟩ := W.1 d hd
      rw [e58]
      refine ⟨by rw [nup_ne (by omega)]; exact q1, by rw [nup_ne (by omega)]; exact q2, ?_⟩
      by_cases e : d = i
      · subst e; rw [nup_eq]; simp [upd]
      · rw [nup_ne (by omega)]; simp only [upd, e, if_false]; exact q3
    · rw [e58, nup_ne (by omega)]; exact W.2.1 j hj
  · have hi' : i < s 0 + s 1 := hi
    have e83 : place 1 i = 83 + i := rfl
    have w1 : asi 1 (some (p + 4)) (I i) (I k) h = some (hset h (p + 4) (nar 1 10 (upd f.2.2.2 i (I k)))) := asi_at y4 (by omega) (by decide)
    have H1 : PgX (hset h (p + 4) (nar 1 10 (upd f.2.2.2 i (I k)))) p mm (I (s 0)) (I (s 1)) (f.1, f.2.1, f.2.2.1, upd f.2.2.2 i (I k)) := ⟨(hset_ne (by omega)).trans y0, (hset_ne (by omega)).trans y1, (hset_ne (by omega)).trans y2, (hset_ne (by omega)).trans y3, hset_at⟩
    refine ⟨_, _, ?_, fin (p + 4) _ _ (by omega) (by omega) H1 (PgW_row W (low 0 (by decide)) (low 1 (by decide)) (fun d hd => ?_) (fun j hj => ?_) W.2.2.1 (b01_upd W.2.2.2 (b01_I hk))), rfl, rfl, rfl, fun a ha => hset_ne (by omega)⟩
    · simp only [f_X3_setClue, lit_I, I_10, if_false, Hpg.r5, gbk, w1, Option.bind_some]
    · obtain ⟨q1, q2, q3⟩ := W.1 d hd
      rw [e83]
      exact ⟨by rw [nup_ne (by omega)]; exact q1, by rw [nup_ne (by omega)]; exact q2, by rw [nup_ne (by omega)]; exact q3⟩
    · rw [e83]
      by_cases e : j = i
      · subst e; rw [nup_eq]; simp [upd]
      · rw [nup_ne (by omega)]; simp only [upd, e, if_false]; exact W.2.1 j hj
