/-! PLAIN LAW: the class: a call that changes begins -/
set_option maxRecDepth 100000
/-- the new state's cells: all behind n0 -/
def LVX (h : PH) (n0 st sh sl p b co mm : Nat) (r c : Int32) (f : F4) (al : Int32) (fc fw : Nat → Int32) (fs : Nat → Option Nat) : Prop :=
  (h.1 st = some (sto sh sl) ∧ h.1 sl = some (rar 4 2 fs) ∧ h.1 sh = some (sho p b co al) ∧ PgX h p mm r c f ∧ BdC h b p fw ∧ h.1 co = some (nar 0 5 fc)) ∧
  (n0 ≤ st ∧ n0 ≤ sh ∧ n0 ≤ sl ∧ n0 ≤ p ∧ n0 ≤ b ∧ n0 ≤ co) ∧ (st < hn h ∧ sh < hn h ∧ sl < hn h ∧ p + 4 < hn h ∧ b + 1 < hn h ∧ co < hn h) ∧
  (b + 1 ≠ p + 1 ∧ b + 1 ≠ p + 2 ∧ co ≠ p + 1 ∧ co ≠ p + 2 ∧ co ≠ b + 1)
/-- the new state, made to last -/
theorem St_of {m n0 st sh sl p b co mm : Nat} {h : PH} {s : Nat → Nat} {ms : Nat → Nat} {r c : Int32} {f : F4} {al : Int32} {fc fw : Nat → Int32} {fs : Nat → Option Nat} (hm : m + 11 < n0) (X : LVX h n0 st sh sl p b co mm r c f al fc fw fs) (hr : r = I (s 0)) (hc : c = I (s 1)) (W : PgW s f) (M : MbR h mm ms s) (hmm : Al m h mm) (hms : ∀ k, k < rkTo s (nc s) → Al m h (ms k)) (hw : ∀ c, c < nc s → fw c = I (s (93 + c))) (hfc : ∀ r, r < 5 → fc r = I (s (3 + r))) (hal : al = I (s 2)) (S : SlC m h fs s) : StC m h st s := by
  obtain ⟨⟨x1, x2, x3, x4, x5, x6⟩, ⟨b1, b2, b3, b4, b5, b6⟩, ⟨c1, c2, c3, c4, c5, c6⟩, -⟩ := X
  subst hr hc
  have al1 : ∀ a (d : PC), n0 ≤ a → a < hn h → h.1 a = some d → frz d = true → Al m h a := fun a d h1 h2 h3 h4 => ⟨h2, Or.inr (by omega), d, h3, h4⟩
  obtain ⟨y0, y1, y2, y3, y4⟩ := x4
  refine ⟨sh, sl, fs, x1, x2, ⟨p, b, co, mm, ms, f, al, fc, fw, ⟨x3, hal⟩, ⟨y0, y1, y2, y3, y4⟩, W, M, ⟨x5, hw⟩, ⟨x6, hfc⟩, al1 _ _ b2 c2 x3 rfl, fun a h1 h2 => ?_, al1 _ _ b5 (by omega) x5.1 rfl, al1 _ _ (by omega) c5 x5.2 rfl, al1 _ _ b6 c6 x6 rfl, hmm, hms⟩, S, al1 _ _ b1 c1 x1 rfl, al1 _ _ b3 c3 x2 rfl⟩
  have : a = p ∨ a = p + 1 ∨ a = p + 2 ∨ a = p + 3 ∨ a = p + 4 := by omega
  rcases this with rfl | rfl | rfl | rfl | rfl
  · exact al1 _ _ b4 (by omega) y0 rfl
  · exact al1 _ _ (by omega) (by omega) y1 rfl
  · exact al1 _ _ (by omega) (by omega) y2 rfl
  · exact al1 _ _ (by omega) (by omega) y3 rfl
  · exact al1 _ _ (by omega) (by omega) y4 rfl
theorem tr_old {h h' : PH} (O : Old h h') : Old h (tr (hn h) h') := ⟨Nat.le_refl _, O.2.1, O.2.2⟩
theorem old_tr {n : Nat} {h : PH} (hl : n ≤ hn h) : Old (tr n h) h := ⟨hl, rfl, fun _ _ => rfl⟩
theorem StC.one {m : Nat} {h : PH} {st : Nat} {s : Nat → Nat} (S : StC m h st s) : ∃ o, h.1 st = some (.inr (1, o)) := by
  obtain ⟨sh, sl, fs, a1, -⟩ := S; exact ⟨_, a1⟩
theorem HiC_push {m : Nat} {h : PH} {la : List Nat} {L : List (Nat → Nat)} {st : Nat} {s : Nat → Nat} (H : HiC m h la L) (S : StC m h st s) : HiC m h (pushA la st) (push L s) := by
  have key : ∀ (la : List Nat) (L : List (Nat → Nat)), HiC m h la L → HiC m h (la ++ [st]) (L ++ [s]) := by
    intro la L H
    refine ⟨by simp [H.1], fun i a t h1 h2 => ?_⟩
    by_cases e : i < la.length
    · rw [List.getElem?_append_left e] at h1
      rw [List.getElem?_append_left (by rw [← H.1]; exact e)] at h2
      exact H.2 i a t h1 h2
    · have hi : i < (la ++ [st]).length := (List.getElem?_eq_some_iff.mp h1).1
      have : i = la.length := by simp at hi; omega
      subst this
      rw [List.getElem?_append_right (Nat.le_refl _), Nat.sub_self] at h1
      rw [H.1, List.getElem?_append_right (Nat.le_refl _), Nat.sub_self] at h2
      simp at h1 h2
      subst h1 h2
      exact S
  unfold pushA push
  rw [← H.1]
  split
  · refine key _ _ ⟨by simp [H.1], fun i a t h1 h2 => H.2 (i + 1) a t (by simpa using h1) (by simpa using h2)⟩
  · exact key _ _ H
theorem SlC.X {m : Nat} {h : PH} {fs : Nat → Option Nat} {s : Nat → Nat} (S : SlC m h fs s) : SlX h fs := by
  intro q hq a ha
  by_cases e : s (118 + 119 * q) = 0
  · rw [(S q hq).1 e] at ha; cases ha
  · obtain ⟨b, b1, p, b', co, mm, ms, f, al, fc, fw, b2⟩ := (S q hq).2 e
    rw [b1] at ha; cases ha
    exact ⟨b2.2.2.2.2.2.2.1.1, _, b2.1.1⟩
theorem ca_act {m x : Nat} {h : PH} {g : GS} (C : CI m h x g) (hP : PInv g.1) :
    ∃ h1 d da u ua v ra ru la mm ms f fc fw fs, f_X0_act (some x) h = some (some (hn h + 1), h1) ∧ CM m (tr (hn h) h1) x (hn h) (push g.2.1 g.1) g.2.2.1 g.2.2.2 d da u ua v ra ru la ∧ LVX h1 (hn h) (hn h) (hn h + 1) (hn h + 10) (hn h + 2) (hn h + 8) (hn h + 7) mm (I (g.1 0)) (I (g.1 1)) f (I (g.1 2)) fc fw fs ∧ PgW g.1 f ∧ MbR h1 mm ms g.1 ∧ (Al m (tr (hn h) h1) mm ∧ ∀ k, k < rkTo g.1 (nc g.1) → Al m (tr (hn h) h1) (ms k)) ∧ (∀ c, c < nc g.1 → fw c = I (g.1 (93 + c))) ∧ (∀ r, r < 5 → fc r = I (g.1 (3 + r))) ∧ SlC m (tr (hn h) h1) fs g.1 ∧ Keep h h1 ∧ hn h1 = hn h + 11 ∧ hs h1 = hs h + 132 ∧ (∀ a c, h.1 a = some c → a < hn h → ki c ≠ 0 → ki c ≠ 26 → ki c ≠ 1006 → h1.1 a = h.1 a) ∧ (∀ k y, 1 ≤ k → gfr 0 k (some x) h = some y → gfr 0 k (some x) h1 = some y) := by
  obtain ⟨st, d, da, u, ua, v, ra, ru, la, CM0, sh, sl, fs, t1, t2, ⟨p, b, co, mm, ms, f, al, fc, fw, ⟨a1, a2⟩, X, W, M, ⟨B, b3⟩, ⟨c1, c2⟩, l1, l2, l3, l4, l5, l6, l7⟩, S, t5, t6⟩ := C
  obtain ⟨k1, k2, k3, k4, k5, k6, o1, o2, o3, o4, o5, o6, o7⟩ := CM0
  obtain ⟨hQ, hN, hBd⟩ := hP
  have hn' := nc_le hQ.1
  have ST : StC m h st g.1 := ⟨sh, sl, fs, t1, t2, ⟨p, b, co, mm, ms, f, al, fc, fw, ⟨a1, a2⟩, X, W, M, ⟨B, b3⟩, ⟨c1, c2⟩, l1, l2, l3, l4, l5, l6, l7⟩, S, t5, t6⟩
  have hcp := cs_copyState t1 t2 S.X a1 X W M B c1 ⟨l1.1, (l2 _ (by omega) (Nat.le_refl _)).1, l4.1, l5.1⟩ ⟨l6.1, fun k hk => (l7 k hk).1⟩ ⟨t5.1, t6.1⟩ hQ.1 hQ.NB hN (fun c hc => (hQ.2.2.1 c hc).2.2.1)
  -- the copy's heap
  generalize hL : stl (hn h) mm (I (g.1 0)) (I (g.1 1)) (f4cut f) al (cut 5 fc) (cut 25 fw) (cutr 2 fs) = L at hcp
  have hLl : L.length = 11 := by rw [← hL]; rfl
  have hsum : (L.map Prod.snd).sum = 132 := by rw [← hL]; rfl
  have OC : Old h (ov h L) := Old.ov
  have hist : ∀ a, a ∈ la → ∃ o, (ov h L).1 a = some (.inr (1, o)) := by
    intro a ha
    obtain ⟨i, hi⟩ := List.mem_iff_getElem?.mp ha
    have hil := (List.getElem?_eq_some_iff.mp hi).1
    obtain ⟨t, ht⟩ : ∃ t, g.2.1[i]? = some t := ⟨_, List.getElem?_eq_getElem (by rw [← k3.1]; exact hil)⟩
    exact ((k3.2 i a t hi ht).las OC.las).one
  obtain ⟨hd, fe, e1, e2, e3, e4⟩ := cq_replace (h := ov h L) (st' := hn h + 0) (x := x) (u := u) (v := v) ((OC.2.2 _ o1.1).trans k1) (k2.same (OC.2.2 _ o2.1) (OC.2.2 _ o3.1)) (ST.las OC.las).one hist
  have k2' := k2
  obtain ⟨hd0, fe0, -, -, dx, dax, -⟩ := k2'
  have hxd : x ≠ d := by intro e; subst e; rw [k1] at dx; cases dx
  have hxa : x ≠ da := by intro e; subst e; rw [k1] at dax; cases dax
  have hda : d ≠ da := by intro e; subst e; rw [dx] at dax; cases dax
  rw [ov_hset o3.1, ov_hset (show d < hn (hset h da _) from o2.1), ov_hset (show x < hn (hset (hset h da _) d _) from o1.1)] at e1
  generalize hB : hset (hset (hset h da (rar 6 17 fe)) d (.inr (26, [.ref da, .int (I hd), .int (I ((hd + (pushA la st).length) % 17))]))) x (eso (hn h + 0) d u v) = hb at e1
  have hbn : hn hb = hn h := by rw [← hB]; rfl
  have hbs : hs hb = hs h := by rw [← hB]; rfl
  have hbg : hg hb = hg h := by rw [← hB]; rfl
  have hbx : hb.1 x = some (eso (hn h + 0) d u v) := by rw [← hB]; exact hset_at
  have hbd : hb.1 d = some (.inr (26, [.ref da, .int (I hd), .int (I ((hd + (pushA la st).length) % 17))])) := by rw [← hB, hset_ne (Ne.symm hxd)]; exact hset_at
  have hbda : hb.1 da = some (rar 6 17 fe) := by rw [← hB, hset_ne (Ne.symm hxa), hset_ne (Ne.symm hda)]; exact hset_at
  have hbo : ∀ a, a ≠ x → a ≠ d → a ≠ da → hb.1 a = h.1 a := fun a q1 q2 q3 => by rw [← hB, hset_ne q1, hset_ne q2, hset_ne q3]
  have KB : Keep h hb := by
    rw [← hB]
    exact ((((Keep.refl h).set (Or.inr ⟨_, dax, rfl⟩)).set (Or.inr ⟨_, dx, rfl⟩)).set (Or.inr ⟨_, k1, rfl⟩))
  have OB : Old hb (ov hb L) := Old.ov
  have hat : ∀ i c n, L[i]? = some (c, n) → (ov hb L).1 (hn h + i) = some c := fun i c n hi => by
    have := ov_at (h := hb) hi
    rwa [hbn] at this
  have LasB : Las m h (tr (hn h) (ov hb L)) := by
    intro a A
    obtain ⟨A1, A2⟩ := A.keep KB
    have q : (ov hb L).1 a = h.1 a := (OB.2.2 a (by rw [hbn]; exact A.1)).trans A2
    obtain ⟨z1, z2, c, z3, z4⟩ := A
    exact ⟨⟨z1, z2, c, q.trans z3, z4⟩, q⟩
  have hu : ∀ a (c : PC), h.1 a = some c → a < hn h → ki c ≠ 0 → ki c ≠ 26 → ki c ≠ 1006 → (ov hb L).1 a = h.1 a := fun a c q1 q0 q2 q3 q4 => by
    rw [OB.2.2 a (by rw [hbn]; exact q0)]
    refine hbo a ?_ ?_ ?_
    · intro e; subst e; rw [k1] at q1; cases q1; exact q2 rfl
    · intro e; subst e; rw [dx] at q1; cases q1; exact q3 rfl
    · intro e; subst e; rw [dax] at q1; cases q1; exact q4 rfl
  have hfin : f_X0_act (some x) h = some (some (hn h + 1), ov hb L) := by
    have r0 : gfr 0 0 (some x) h = some (some st) := gfr_at (x := some st) k1 rfl
    have r1 : rcv 1 (some st) h = some () := rcv_at t1
    have r2 : rcv 0 (some x) (ov h L) = some () := rcv_at ((OC.2.2 _ o1.1).trans k1)
    have r3 : gfr 0 0 (some x) (ov hb L) = some (some (hn h + 0)) := gfr_at (x := some (hn h + 0)) ((OB.2.2 _ (by rw [hbn]; exact o1.1)).trans hbx) rfl
    have r4 : gfr 1 0 (some (hn h + 0)) (ov hb L) = some (some (hn h + 1)) := gfr_at (x := some (hn h + 1)) (hat 0 (sto (hn h + 1) (hn h + 10)) 2 (by rw [← hL]; rfl)) rfl
    simp only [f_X0_act, r0, r1, hcp, r2, e1, r3, r4, Option.bind_some]
  have oux : ∀ a, Ou m h a → Ou m (tr (hn h) (ov hb L)) a := fun a O => O
  refine ⟨ov hb L, d, da, u, ua, v, ra, ru, pushA la st, mm, ms, f4cut f, cut 5 fc, cut 25 fw, cutr 2 fs, hfin, ?_, ?_, PgW_cut W hQ.1, ?_, ⟨(LasB _ l6).1, fun k hk => (LasB _ (l7 k hk)).1⟩, ?_, ?_, ?_, KB.trans OB.keep, ?_, ?_, fun a c q1 q0 q2 q3 q4 => hu a c q1 q0 q2 q3 q4, fun k y hk hy => ?_⟩
  · obtain ⟨⟨q, hq⟩, hr⟩ := k5
    obtain ⟨cap, fb, z, u1, u2, u3, u4, u5, u6⟩ := k4
    refine ⟨(OB.2.2 _ (by rw [hbn]; exact o1.1)).trans hbx, ⟨hd, fe, e2, e3, (OB.2.2 _ (by rw [hbn]; exact o2.1)).trans hbd, (OB.2.2 _ (by rw [hbn]; exact o3.1)).trans hbda, e4⟩, (HiC_push k3 ST).las LasB, ⟨cap, fb, z, u1, u2, u3, (hu _ _ u4 o4.1 (by simp [ki]) (by simp [ki]) (by simp [ki])).trans u4, (hu _ _ u5 o5.1 (by simp [ki]) (by simp [ki]) (by simp [ki])).trans u5, u6⟩, VR_las ⟨⟨q, hq⟩, hr⟩ k6 LasB ⟨q, (hu _ _ hq o6.1 (by simp [ki, svo]) (by simp [ki, svo]) (by simp [ki, svo])).trans hq⟩, ⟨(LasB _ k6.1).1, fun k hk => (LasB _ (k6.2 k hk)).1⟩, oux _ o1, oux _ o2, oux _ o3, oux _ o4, oux _ o5, oux _ o6, o7⟩
  · rw [a2] at hL
    have hh : hn (ov hb L) = hn h + 11 := by rw [ov_hn, hbn, hLl]
    refine ⟨⟨hat 0 _ 2 (by rw [← hL]; rfl), hat 10 _ 2 (by rw [← hL]; rfl), hat 1 _ 4 (by rw [← hL]; rfl), ⟨hat 2 _ 7 (by rw [← hL]; rfl), hat 3 _ 25 (by rw [← hL]; rfl), hat 4 _ 25 (by rw [← hL]; rfl), hat 5 _ 25 (by rw [← hL]; rfl), hat 6 _ 10 (by rw [← hL]; rfl)⟩, ⟨hat 8 _ 2 (by rw [← hL]; rfl), hat 9 _ 25 (by rw [← hL]; rfl)⟩, hat 7 _ 5 (by rw [← hL]; rfl)⟩, by omega, by omega, by omega⟩
  · exact MbR_agree (l6.lk (LasB _ l6).2) (fun k hk => (l7 k hk).lk (LasB _ (l7 k hk)).2) M
  · intro c hc; rw [cut_lt (by omega)]; exact b3 c hc
  · intro r hr; rw [cut_lt (by omega)]; exact c2 r hr
  · intro q hq
    have e : cutr 2 fs q = fs q := by unfold cutr; rw [if_pos hq]
    rw [e]
    exact (S.las LasB) q hq
  · rw [ov_hn, hbn, hLl]
  · rw [ov_hs, hbs, hsum]
  · have e1 : ob 0 (some x) h = some [.ref st, .ref d, .ref u, .ref v] := ob_at k1
    have e2 : ob 0 (some x) (ov hb L) = some [.ref (hn h + 0), .ref d, .ref u, .ref v] := ob_at ((OB.2.2 _ (by rw [hbn]; exact o1.1)).trans hbx)
    simp only [gfr, e1, Option.bind_some] at hy
    simp only [gfr, e2, Option.bind_some]
    obtain ⟨k, rfl⟩ : ∃ k', k = k' + 1 := ⟨k - 1, by omega⟩
    simpa using hy
