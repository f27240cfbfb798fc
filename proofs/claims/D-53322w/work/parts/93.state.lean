/-! PLAIN LAW: the class: what lasts -/
set_option maxRecDepth 100000
/-- cells of these kinds are never written when they are old -/
def frz (c : PC) : Bool := !([0, 5, 26, 27, 1002, 1006].contains (ki c))
theorem frz_ne {c : PC} (h : frz c = true) : ki c ≠ 0 ∧ ki c ≠ 5 ∧ ki c ≠ 26 ∧ ki c ≠ 27 ∧ ki c ≠ 1002 ∧ ki c ≠ 1006 := by
  simpa [frz] using h
/-- what a call of the class keeps -/
def Keep (h h' : PH) : Prop := hn h ≤ hn h' ∧ hg h' = hg h ∧ (∀ a, a < hn h → (∀ c, h.1 a = some c → frz c = true → h'.1 a = some c) ∧ (h.1 a = none → h'.1 a = none))
theorem Keep.refl (h : PH) : Keep h h := ⟨Nat.le_refl _, rfl, fun a _ => ⟨fun c hc _ => hc, fun hc => hc⟩⟩
theorem Keep.trans {h h' h'' : PH} (K1 : Keep h h') (K2 : Keep h' h'') : Keep h h'' :=
  ⟨Nat.le_trans K1.1 K2.1, K2.2.1.trans K1.2.1, fun a ha => ⟨fun c hc hf => (K2.2.2 a (Nat.lt_of_lt_of_le ha K1.1)).1 c ((K1.2.2 a ha).1 c hc hf) hf, fun hc => (K2.2.2 a (Nat.lt_of_lt_of_le ha K1.1)).2 ((K1.2.2 a ha).2 hc)⟩⟩
theorem Keep.ov {h : PH} {l : List (PC × Nat)} : Keep h (ov h l) := ⟨by rw [ov_hn]; omega, rfl, fun a ha => by rw [ov_old ha]; exact ⟨fun c hc _ => hc, fun hc => hc⟩⟩
/-- a write to a new cell, or to an old one that may change -/
theorem Keep.set {h0 h : PH} {a : Nat} {c : PC} (K : Keep h0 h) (ha : hn h0 ≤ a ∨ ∃ c0, h0.1 a = some c0 ∧ frz c0 = false) : Keep h0 (hset h a c) := by
  refine ⟨K.1, K.2.1, fun x hx => ?_⟩
  by_cases e : x = a
  · subst e
    rcases ha with h1 | ⟨c0, h1, h2⟩
    · omega
    · refine ⟨fun d hd hf => ?_, fun hd => ?_⟩
      · rw [h1] at hd; cases hd; rw [h2] at hf; cases hf
      · rw [h1] at hd; cases hd
  · rw [hset_ne e]; exact K.2.2 x hx
/-- a lasting cell: m is the reference's place -/
def Al (m : Nat) (h : PH) (a : Nat) : Prop := a < hn h ∧ (a < m ∨ m + 11 < a) ∧ ∃ c, h.1 a = some c ∧ frz c = true
theorem Al.keep {m a : Nat} {h h' : PH} (A : Al m h a) (K : Keep h h') : Al m h' a ∧ h'.1 a = h.1 a := by
  obtain ⟨a1, a2, c, a3, a4⟩ := A
  have := (K.2.2 a a1).1 c a3 a4
  exact ⟨⟨Nat.lt_of_lt_of_le a1 K.1, a2, c, this, a4⟩, by rw [this, a3]⟩
theorem Al.lk {m a : Nat} {h h' : PH} (A : Al m h a) (e : h'.1 a = h.1 a) : lk h' a = lk h a := by
  obtain ⟨a1, a2, c, a3, a4⟩ := A
  rw [lk_own a3, lk_own (e.trans a3)]
/-- a sheet that lasts -/
def ShW (m : Nat) (h : PH) (s : Nat → Nat) (sh p b co mm : Nat) (ms : Nat → Nat) (f : F4) (al : Int32) (fc fw : Nat → Int32) : Prop :=
  (h.1 sh = some (sho p b co al) ∧ al = I (s 2)) ∧ PgX h p mm (I (s 0)) (I (s 1)) f ∧ PgW s f ∧ MbR h mm ms s ∧ (BdC h b p fw ∧ ∀ c, c < nc s → fw c = I (s (93 + c))) ∧ (h.1 co = some (nar 0 5 fc) ∧ ∀ r, r < 5 → fc r = I (s (3 + r))) ∧
  (Al m h sh ∧ (∀ a, p ≤ a → a ≤ p + 4 → Al m h a) ∧ Al m h b ∧ Al m h (b + 1) ∧ Al m h co ∧ Al m h mm ∧ ∀ k, k < rkTo s (nc s) → Al m h (ms k))
def ShC (m : Nat) (h : PH) (sh : Nat) (s : Nat → Nat) : Prop := ∃ p b co mm ms f al fc fw, ShW m h s sh p b co mm ms f al fc fw
/-- h' is as h at the lasting cells -/
def Las (m : Nat) (h h' : PH) : Prop := ∀ a, Al m h a → Al m h' a ∧ h'.1 a = h.1 a
theorem Las.keep {m : Nat} {h h' : PH} (K : Keep h h') : Las m h h' := fun _ A => A.keep K
theorem Las.refl (m : Nat) (h : PH) : Las m h h := fun _ A => ⟨A, rfl⟩
theorem ShW.las {m : Nat} {h h' : PH} {s : Nat → Nat} {sh p b co mm : Nat} {ms : Nat → Nat} {f : F4} {al : Int32} {fc fw : Nat → Int32} (S : ShW m h s sh p b co mm ms f al fc fw) (L : Las m h h') : ShW m h' s sh p b co mm ms f al fc fw := by
  obtain ⟨⟨a1, a2⟩, ⟨x0, x1, x2, x3, x4⟩, W, M, ⟨⟨b1, b2⟩, b3⟩, ⟨c1, c2⟩, l1, l2, l3, l4, l5, l6, l7⟩ := S
  refine ⟨⟨(L _ l1).2.trans a1, a2⟩, ⟨(L _ (l2 _ (by omega) (by omega))).2.trans x0, (L _ (l2 _ (by omega) (by omega))).2.trans x1, (L _ (l2 _ (by omega) (by omega))).2.trans x2, (L _ (l2 _ (by omega) (by omega))).2.trans x3, (L _ (l2 _ (by omega) (by omega))).2.trans x4⟩, W, ?_, ⟨⟨(L _ l3).2.trans b1, (L _ l4).2.trans b2⟩, b3⟩, ⟨(L _ l5).2.trans c1, c2⟩, (L _ l1).1, fun a h1 h2 => (L _ (l2 a h1 h2)).1, (L _ l3).1, (L _ l4).1, (L _ l5).1, (L _ l6).1, fun k hk => (L _ (l7 k hk)).1⟩
  exact MbR_agree (l6.lk (L _ l6).2) (fun k hk => (l7 k hk).lk (L _ (l7 k hk)).2) M
theorem ShC.las {m : Nat} {h h' : PH} {sh : Nat} {s : Nat → Nat} (S : ShC m h sh s) (L : Las m h h') : ShC m h' sh s := by
  obtain ⟨p, b, co, mm, ms, f, al, fc, fw, S⟩ := S
  exact ⟨p, b, co, mm, ms, f, al, fc, fw, S.las L⟩
/-- slots -/
def SlC (m : Nat) (h : PH) (fs : Nat → Option Nat) (s : Nat → Nat) : Prop := ∀ q, q < 2 → (s (118 + 119 * q) = 0 → fs q = none) ∧ (s (118 + 119 * q) ≠ 0 → ∃ a, fs q = some a ∧ ShC m h a (slt s q))
/-- a state that lasts -/
def StW (m : Nat) (h : PH) (st : Nat) (s : Nat → Nat) (sh sl : Nat) (fs : Nat → Option Nat) : Prop := h.1 st = some (sto sh sl) ∧ h.1 sl = some (rar 4 2 fs) ∧ ShC m h sh s ∧ SlC m h fs s ∧ Al m h st ∧ Al m h sl
def StC (m : Nat) (h : PH) (st : Nat) (s : Nat → Nat) : Prop := ∃ sh sl fs, StW m h st s sh sl fs
theorem SlC.las {m : Nat} {h h' : PH} {fs : Nat → Option Nat} {s : Nat → Nat} (S : SlC m h fs s) (L : Las m h h') : SlC m h' fs s := fun q hq => ⟨(S q hq).1, fun e => by
  obtain ⟨a, a1, a2⟩ := (S q hq).2 e
  exact ⟨a, a1, a2.las L⟩⟩
theorem StC.las {m : Nat} {h h' : PH} {st : Nat} {s : Nat → Nat} (S : StC m h st s) (L : Las m h h') : StC m h' st s := by
  obtain ⟨sh, sl, fs, a1, a2, a3, a4, a5, a6⟩ := S
  exact ⟨sh, sl, fs, (L _ a5).2.trans a1, (L _ a6).2.trans a2, a3.las L, a4.las L, (L _ a5).1, (L _ a6).1⟩
/-- rows that a sheet can't tell apart -/
theorem ShC.row {m : Nat} {h : PH} {sh : Nat} {s t : Nat → Nat} (S : ShC m h sh s) (hE : EqN 118 t s) (hP : PG' s) : ShC m h sh t := by
  obtain ⟨p, b, co, mm, ms, f, al, fc, fw, ⟨a1, a2⟩, X, W, M, ⟨b1, b3⟩, ⟨c1, c2⟩, l1, l2, l3, l4, l5, l6, l7⟩ := S
  have hn' := nc_le hP
  have hn2 : nc t = nc s := nc_of (hE 0 (by decide)) (hE 1 (by decide))
  have h0 := hE 0 (by decide)
  have h1 := hE 1 (by decide)
  obtain ⟨g1, g2, g3, g4⟩ := hP
  have hM := MbR_row h0 h1 (fun c hc => hE _ (by omega)) M
  have er : rkTo t (nc t) = rkTo s (nc s) := by
    have e1 := hM.1
    rw [M.1] at e1
    have e2 := Option.some.inj e1
    have r1 := rkTo_le s (nc s)
    have r2 := rkTo_le t (nc t)
    rw [I_eq (by omega) (by omega)] at e2
    exact e2.symm
  refine ⟨p, b, co, mm, ms, f, al, fc, fw, ⟨a1, by rw [a2, hE 2 (by decide)]⟩, by rw [h0, h1]; exact X, ⟨fun c hc => ?_, fun i hi => ?_, W.2.2⟩, hM, ⟨b1, fun c hc => ?_⟩, ⟨c1, fun r hr => ?_⟩, l1, l2, l3, l4, l5, l6, fun k hk => l7 k (by rw [← er]; exact hk)⟩
  · rw [hE _ (by omega), hE _ (by omega), hE _ (by omega)]; exact W.1 c (by omega)
  · rw [hE _ (by omega)]; exact W.2.1 i (by omega)
  · rw [hE _ (by omega)]; exact b3 c (by omega)
  · rw [hE _ (by omega)]; exact c2 r hr
/-- the history's states, oldest first -/
def DqX (h : PH) (d da : Nat) (la : List Nat) : Prop := ∃ hd fe, hd < 17 ∧ la.length ≤ 5 ∧ h.1 d = some (.inr (26, [.ref da, .int (I hd), .int (I ((hd + la.length) % 17))])) ∧ h.1 da = some (rar 6 17 fe) ∧ ∀ i a, la[i]? = some a → fe ((hd + i) % 17) = some a
def HiC (m : Nat) (h : PH) (la : List Nat) (L : List (Nat → Nat)) : Prop := la.length = L.length ∧ ∀ (i a : Nat) (s : Nat → Nat), la[i]? = some a → L[i]? = some s → StC m h a s
/-- the text's builder -/
def BuC (h : PH) (u ua : Nat) (n : Nat) (tx : Nat → Nat) : Prop := ∃ cap fb z, n ≤ cap ∧ cap ≤ 2000 ∧ ((z = 0 ∨ z = 1) ∧ ∀ j, (-128 : Int32) ≤ fb j ∧ fb j ≤ 127) ∧ h.1 u = some (.inr (27, [.ref ua, .int 0, .int z, .int (I n)])) ∧ h.1 ua = some (nar 2 cap fb) ∧ ∀ j, j < n → fb j = (I (tx j)).toInt8.toInt32
/-- an address that the reference hasn't -/
def Ou (m : Nat) (h : PH) (a : Nat) : Prop := a < hn h ∧ (a < m ∨ m + 11 < a)
/-- the object's cell -/
def eso (st d u v : Nat) : PC := .inr (0, [.ref st, .ref d, .ref u, .ref v])
/-- all of the object but its state -/
def CM (m : Nat) (h : PH) (x st : Nat) (L : List (Nat → Nat)) (n : Nat) (tx : Nat → Nat) (d da u ua v ra : Nat) (ru : Nat → Nat) (la : List Nat) : Prop :=
  h.1 x = some (eso st d u v) ∧ DqX h d da la ∧ HiC m h la L ∧ BuC h u ua n tx ∧ VR h v ra ru ∧ (Al m h ra ∧ ∀ k, k < 5 → Al m h (ru k)) ∧ Ou m h x ∧ Ou m h d ∧ Ou m h da ∧ Ou m h u ∧ Ou m h ua ∧ Ou m h v ∧ m + 11 < hn h
/-- the object -/
def CI (m : Nat) (h : PH) (x : Nat) (g : GS) : Prop := ∃ st d da u ua v ra ru la, CM m h x st g.2.1 g.2.2.1 g.2.2.2 d da u ua v ra ru la ∧ StC m h st g.1
theorem HiC.las {m : Nat} {h h' : PH} {la : List Nat} {L : List (Nat → Nat)} (H : HiC m h la L) (K : Las m h h') : HiC m h' la L := ⟨H.1, fun i a s h1 h2 => (H.2 i a s h1 h2).las K⟩
theorem VR_las {m : Nat} {h h' : PH} {v ra : Nat} {ru : Nat → Nat} (V : VR h v ra ru) (A : Al m h ra ∧ ∀ k, k < 5 → Al m h (ru k)) (K : Las m h h') (hv : ∃ q, h'.1 v = some (svo ra q)) : VR h' v ra ru := by
  refine ⟨hv, fun k hk => ?_⟩
  obtain ⟨g1, g2⟩ := V.2 k hk
  have e1 := A.1.lk (K _ A.1).2
  have e2 := (A.2 k hk).lk (K _ (A.2 k hk)).2
  refine ⟨?_, ?_⟩
  · rw [← g1]; simp only [alr, ar, e1]
  · rw [← g2]; simp only [clo, e2]
/-- the same heap, with fewer cells counted -/
def tr (n : Nat) (h : PH) : PH := (h.1, n, h.2.2)
/-- nothing changed below -/
def Old (h h' : PH) : Prop := hn h ≤ hn h' ∧ hg h' = hg h ∧ ∀ a, a < hn h → h'.1 a = h.1 a
theorem Old.refl (h : PH) : Old h h := ⟨Nat.le_refl _, rfl, fun _ _ => rfl⟩
theorem Old.trans {h h' h'' : PH} (O1 : Old h h') (O2 : Old h' h'') : Old h h'' := ⟨Nat.le_trans O1.1 O2.1, O2.2.1.trans O1.2.1, fun a ha => (O2.2.2 a (Nat.lt_of_lt_of_le ha O1.1)).trans (O1.2.2 a ha)⟩
theorem Old.las {m : Nat} {h h' : PH} (O : Old h h') : Las m h h' := fun a A => by
  obtain ⟨a1, a2, c, a3, a4⟩ := A
  exact ⟨⟨Nat.lt_of_lt_of_le a1 O.1, a2, c, (O.2.2 a a1).trans a3, a4⟩, O.2.2 a a1⟩
theorem Old.keep {h h' : PH} (O : Old h h') : Keep h h' := ⟨O.1, O.2.1, fun a ha => by rw [O.2.2 a ha]; exact ⟨fun c hc _ => hc, fun hc => hc⟩⟩
theorem Old.ov {h : PH} {l : List (PC × Nat)} : Old h (ov h l) := ⟨by rw [ov_hn]; omega, rfl, fun a ha => ov_old ha⟩
theorem Old.set {h h' : PH} {a : Nat} {c : PC} (O : Old h h') (ha : hn h ≤ a) : Old h (hset h' a c) := ⟨O.1, O.2.1, fun x hx => by rw [hset_ne (by omega)]; exact O.2.2 x hx⟩
theorem DqX.same {h h' : PH} {d da : Nat} {la : List Nat} (D : DqX h d da la) (e1 : h'.1 d = h.1 d) (e2 : h'.1 da = h.1 da) : DqX h' d da la := by
  obtain ⟨hd, fe, a1, a2, a3, a4, a5⟩ := D
  exact ⟨hd, fe, a1, a2, e1.trans a3, e2.trans a4, a5⟩
theorem BuC.same {h h' : PH} {u ua n : Nat} {tx : Nat → Nat} (D : BuC h u ua n tx) (e1 : h'.1 u = h.1 u) (e2 : h'.1 ua = h.1 ua) : BuC h' u ua n tx := by
  obtain ⟨cap, fb, z, a1, a2, a3, a4, a5, a6⟩ := D
  exact ⟨cap, fb, z, a1, a2, a3, e1.trans a4, e2.trans a5, a6⟩
theorem Ou.le {m a : Nat} {h h' : PH} (O : Ou m h a) (hl : hn h ≤ hn h') : Ou m h' a := ⟨Nat.lt_of_lt_of_le O.1 hl, O.2⟩
theorem CM.old {m : Nat} {h h' : PH} {x st : Nat} {L : List (Nat → Nat)} {n : Nat} {tx : Nat → Nat} {d da u ua v ra : Nat} {ru : Nat → Nat} {la : List Nat} (C : CM m h x st L n tx d da u ua v ra ru la) (O : Old h h') : CM m h' x st L n tx d da u ua v ra ru la := by
  obtain ⟨c1, c2, c3, c4, c5, c6, o1, o2, o3, o4, o5, o6, o7⟩ := C
  refine ⟨(O.2.2 _ o1.1).trans c1, c2.same (O.2.2 _ o2.1) (O.2.2 _ o3.1), c3.las O.las, c4.same (O.2.2 _ o4.1) (O.2.2 _ o5.1), VR_las c5 c6 O.las ?_, ⟨(O.las _ c6.1).1, fun k hk => (O.las _ (c6.2 k hk)).1⟩, o1.le O.1, o2.le O.1, o3.le O.1, o4.le O.1, o5.le O.1, o6.le O.1, Nat.lt_of_lt_of_le o7 O.1⟩
  obtain ⟨⟨q, hq⟩, -⟩ := c5
  exact ⟨q, (O.2.2 _ o6.1).trans hq⟩
