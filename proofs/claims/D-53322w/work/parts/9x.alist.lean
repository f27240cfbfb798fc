/-! PLAIN LAW: the class: lists -/
set_option maxRecDepth 100000
/-- the empty array that all new lists share -/
def G4 (h : PH) : Prop := ∃ z : Nat, ∃ f : Nat → Option Nat, hk h 4 = some z ∧ z < hn h ∧ h.1 z = none ∧ (hg h).1 z = some (rar 6 0 f)
theorem G4.keep {h h' : PH} (G : G4 h) (K : Keep h h') : G4 h' := by
  obtain ⟨z, f, g1, g2, g3, g4⟩ := G
  refine ⟨z, f, ?_, Nat.lt_of_lt_of_le g2 K.1, (K.2.2 z g2).2 g3, by rw [K.2.1]; exact g4⟩
  rw [← g1]; unfold hk; rw [K.2.1]
theorem G4.len {h : PH} {z : Nat} (G : G4 h) (hz : hk h 4 = some z) : aln 6 (some z) h = some (I 0) := by
  obtain ⟨z', f, g1, g2, g3, g4⟩ := G
  rw [hz] at g1; cases g1
  have : lk h z = some (rar 6 0 f) := by unfold lk; rw [g3]; exact g4
  simp only [aln, ar, this]; rfl
/-- a list: object, array, room, what is in it -/
def ALX (h : PH) (a ea cap : Nat) (l : List Nat) : Prop := ∃ (fe : Nat → Option Nat) (mc : Int32), h.1 a = some (.inr (29, [.int mc, .ref ea, .int (I l.length)])) ∧ ((cap = 0 ∧ hk h 4 = some ea) ∨ (10 ≤ cap ∧ h.1 ea = some (rar 6 cap fe))) ∧ l.length ≤ cap ∧ cap ≤ 300 ∧ (∀ (i x : Nat), l[i]? = some x → fe i = some x) ∧ (∀ x : Nat, x ∈ l → x < hn h ∧ ∃ o, h.1 x = some (.inr (22, o))) ∧ a < hn h ∧ (0 < cap → ea < hn h)
def Fa (h h' : PH) (a ea cap ea' cap' : Nat) : Prop := hn h ≤ hn h' ∧ hg h' = hg h ∧ (∀ b, b < hn h → b ≠ a → (0 < cap → b ≠ ea) → h'.1 b = h.1 b) ∧ ((ea' = ea ∧ cap' = cap) ∨ hn h ≤ ea') ∧ hn h' ≤ hn h + 1 ∧ hs h' + 4 * cap ≤ hs h + 4 * cap'
theorem ALX.fr {h h' : PH} {a ea cap : Nat} {l : List Nat} (A : ALX h a ea cap l) (hl : hn h ≤ hn h') (hgg : hg h' = hg h) (hf : ∀ b c, b < hn h → h.1 b = some c → (b = a ∨ (0 < cap ∧ b = ea) ∨ ki c = 22) → h'.1 b = some c) : ALX h' a ea cap l := by
  obtain ⟨fe, mc, a1, a2, a3, a4, a5, a6, a7, a8⟩ := A
  refine ⟨fe, mc, hf _ _ a7 a1 (Or.inl rfl), ?_, a3, a4, a5, fun x hx => ?_, by omega, fun hc => Nat.lt_of_lt_of_le (a8 hc) hl⟩
  · rcases a2 with ⟨q1, q2⟩ | ⟨q1, q2⟩
    · left; refine ⟨q1, ?_⟩; rw [← q2]; unfold hk; rw [hgg]
    · right; exact ⟨q1, hf _ _ (a8 (by omega)) q2 (Or.inr (Or.inl ⟨by omega, rfl⟩))⟩
  · obtain ⟨q1, o, q2⟩ := a6 x hx
    exact ⟨by omega, o, hf _ _ q1 q2 (Or.inr (Or.inr rfl))⟩
section AL9x
variable {h : PH} {a ea cap : Nat} {l : List Nat}
theorem al_rc (A : ALX h a ea cap l) : rcv 29 (some a) h = some () := by
  obtain ⟨fe, mc, a1, -⟩ := A
  exact rcv_at a1
theorem al_size (A : ALX h a ea cap l) : f_J24_size (some a) h = some (I l.length, h) := by
  obtain ⟨fe, mc, a1, -⟩ := A
  have r2 : gfi 29 2 (some a) h = some (I l.length) := gfi_at a1 rfl
  unfold f_J24_size; rw [r2, Option.bind_some]
theorem al_get {i x : Nat} (A : ALX h a ea cap l) (hx : l[i]? = some x) : f_J24_get (some a) (I i) h = some (some x, h) := by
  obtain ⟨fe, mc, a1, a2, a3, a4, a5, a6, a7, a8⟩ := A
  have hi : i < l.length := (List.getElem?_eq_some_iff.mp hx).1
  have r2 : gfi 29 2 (some a) h = some (I l.length) := gfi_at a1 rfl
  have r1 : gfr 29 1 (some a) h = some (some ea) := gfr_at (x := some ea) a1 rfl
  have rc : rcv 29 (some a) h = some () := rcv_at a1
  rcases a2 with ⟨q1, q2⟩ | ⟨q1, q2⟩
  · omega
  · have e1 : alr 6 (some ea) (I i) h = some (some x) := by rw [alr_at q2 (by omega) (by omega), a5 i x hx]
    have e2 : f_J4_checkIndex (I i) (I l.length) h = some (I i, h) := by
      unfold f_J4_checkIndex f_J12_checkIndex
      rw [if_neg (by rw [show (0 : Int32) = I 0 from rfl, I_lt (by omega) (by decide)]; omega), if_pos (by rw [I_lt (by omega) (by omega)]; exact hi), Option.bind_some]
    unfold f_J24_get f_J24_elementData
    rw [r2, Option.bind_some, e2, Option.bind_some, rc, Option.bind_some, r1, Option.bind_some, e1, Option.bind_some, Option.bind_some]
/-- the writing of the new element -/
theorem al_b11 {fe : Nat → Option Nat} {mc : Int32} {y N : Nat} (hN : N = l.length) (a1 : h.1 a = some (.inr (29, [.int mc, .ref ea, .int (I N)]))) (hlc : l.length < cap) (hc3 : 10 ≤ cap ∧ cap ≤ 300) (he : h.1 ea = some (rar 6 cap fe)) (a5 : ∀ (i x : Nat), l[i]? = some x → fe i = some x) (a6 : ∀ x : Nat, x ∈ l → x < hn h ∧ ∃ o, h.1 x = some (.inr (22, o))) (ha : a < hn h) (hea : ea < hn h) (hy : y < hn h) (hy2 : ∃ o, h.1 y = some (.inr (22, o))) :
    ∃ h', f_J24_add_2_B11 (some a) (some y) (some ea) (I l.length) h = some h' ∧ ALX h' a ea cap (l ++ [y]) ∧ hn h' = hn h ∧ hs h' = hs h ∧ hg h' = hg h ∧ (∀ b, b ≠ a → b ≠ ea → h'.1 b = h.1 b) := by
  subst hN
  have hane : a ≠ ea := fun e => by subst e; rw [a1] at he; cases he
  have hyk : eok 6 h (some y) = true := by
    obtain ⟨o, ho⟩ := hy2
    simp only [eok, cno, ho]; rfl
  have e1 : asr 6 (some ea) (I l.length) (some y) h = some (hset h ea (rar 6 cap (va_up fe l.length (some y)))) := asr_at he hlc (by omega) hyk
  have u1 : (hset h ea (rar 6 cap (va_up fe l.length (some y)))).1 a = some (.inr (29, [.int mc, .ref ea, .int (I l.length)])) := (hset_ne hane).trans a1
  have e2 : pf 29 2 (some a) (.int (I (l.length + 1))) (hset h ea (rar 6 cap (va_up fe l.length (some y)))) = some (hset (hset h ea (rar 6 cap (va_up fe l.length (some y)))) a (.inr (29, [.int mc, .ref ea, .int (I (l.length + 1))]))) := pf_at u1 (by simp)
  have hne : ∀ b (c : PC), h.1 b = some c → ki c ≠ 29 → ki c ≠ 1006 → (hset (hset h ea (rar 6 cap (va_up fe l.length (some y)))) a (.inr (29, [.int mc, .ref ea, .int (I (l.length + 1))]))).1 b = some c := fun b c q1 q2 q3 => by
    rw [hset_ne (fun e => by subst e; rw [a1] at q1; cases q1; exact q2 rfl), hset_ne (fun e => by subst e; rw [he] at q1; cases q1; exact q3 rfl)]; exact q1
  have hlen : (l ++ [y]).length = l.length + 1 := by simp
  refine ⟨_, ?_, ⟨va_up fe l.length (some y), mc, by rw [hlen]; exact hset_at, Or.inr ⟨hc3.1, (hset_ne hane.symm).trans hset_at⟩, by omega, hc3.2, fun i x hx => ?_, fun x hx => ?_, ha, fun _ => hea⟩, rfl, rfl, rfl, fun b q1 q2 => by rw [hset_ne q1, hset_ne q2]⟩
  · unfold f_J24_add_2_B11
    rw [e1, Option.bind_some, show I l.length + 1 = I (l.length + 1) from I_add _ 1, e2, Option.bind_some]
  · by_cases z : i = l.length
    · subst z
      rw [List.getElem?_append_right (Nat.le_refl _), Nat.sub_self] at hx
      cases hx
      exact va_up_self _ _ _
    · have : i < (l ++ [y]).length := (List.getElem?_eq_some_iff.mp hx).1
      rw [List.getElem?_append_left (by omega)] at hx
      rw [va_up_ne _ _ z]; exact a5 i x hx
  · rcases List.mem_append.mp hx with q | q
    · obtain ⟨z1, o, z2⟩ := a6 x q
      exact ⟨z1, o, hne _ _ z2 (by simp [ki]) (by simp [ki])⟩
    · have : x = y := by simpa using q
      subst this
      obtain ⟨o, z2⟩ := hy2
      exact ⟨hy, o, hne _ _ z2 (by simp [ki]) (by simp [ki])⟩
theorem al_add {y : Nat} (A : ALX h a ea cap l) (G : G4 h) (hl : l.length < 160) (hy : y < hn h) (hy2 : ∃ o, h.1 y = some (.inr (22, o))) : ∃ h' ea' cap', f_J24_add (some a) (some y) h = some (1, h') ∧ ALX h' a ea' cap' (l ++ [y]) ∧ Fa h h' a ea cap ea' cap' := by
  obtain ⟨fe, mc, a1, a2, a3, a4, a5, a6, a7, a8⟩ := A
  have r0 : gfi 29 0 (some a) h = some mc := gfi_at a1 rfl
  have e0 : pf 29 0 (some a) (.int (mc + 1)) h = some (hset h a (.inr (29, [.int (mc + 1), .ref ea, .int (I l.length)]))) := pf_at a1 (by simp)
  generalize hgg : hset h a (.inr (29, [.int (mc + 1), .ref ea, .int (I l.length)])) = h1 at *
  have b1 : h1.1 a = some (.inr (29, [.int (mc + 1), .ref ea, .int (I l.length)])) := by rw [← hgg]; exact hset_at
  have bo : ∀ b, b ≠ a → h1.1 b = h.1 b := fun b hb => by rw [← hgg]; exact hset_ne hb
  have hn1 : hn h1 = hn h := by rw [← hgg]; rfl
  have hs1 : hs h1 = hs h := by rw [← hgg]; rfl
  have hg1 : hg h1 = hg h := by rw [← hgg]; rfl
  have rc : rcv 29 (some a) h1 = some () := rcv_at b1
  have r1 : gfr 29 1 (some a) h1 = some (some ea) := gfr_at (x := some ea) b1 rfl
  have r2 : gfi 29 2 (some a) h1 = some (I l.length) := gfi_at b1 rfl
  have k22 : ∀ x o, h.1 x = some (.inr (22, o)) → h1.1 x = some (.inr (22, o)) := fun x o hx => by
    rw [bo x (fun e => by subst e; rw [a1] at hx; cases hx)]; exact hx
  have m6 : ∀ x : Nat, x ∈ l → x < hn h1 ∧ ∃ o, h1.1 x = some (.inr (22, o)) := fun x hx => by
    obtain ⟨z1, o, z2⟩ := a6 x hx
    exact ⟨by omega, o, k22 x o z2⟩
  have top : ∀ (h' : PH), f_J24_add_2 (some a) (some y) (some ea) (I l.length) h1 = some h' → f_J24_add (some a) (some y) h = some (1, h') := fun h' hh => by
    unfold f_J24_add
    rw [r0, Option.bind_some, e0, Option.bind_some, r1, Option.bind_some, r2, Option.bind_some, rc, Option.bind_some, hh, Option.bind_some]
  -- growing
  have grow : ∀ N, l.length < N → 10 ≤ N → N ≤ 300 → N ≤ 4 * N - 4 * cap → ∀ h2, f_J24_grow (some a) h1 = some (some (hn h1), h2) → h2 = hset (hset (hnew h1 (rar 6 N (fun _ => none)) N) (hn h1) (rar 6 N (cutr cap fe))) a (.inr (29, [.int (mc + 1), .ref (hn h1), .int (I l.length)])) → aln 6 (some ea) h1 = some (I l.length) → l.length = cap →
      ∃ h' ea' cap', f_J24_add (some a) (some y) h = some (1, h') ∧ ALX h' a ea' cap' (l ++ [y]) ∧ Fa h h' a ea cap ea' cap' := by
    intro N hN1 hN2 hN3 hN4 h2 hgr hh2 hln hlc
    have c1 : h2.1 a = some (.inr (29, [.int (mc + 1), .ref (hn h1), .int (I l.length)])) := by rw [hh2]; exact hset_at
    have c2 : h2.1 (hn h1) = some (rar 6 N (cutr cap fe)) := by rw [hh2, hset_ne (by omega)]; exact hset_at
    have co : ∀ b, b < hn h1 → b ≠ a → h2.1 b = h1.1 b := fun b q1 q2 => by rw [hh2, hset_ne q2, hset_ne (by omega), hnew_ne (by omega)]
    have n2 : hn h2 = hn h1 + 1 := by rw [hh2]; rfl
    have s2 : hs h2 = hs h1 + N := by rw [hh2]; rfl
    have g2 : hg h2 = hg h1 := by rw [hh2]; rfl
    have k2 : ∀ x o, x < hn h → h.1 x = some (.inr (22, o)) → h2.1 x = some (.inr (22, o)) := fun x o q1 hx => by
      rw [co x (by omega) (fun e => by subst e; rw [a1] at hx; cases hx)]; exact k22 x o hx
    obtain ⟨h', w1, w2, w3, w4, w5, w6⟩ := al_b11 (l := l) (y := y) rfl c1 hN1 ⟨hN2, hN3⟩ c2 (fun i x hx => by
      have : i < l.length := (List.getElem?_eq_some_iff.mp hx).1
      unfold cutr; rw [if_pos (by omega)]; exact a5 i x hx) (fun x hx => by
      obtain ⟨z1, o, z2⟩ := a6 x hx
      exact ⟨by omega, o, k2 x o z1 z2⟩) (by omega) (by omega) (by omega) (by obtain ⟨o, z⟩ := hy2; exact ⟨o, k2 y o hy z⟩)
    refine ⟨h', hn h1, N, top h' ?_, w2, by omega, by rw [w5, g2, hg1], fun b q1 q2 q3 => ?_, Or.inr (by omega), by omega, by omega⟩
    · unfold f_J24_add_2
      rw [hln, Option.bind_some, if_pos rfl, rc, Option.bind_some, hgr, Option.bind_some]
      exact w1
    · rw [w6 b q2 (by omega), co b (by omega) q2, bo b q2]
  rcases a2 with ⟨q1, q2⟩ | ⟨q1, q2⟩
  · -- the first
    have h0 : l.length = 0 := by omega
    have hk1 : hk h1 4 = some ea := by rw [← q2]; unfold hk; rw [hg1]
    have G1 : G4 h1 := by
      obtain ⟨z, f, g1, g2, g3, g4⟩ := G
      exact ⟨z, f, by rw [← g1]; unfold hk; rw [hg1], by omega, (bo z (fun e => by subst e; rw [a1] at g3; cases g3)).trans g3, by rw [hg1]; exact g4⟩
    have hln := G1.len hk1
    have e4 : pf 29 1 (some a) (.ref (hn h1)) (hnew h1 (rar 6 10 (fun _ => none)) 10) = some (hset (hnew h1 (rar 6 10 (fun _ => none)) 10) a (.inr (29, [.int (mc + 1), .ref (hn h1), .int (I l.length)]))) := pf_at ((hnew_ne (by omega)).trans b1) (by simp)
    have hcut : hset (hset (hnew h1 (rar 6 10 (fun _ => none)) 10) (hn h1) (rar 6 10 (cutr cap fe))) a (.inr (29, [.int (mc + 1), .ref (hn h1), .int (I l.length)])) = hset (hnew h1 (rar 6 10 (fun _ => none)) 10) a (.inr (29, [.int (mc + 1), .ref (hn h1), .int (I l.length)])) := by
      have : cutr cap fe = fun _ => none := by funext j; unfold cutr; rw [if_neg (by omega)]
      rw [this, hset_self hnew_at]
    refine grow 10 (by omega) (by omega) (by omega) (by omega) _ ?_ hcut.symm (by rw [hln, h0]) (by omega)
    unfold f_J24_grow f_J24_grow_2
    rw [r2, Option.bind_some, rc, Option.bind_some, r1, Option.bind_some, hln, Option.bind_some, if_neg (by decide), Option.bind_some, hk1, if_pos rfl, h0, show imax 10 (I 0 + 1) = I 10 from by decide, nwr_at (by decide), Option.bind_some]
    rw [h0] at e4
    show ((pf 29 1 (some a) (.ref (hn h1)) _).bind _).bind _ = _
    rw [e4, Option.bind_some, Option.bind_some]
  · have b2 : h1.1 ea = some (rar 6 cap fe) := (bo ea (fun e => by subst e; rw [a1] at q2; cases q2)).trans q2
    have hln : aln 6 (some ea) h1 = some (I cap) := aln_at b2
    have hea := a8 (by omega)
    by_cases hlt : l.length < cap
    · obtain ⟨h', w1, w2, w3, w4, w5, w6⟩ := al_b11 (l := l) (y := y) rfl b1 hlt ⟨q1, a4⟩ b2 a5 m6 (by omega) (by omega) (by omega) (by obtain ⟨o, z⟩ := hy2; exact ⟨o, k22 y o z⟩)
      refine ⟨h', ea, cap, top h' ?_, w2, by omega, by rw [w5, hg1], fun b z1 z2 z3 => (w6 b z2 (z3 (by omega))).trans (bo b z2), Or.inl ⟨rfl, rfl⟩, by omega, by omega⟩
      unfold f_J24_add_2
      rw [hln, Option.bind_some, if_neg (by rw [I_eq (by omega) (by omega)]; omega)]
      exact w1
    · have hlc : l.length = cap := by omega
      have hnl : f_J8_newLength (I cap) (I (l.length + 1) - I cap) (I cap >>> ((1 : Int32) &&& 31)) h1 = some (I (cap + cap / 2), h1) := by
        have e1 : I (l.length + 1) - I cap = I 1 := by rw [I_sub (by omega)]; exact congrArg I (by omega)
        have e2 : imax (I 1) (I (cap / 2)) = I (cap / 2) := by
          unfold imax; rw [if_pos (by rw [I_lt (by omega) (by omega)]; omega)]
        have e3 : I cap >>> ((1 : Int32) &&& 31) = I (cap / 2) := by
          rw [show (1 : Int32) = I 1 from rfl, I_shr (by omega) (by decide)]
          exact congrArg I (Nat.shiftRight_eq_div_pow cap 1)
        have w1 : ¬ I (cap + cap / 2) ≤ (0 : Int32) := by rw [show (0 : Int32) = I 0 from rfl, I_le (by omega) (by omega)]; omega
        have w2 : ¬ (2147483639 : Int32) < I (cap + cap / 2) := by rw [show (2147483639 : Int32) = I 2147483639 from rfl, I_lt (by omega) (by omega)]; omega
        unfold f_J8_newLength
        rw [e1, e3, e2, I_add, if_neg w1, if_neg w2]
      have hcp := copyOf6 (N := cap + cap / 2) b2 (by omega) (by omega) (by omega) (fun j hj b hb => by
        have hj' : l[j]? = some (l[j]'(by omega)) := List.getElem?_eq_getElem (by omega)
        rw [a5 j _ hj'] at hb; cases hb
        obtain ⟨z1, o, z2⟩ := m6 _ (List.mem_of_getElem? hj')
        exact ⟨z1, by simp only [eok, cno, z2]; rfl⟩)
      generalize hg3 : hset (hnew h1 (rar 6 (cap + cap / 2) (fun _ => none)) (cap + cap / 2)) (hn h1) (rar 6 (cap + cap / 2) (cutr cap fe)) = h3 at hcp grow
      have b3 : h3.1 a = some (.inr (29, [.int (mc + 1), .ref ea, .int (I l.length)])) := by rw [← hg3, hset_ne (by omega), hnew_ne (by omega)]; exact b1
      have e4 : pf 29 1 (some a) (.ref (hn h1)) h3 = some (hset h3 a (.inr (29, [.int (mc + 1), .ref (hn h1), .int (I l.length)]))) := pf_at b3 (by simp)
      refine grow (cap + cap / 2) (by omega) (by omega) (by omega) (by omega) (hset h3 a (.inr (29, [.int (mc + 1), .ref (hn h1), .int (I l.length)]))) ?_ (by rw [← hg3]) (by rw [hln, hlc]) hlc
      unfold f_J24_grow f_J24_grow_2 f_J24_grow_2_B20
      rw [r2, Option.bind_some, rc, Option.bind_some, r1, Option.bind_some, hln, Option.bind_some, if_pos (by rw [show (0 : Int32) = I 0 from rfl, I_lt (by decide) (by omega)]; omega), show I l.length + 1 = I (l.length + 1) from I_add _ 1, hnl, Option.bind_some, r1, Option.bind_some, hcp, Option.bind_some]
      show ((pf 29 1 (some a) (.ref (hn h1)) h3).bind _).bind _ = _
      rw [e4, Option.bind_some, Option.bind_some]
end AL9x
