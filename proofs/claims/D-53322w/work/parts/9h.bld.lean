/-! PLAIN LAW: the class: the builder -/
set_option maxRecDepth 100000
/-- a builder: its array, room, bytes, flag, length -/
def BuX (h : PH) (u ua cap : Nat) (fb : Nat → Int32) (z : Int32) (n : Nat) : Prop := n ≤ cap ∧ cap ≤ 2000 ∧ ((z = 0 ∨ z = 1) ∧ ∀ j, (-128 : Int32) ≤ fb j ∧ fb j ≤ 127) ∧ h.1 u = some (.inr (27, [.ref ua, .int 0, .int z, .int (I n)])) ∧ h.1 ua = some (nar 2 cap fb)
/-- how a builder's call may change the heap -/
def Bf (h h' : PH) (u ua cap ua' cap' : Nat) : Prop := hn h ≤ hn h' ∧ hg h' = hg h ∧ (∀ a, a ≠ u → a ≠ ua → a < hn h → h'.1 a = h.1 a) ∧ (ua' = ua ∨ hn h ≤ ua') ∧ ua' < hn h' ∧ hn h' + cap ≤ hn h + cap' ∧ hs h' + 2 * cap ≤ hs h + 2 * cap'
theorem Bf.trans {h h1 h2 : PH} {u ua cap ua1 cap1 ua2 cap2 : Nat} (F : Bf h h1 u ua cap ua1 cap1) (G : Bf h1 h2 u ua1 cap1 ua2 cap2) : Bf h h2 u ua cap ua2 cap2 := by
  obtain ⟨a1, a2, a3, a4, a5, a6, a7⟩ := F
  obtain ⟨b1, b2, b3, b4, b5, b6, b7⟩ := G
  refine ⟨by omega, b2.trans a2, fun a h1 h2 h3 => ?_, by omega, b5, by omega, by omega⟩
  rw [b3 a h1 (by omega) (by omega), a3 a h1 h2 h3]
theorem byteOk (x : Int32) : (-128 : Int32) ≤ x.toInt8.toInt32 ∧ x.toInt8.toInt32 ≤ 127 := by
  rw [Int32.le_iff_toInt_le, Int32.le_iff_toInt_le, Int8.toInt_toInt32]
  exact ⟨Int8.le_toInt _, Int8.toInt_le _⟩
theorem fits2 {x : Int32} (hx : (-128 : Int32) ≤ x ∧ x ≤ 127) : (ptyl[2]?).any (fun ty => fits ty (.int x)) = true := by
  have e : (ptyl[2]?).any (fun ty => fits ty (.int x)) = fits .byte (.int x) := rfl
  rw [e]
  obtain ⟨h1, h2⟩ := hx
  simp [fits, h1, h2]
theorem shl0 (x : Int32) : x <<< ((0 : Int32) &&& 31) = x := by
  rw [show (0 : Int32) &&& 31 = 0 from by decide]; exact Int32.shiftLeft_zero
theorem shr0 (x : Int32) : x >>> ((0 : Int32) &&& 31) = x := by
  rw [show (0 : Int32) &&& 31 = 0 from by decide]; exact Int32.shiftRight_zero
section B9h
variable {h : PH} {u ua cap n : Nat} {fb : Nat → Int32} {z : Int32}
theorem BuX.ne (B : BuX h u ua cap fb z n) : u ≠ ua := by
  obtain ⟨-, -, -, a, b⟩ := B
  intro e; subst e; rw [a] at b; cases b
/-- room for k -/
theorem bu_ensure {k : Nat} (B : BuX h u ua cap fb z n) (hk : k ≤ 900) (hu : u < hn h) (hua : ua < hn h) : ∃ h' ua' cap' fb', f_J16_ensureCapacityInternal (some u) (I k) h = some h' ∧ BuX h' u ua' cap' fb' z n ∧ k ≤ cap' ∧ (∀ j, j < cap → fb' j = fb j) ∧ Bf h h' u ua cap ua' cap' ∧ cap ≤ cap' ∧ (cap' = cap ∨ cap' ≤ 2 * k) := by
  obtain ⟨a1, a2, a3, a4, a5⟩ := id B
  have r0 : gfr 27 0 (some u) h = some (some ua) := gfr_at (x := some ua) a4 rfl
  have r1 : gfi 27 1 (some u) h = some 0 := gfi_at a4 rfl
  have rc : rcv 27 (some u) h = some () := rcv_at a4
  have rl : aln 2 (some ua) h = some (I cap) := aln_at a5
  have hsub : (I k - I cap).toInt = (k : Int) - cap := I_sub_toInt (by omega) (by omega)
  by_cases q : k ≤ cap
  · have e : I k - I cap ≤ 0 := by rw [Int32.le_iff_toInt_le, hsub]; show (k : Int) - cap ≤ 0; omega
    refine ⟨h, ua, cap, fb, ?_, B, q, fun j _ => rfl, ⟨by omega, rfl, fun _ _ _ _ => rfl, Or.inl rfl, hua, by omega, by omega⟩, by omega, Or.inl rfl⟩
    simp only [f_J16_ensureCapacityInternal, r0, r1, rl, Option.bind_some, shr0, e, if_true]
  · have e : ¬ I k - I cap ≤ 0 := by rw [Int32.le_iff_toInt_le, hsub]; show ¬ (k : Int) - cap ≤ 0; omega
    -- the new length
    obtain ⟨nc2, hnc, h1, h2, h3, hN2⟩ : ∃ N : Nat, I cap + imax (I k - I cap) (I cap + (2 : Int32) <<< ((0 : Int32) &&& 31)) = I N ∧ N ≤ 2000 ∧ 2 * cap + 2 ≤ N ∧ k ≤ N ∧ N ≤ 2 * k := by
      rw [shl0, show (2 : Int32) = I 2 from rfl, I_add, I_sub (by omega)]
      unfold imax
      by_cases w : k - cap < cap + 2
      · refine ⟨2 * cap + 2, ?_, by omega, by omega, by omega, by omega⟩
        rw [if_pos (by rw [I_lt (by omega) (by omega)]; exact w), I_add]
        exact congrArg I (by omega)
      · refine ⟨k, ?_, by omega, by omega, by omega, by omega⟩
        rw [if_neg (by rw [I_lt (by omega) (by omega)]; exact w), I_add]
        exact congrArg I (by omega)
    have hcap : f_J16_newCapacity (some u) (I k) h = some (I nc2, h) := by
      have w1 : ¬ I nc2 ≤ (0 : Int32) := by rw [show (0 : Int32) = I 0 from rfl, I_le (by omega) (by omega)]; omega
      have w2 : ¬ (2147483639 : Int32) < I nc2 := by rw [show (2147483639 : Int32) = I 2147483639 from rfl, I_lt (by omega) (by omega)]; omega
      have w3 : ¬ I nc2 = (2147483647 : Int32) := by rw [show (2147483647 : Int32) = I 2147483647 from rfl, I_eq (by omega) (by omega)]; omega
      simp only [f_J16_newCapacity, r0, r1, rl, Option.bind_some, shl0 (I k), f_J8_newLength, hnc, w1, w2, w3, if_false, shr0]
    have hne : ¬ I nc2 = I cap := by rw [I_eq (by omega) (by omega)]; omega
    have hle : I cap ≤ I nc2 := by rw [I_le (by omega) (by omega)]; omega
    have hcp : f_J18_copyOf_3 (some ua) (I nc2) h = some (some (hn h), hset (hnew h (nar 2 nc2 (fun _ => 0)) nc2) (hn h) (nar 2 nc2 (va_cpy fb (fun _ => 0) 0 0 cap))) := by
      have e1 : aln 2 (some ua) (hnew h (nar 2 nc2 (fun _ => 0)) nc2) = some (I cap) := aln_at ((hnew_ne (by omega)).trans a5)
      have e2 : imin (I cap) (I nc2) = I cap := by
        unfold imin; rw [if_neg (by rw [I_lt (by omega) (by omega)]; omega)]
      have e3 := aci_at (t := 2) (src := some ua) (h := hnew h (nar 2 nc2 (fun _ => 0)) nc2) (a := hn h) (k := cap) (ar_at ((hnew_ne (by omega)).trans a5)) hnew_at (Nat.le_refl _) (by omega) (by omega) (fun j _ => fits2 (a3.2 j))
      simp only [f_J18_copyOf_3, rl, Option.bind_some, hne, if_false, nwi_at (show nc2 ≤ 100000 by omega), e1, e2]
      rw [show (0 : Int32) = I 0 from rfl] at *
      rw [e3]; rfl
    generalize hg1 : hset (hnew h (nar 2 nc2 (fun _ => 0)) nc2) (hn h) (nar 2 nc2 (va_cpy fb (fun _ => 0) 0 0 cap)) = hh at hcp
    have u1 : hh.1 u = some (.inr (27, [.ref ua, .int 0, .int z, .int (I n)])) := by rw [← hg1, hset_ne (by omega), hnew_ne (by omega)]; exact a4
    have e4 : pf 27 0 (some u) (.ref (hn h)) hh = some (hset hh u (.inr (27, [.ref (hn h), .int 0, .int z, .int (I n)]))) := pf_at u1 (by simp)
    refine ⟨hset hh u (.inr (27, [.ref (hn h), .int 0, .int z, .int (I n)])), hn h, nc2, va_cpy fb (fun _ => 0) 0 0 cap, ?_, ⟨by omega, h1, ⟨a3.1, fun j => ?_⟩, hset_at, ?_⟩, h3, fun j hj => by rw [cpy_cut, cut_lt hj], ⟨?_, ?_, fun a q1 q2 q3 => ?_, Or.inr (Nat.le_refl _), ?_, ?_, ?_⟩, by omega, Or.inr hN2⟩
    · simp only [f_J16_ensureCapacityInternal, r0, r1, rl, Option.bind_some, shr0, e, if_false, rc, hcap, shl0, hcp, va_rf, e4]
    · rw [cpy_cut]; unfold cut; split
      · exact a3.2 j
      · decide
    · rw [hset_ne (by omega), ← hg1]; exact hset_at
    · rw [← hg1]; show hn h ≤ hn h + 1; omega
    · rw [← hg1]; rfl
    · rw [hset_ne q1, ← hg1, hset_ne (by omega), hnew_ne (by omega)]
    · rw [← hg1]; show hn h < hn h + 1; omega
    · rw [← hg1]; show hn h + 1 + cap ≤ _; omega
    · rw [← hg1]; show hs h + nc2 + 2 * cap ≤ _; omega
theorem bu_lat {n : Nat} (B : BuX h u ua cap fb z n) : f_J16_isLatin1 (some u) h = some (I 1, h) := by
  have r1 : gfi 27 1 (some u) h = some 0 := gfi_at B.2.2.2.1 rfl
  unfold f_J16_isLatin1
  rw [if_neg (by decide), r1, Option.bind_some, if_pos rfl]
  rfl
/-- one char more -/
theorem bu_putc {c : Nat} (B : BuX h u ua cap fb z n) (hn' : n < 900) (hc : c ≤ 255) (hu : u < hn h) (hua : ua < hn h) : ∃ h' ua' cap' fb', f_J17_append (some u) (I c) h = some (some u, h') ∧ BuX h' u ua' cap' fb' z (n + 1) ∧ (∀ j, j < n → fb' j = fb j) ∧ fb' n = (I c).toInt8.toInt32 ∧ Bf h h' u ua cap ua' cap' ∧ (cap' = cap ∨ cap' ≤ 2 * (n + 1)) := by
  have rc : rcv 27 (some u) h = some () := rcv_at B.2.2.2.1
  have r3 : gfi 27 3 (some u) h = some (I n) := gfi_at B.2.2.2.1 rfl
  obtain ⟨h1, ua1, cap1, fb1, e1, B1, k1, k2, F, k3⟩ := bu_ensure (k := n + 1) B (by omega) hu hua
  obtain ⟨b1, b2, b3, b4, b5⟩ := id B1
  have rc1 : rcv 27 (some u) h1 = some () := rcv_at b4
  have s0 : gfr 27 0 (some u) h1 = some (some ua1) := gfr_at (x := some ua1) b4 rfl
  have s3 : gfi 27 3 (some u) h1 = some (I n) := gfi_at b4 rfl
  have e2 : pf 27 3 (some u) (.int (I (n + 1))) h1 = some (hset h1 u (.inr (27, [.ref ua1, .int 0, .int z, .int (I (n + 1))]))) := pf_at b4 (by simp)
  have hne := B1.ne
  have e3 := asi_at (h := hset h1 u (.inr (27, [.ref ua1, .int 0, .int z, .int (I (n + 1))]))) (x := (I c).toInt8.toInt32) ((hset_ne hne.symm).trans b5) (show n < cap1 by omega) (by omega)
  have ec : f_J6_canEncode (I c) h1 = some (I 1, h1) := by
    unfold f_J6_canEncode
    rw [show (255 : Int32) = I 255 from rfl, if_neg (by rw [I_lt (by omega) (by omega)]; omega)]
    rfl
  have hby : (I c).toInt8.toInt32.toInt8.toInt32 = (I c).toInt8.toInt32 := by rw [Int8.toInt8_toInt32]
  refine ⟨_, ua1, cap1, upd fb1 n (I c).toInt8.toInt32, ?_, ⟨by omega, b2, ⟨b3.1, fun j => ?_⟩, (hset_ne hne).trans hset_at, hset_at⟩, fun j hj => ?_, ?_, Bf.trans F ⟨Nat.le_refl _, rfl, fun a q1 q2 q3 => ?_, Or.inl rfl, F.2.2.2.2.1, Nat.le_refl _, Nat.le_refl _⟩, k3.2⟩
  · have key : f_J16_append (some u) (I c) h = some (some u, hset (hset h1 u (.inr (27, [.ref ua1, .int 0, .int z, .int (I (n + 1))]))) ua1 (nar 2 cap1 (upd fb1 n (I c).toInt8.toInt32))) := by
      unfold f_J16_append
      rw [r3, Option.bind_some, rc, Option.bind_some, show I n + 1 = I (n + 1) from I_add n 1, e1, Option.bind_some, rc1, Option.bind_some, bu_lat B1, Option.bind_some, if_neg (show ¬ I 1 = 0 by decide), ec, Option.bind_some, if_neg (show ¬ I 1 = 0 by decide), s0, Option.bind_some, s3, Option.bind_some, show I n + 1 = I (n + 1) from I_add n 1, e2, Option.bind_some, hby, e3, Option.bind_some]
    unfold f_J17_append
    rw [rc, Option.bind_some, key, Option.bind_some]
  · unfold upd; split
    · exact byteOk _
    · exact b3.2 j
  · simp only [upd]; rw [if_neg (by omega)]; exact k2 j (by have := B.1; omega)
  · simp [upd]
  · rw [hset_ne q2, hset_ne q1]
theorem bu_len (B : BuX h u ua cap fb z n) : f_J17_length (some u) h = some (I n, h) := by
  have rc : rcv 27 (some u) h = some () := rcv_at B.2.2.2.1
  have r3 : gfi 27 3 (some u) h = some (I n) := gfi_at B.2.2.2.1 rfl
  simp only [f_J17_length, f_J16_length, rc, r3, Option.bind_some]
/-- emptied -/
theorem bu_clear (B : BuX h u ua cap fb z n) (hn' : n ≤ 900) (hu : u < hn h) (hua : ua < hn h) : ∃ h' z', f_J17_setLength (some u) 0 h = some h' ∧ BuX h' u ua cap fb z' 0 ∧ Bf h h' u ua cap ua cap ∧ hn h' = hn h ∧ hs h' = hs h := by
  have rc : rcv 27 (some u) h = some () := rcv_at B.2.2.2.1
  obtain ⟨b1, b2, b3, b4, b5⟩ := id B
  have hne := B.ne
  have r3 : gfi 27 3 (some u) h = some (I n) := gfi_at b4 rfl
  have e0 : f_J16_ensureCapacityInternal (some u) 0 h = some h := by
    have r0 : gfr 27 0 (some u) h = some (some ua) := gfr_at (x := some ua) b4 rfl
    have r1 : gfi 27 1 (some u) h = some 0 := gfi_at b4 rfl
    have rl : aln 2 (some ua) h = some (I cap) := aln_at b5
    have e : (0 : Int32) - I cap ≤ 0 := by
      have hsub : (I 0 - I cap).toInt = ((0 : Nat) : Int) - cap := I_sub_toInt (by omega) (by omega)
      rw [show (0 : Int32) = I 0 from rfl, Int32.le_iff_toInt_le, hsub]; show ((0 : Nat) : Int) - cap ≤ 0; omega
    simp only [f_J16_ensureCapacityInternal, r0, r1, rl, Option.bind_some, shr0, e, if_true]
  have h0n : (0 : Int32) ≤ I n := by rw [show (0 : Int32) = I 0 from rfl, I_le (by omega) (by omega)]; omega
  have fin : ∀ z', (z' = 0 ∨ z' = 1) → BuX (hset h u (.inr (27, [.ref ua, .int 0, .int z', .int (I 0)]))) u ua cap fb z' 0 ∧ Bf h (hset h u (.inr (27, [.ref ua, .int 0, .int z', .int (I 0)]))) u ua cap ua cap := fun z' hz =>
    ⟨⟨by omega, b2, ⟨hz, b3.2⟩, hset_at, (hset_ne hne.symm).trans b5⟩, ⟨Nat.le_refl _, rfl, fun a q1 q2 q3 => hset_ne q1, Or.inl rfl, hua, Nat.le_refl _, Nat.le_refl _⟩⟩
  by_cases q : n = 0
  · subst q
    have e2 : pf 27 3 (some u) (.int 0) h = some (hset h u (.inr (27, [.ref ua, .int 0, .int z, .int (I 0)]))) := pf_at b4 (by simp)
    refine ⟨_, z, ?_, (fin z b3.1).1, (fin z b3.1).2, rfl, rfl⟩
    unfold f_J17_setLength f_J16_setLength
    rw [rc, Option.bind_some, if_pos (by decide), Option.bind_some, e0, Option.bind_some, r3, Option.bind_some, if_pos h0n, Option.bind_some, if_pos (by decide)]
    unfold f_J16_setLength_B76
    rw [e2, Option.bind_some, Option.bind_some]
  · have e1 : pf 27 2 (some u) (.int 1) h = some (hset h u (.inr (27, [.ref ua, .int 0, .int 1, .int (I n)]))) := pf_at b4 (by simp)
    have e2 : pf 27 3 (some u) (.int 0) (hset h u (.inr (27, [.ref ua, .int 0, .int 1, .int (I n)]))) = some (hset h u (.inr (27, [.ref ua, .int 0, .int 1, .int (I 0)]))) := by
      rw [pf_at hset_at (by simp), hset_hset]; rfl
    refine ⟨_, 1, ?_, (fin 1 (Or.inr rfl)).1, (fin 1 (Or.inr rfl)).2, rfl, rfl⟩
    unfold f_J17_setLength f_J16_setLength
    rw [rc, Option.bind_some, if_pos (by decide), Option.bind_some, e0, Option.bind_some, r3, Option.bind_some, if_pos h0n, Option.bind_some, if_neg (by rw [show (0 : Int32) = I 0 from rfl, I_le (by omega) (by omega)]; omega), show gb 1 = some () from rfl, Option.bind_some, e1, Option.bind_some]
    unfold f_J16_setLength_B76
    rw [e2, Option.bind_some, Option.bind_some]
end B9h
