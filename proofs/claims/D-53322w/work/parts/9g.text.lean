/-! PLAIN LAW: the class: undo, the text -/
set_option maxRecDepth 100000
theorem StC.row {m : Nat} {h : PH} {st : Nat} {s t : Nat → Nat} (S : StC m h st s) (hE : EqN 356 t s) (hI : RInv s) : StC m h st t := by
  obtain ⟨sh, sl, fs, a1, a2, a3, a4, a5, a6⟩ := S
  refine ⟨sh, sl, fs, a1, a2, a3.row (fun k hk => hE k (by omega)) hI.1.1.1, fun q hq => ?_, a5, a6⟩
  have e : t (118 + 119 * q) = s (118 + 119 * q) := hE _ (by omega)
  have h1 := a4 q hq
  rw [e]
  refine ⟨h1.1, fun z => ?_⟩
  obtain ⟨a, b1, b2⟩ := h1.2 z
  have := hI.2 q hq
  exact ⟨a, b1, b2.row (fun k hk => hE _ (by omega)) (this.2 (by omega)).1.1⟩
theorem dq_dec {i : Nat} {h : PH} (hi : i < 17) : f_J15_dec (I i) (I 17) h = some (I ((i + 16) % 17), h) := by
  unfold f_J15_dec
  have e0 : I i + (-1) = I i - I 1 := by rw [Int32.sub_eq_add_neg]; rfl
  rw [e0]
  have e := I_sub_toInt (a := i) (b := 1) (by omega) (by decide)
  by_cases q : i = 0
  · subst q
    rw [if_neg (by rw [Int32.le_iff_toInt_le, e]; decide)]
    rfl
  · rw [if_pos (by rw [Int32.le_iff_toInt_le, e]; show (0 : Int) ≤ _; omega), I_sub (by omega)]
    have : i - 1 = (i + 16) % 17 := by omega
    rw [this]
theorem dq_pop {d da tl k a : Nat} {h h1 h2 : PH} (drc : rcv 26 (some d) h = some ()) (d0 : gfr 26 0 (some d) h = some (some da)) (d2 : gfi 26 2 (some d) h = some (I tl)) (dl : aln 6 (some da) h = some (I 17)) (ht : tl < 17) (hk : (tl + 16) % 17 = k) (e1 : alr 6 (some da) (I k) h = some (some a)) (e2 : pf 26 2 (some d) (.int (I k)) h = some h1) (e3 : asr 6 (some da) (I k) none h1 = some h2) : f_J15_removeLast (some d) h = some (some a, h2) := by
  subst hk
  have p : f_J15_pollLast (some d) h = some (some a, h2) := by
    unfold f_J15_pollLast
    rw [d0, Option.bind_some, d2, Option.bind_some, dl, Option.bind_some, dq_dec ht, Option.bind_some]
    have q : f_J15_elementAt (some da) (I ((tl + 16) % 17)) h = some (some a, h) := by
      unfold f_J15_elementAt; rw [e1]; rfl
    rw [q, Option.bind_some, if_neg (by simp), e2, Option.bind_some, e3, Option.bind_some]
  unfold f_J15_removeLast
  rw [drc, Option.bind_some, p, Option.bind_some, if_neg (by simp)]
section OP9g
variable {m x : Nat} {h : PH} {g : GS}
theorem c_undo (C : CI m h x g) (hG : GInv g) : Res m x h (o_undo g) (f_X0_undo (some x) h) := by
  obtain ⟨st, d, da, u, ua, v, ra, ru, la, CM0, S⟩ := id C
  obtain ⟨c1, ⟨hd, fe, b1, b2, b3, b4, b5⟩, c3, c4, c5, c6, o1, o2, o3, o4, o5, o6, o7⟩ := id CM0
  have hlen := c3.1
  have x1 : gfr 0 1 (some x) h = some (some d) := gfr_at (x := some d) c1 rfl
  have d0 : gfr 26 0 (some d) h = some (some da) := gfr_at (x := some da) b3 rfl
  have d1 : gfi 26 1 (some d) h = some (I hd) := gfi_at b3 rfl
  have d2 : gfi 26 2 (some d) h = some (I ((hd + la.length) % 17)) := gfi_at b3 rfl
  have drc : rcv 26 (some d) h = some () := rcv_at b3
  have hm : (hd + la.length) % 17 < 17 := Nat.mod_lt _ (by decide)
  unfold o_undo
  cases hl : g.2.1.getLast? with
  | none =>
    have hnil : g.2.1 = [] := List.getLast?_eq_none_iff.mp hl
    have h0 : la.length = 0 := by rw [hlen, hnil]; rfl
    have e : (hd + la.length) % 17 = hd := by rw [h0]; omega
    rw [e] at d2
    refine Res.same C ?_ rfl
    simp (disch := first | omega | assumption) only [f_X0_undo, f_J15_isEmpty, x1, drc, d1, d2, Option.bind_some, lit_I, if_true, I_10, if_false]
  | some r =>
    have hne : g.2.1 ≠ [] := fun z => by rw [z] at hl; cases hl
    have hpos : 0 < g.2.1.length := List.length_pos_iff.mpr hne
    have hr : g.2.1[g.2.1.length - 1]? = some r := by rw [← hl, List.getLast?_eq_getElem?]
    obtain ⟨a, ha⟩ : ∃ a, la[la.length - 1]? = some a := ⟨_, List.getElem?_eq_getElem (by omega)⟩
    have hSt : StC m h a r := c3.2 (la.length - 1) a r ha (by rw [hlen]; exact hr)
    have hfe := b5 _ _ ha
    have hk : ((hd + la.length) % 17 + 16) % 17 = (hd + (la.length - 1)) % 17 := by omega
    have hm2 : (hd + (la.length - 1)) % 17 < 17 := Nat.mod_lt _ (by decide)
    have e1 : alr 6 (some da) (I ((hd + (la.length - 1)) % 17)) h = some (some a) := by rw [alr_at b4 hm2 (by decide), hfe]
    have hxd : x ≠ d := by intro e; subst e; rw [c1] at b3; cases b3
    have hxa : x ≠ da := by intro e; subst e; rw [c1] at b4; cases b4
    have hda : d ≠ da := by intro e; subst e; rw [b3] at b4; cases b4
    have dl : aln 6 (some da) h = some (I 17) := aln_at b4
    have e2 : pf 26 2 (some d) (.int (I ((hd + (la.length - 1)) % 17))) h = some (hset h d (.inr (26, [.ref da, .int (I hd), .int (I ((hd + (la.length - 1)) % 17))]))) := pf_at b3 (by simp)
    have e3 : asr 6 (some da) (I ((hd + (la.length - 1)) % 17)) none (hset h d (.inr (26, [.ref da, .int (I hd), .int (I ((hd + (la.length - 1)) % 17))]))) = some (hset (hset h d (.inr (26, [.ref da, .int (I hd), .int (I ((hd + (la.length - 1)) % 17))]))) da (rar 6 17 (va_up fe ((hd + (la.length - 1)) % 17) none))) := asr_at ((hset_ne (Ne.symm hda)).trans b4) hm2 (by decide) rfl
    generalize hg2 : hset (hset h d (.inr (26, [.ref da, .int (I hd), .int (I ((hd + (la.length - 1)) % 17))]))) da (rar 6 17 (va_up fe ((hd + (la.length - 1)) % 17) none)) = h2 at e3
    have x2 : h2.1 x = some (eso st d u v) := by rw [← hg2]; exact (hset_ne hxa).trans ((hset_ne hxd).trans c1)
    have e4 : pf 0 0 (some x) (.ref a) h2 = some (hset h2 x (eso a d u v)) := pf_at x2 (by simp)
    generalize hg3 : hset h2 x (eso a d u v) = h3 at e4
    obtain ⟨oa, hoa⟩ := hSt.one
    have h3x : h3.1 x = some (eso a d u v) := by rw [← hg3]; exact hset_at
    have h3d : h3.1 d = some (.inr (26, [.ref da, .int (I hd), .int (I ((hd + (la.length - 1)) % 17))])) := by rw [← hg3, hset_ne (Ne.symm hxd), ← hg2, hset_ne hda]; exact hset_at
    have h3da : h3.1 da = some (rar 6 17 (va_up fe ((hd + (la.length - 1)) % 17) none)) := by rw [← hg3, hset_ne (Ne.symm hxa), ← hg2]; exact hset_at
    have hu : ∀ a (c : PC), h.1 a = some c → ki c ≠ 0 → ki c ≠ 26 → ki c ≠ 1006 → h3.1 a = h.1 a := fun a c q1 q2 q3 q4 => by
      rw [← hg3, hset_ne (fun e => by subst e; rw [c1] at q1; cases q1; exact q2 rfl), ← hg2, hset_ne (fun e => by subst e; rw [b4] at q1; cases q1; exact q4 rfl), hset_ne (fun e => by subst e; rw [b3] at q1; cases q1; exact q3 rfl)]
    have hn3 : hn h3 = hn h := by rw [← hg3, ← hg2]; rfl
    have hs3 : hs h3 = hs h := by rw [← hg3, ← hg2]; rfl
    have K3 : Keep h h3 := by
      rw [← hg3, ← hg2]
      exact ((((Keep.refl h).set (Or.inr ⟨_, b3, rfl⟩)).set (Or.inr ⟨_, b4, rfl⟩)).set (Or.inr ⟨_, c1, rfl⟩))
    have LS : Las m h h3 := Las.keep K3
    refine ⟨h3, ?_, ⟨a, d, da, u, ua, v, ra, ru, la.dropLast, ⟨h3x, ⟨hd, _, b1, by simp; omega, ?_, h3da, fun i a' hi => ?_⟩, ⟨by simp [hlen], fun i a' t h1 h2 => ?_⟩, ?_, VR_las c5 c6 LS ?_, ⟨(LS _ c6.1).1, fun k hk => (LS _ (c6.2 k hk)).1⟩, by unfold Ou at *; omega, by unfold Ou at *; omega, by unfold Ou at *; omega, by unfold Ou at *; omega, by unfold Ou at *; omega, by unfold Ou at *; omega, by omega⟩, ?_⟩, K3, by omega, by omega⟩
    · have r1' : gfr 0 1 (some x) h3 = some (some d) := gfr_at (x := some d) h3x rfl
      have r2' : rcv 26 (some d) h3 = some () := rcv_at h3d
      have r3 : gfr 26 0 (some d) h3 = some (some da) := gfr_at (x := some da) h3d rfl
      have r4 : gfi 26 1 (some d) h3 = some (I hd) := gfi_at h3d rfl
      have r5 : gfi 26 2 (some d) h3 = some (I ((hd + (la.length - 1)) % 17)) := gfi_at h3d rfl
      have r6 : aln 6 (some da) h3 = some (I 17) := aln_at h3da
      have hsz : f_J15_size (some d) h3 = some (I (la.length - 1), h3) := by
        simp only [f_J15_size, r3, r4, r5, r6, Option.bind_some, dq_sub b1 (show la.length - 1 < 17 by omega)]
      have hemp : f_J15_isEmpty (some d) h = some (I 0, h) := by
        have : ¬ I hd = I ((hd + la.length) % 17) := by rw [I_eq (by omega) (by omega)]; omega
        simp only [f_J15_isEmpty, d1, d2, Option.bind_some, this, if_false]; rfl
      have hrem : f_J15_removeLast (some d) h = some (some a, h2) := by
        exact dq_pop drc d0 d2 dl hm hk e1 e2 e3
      have hchk : chk 1 (some a) h2 = some () := by
        unfold chk
        rw [if_pos (Or.inr _)]
        have had : a ≠ d := by intro e; subst e; rw [hoa] at b3; cases b3
        have haa : a ≠ da := by intro e; subst e; rw [hoa] at b4; cases b4
        exact clo_at (by rw [← hg2]; exact (hset_ne haa).trans ((hset_ne had).trans hoa))
      simp only [f_X0_undo, x1, drc, Option.bind_some, hemp, lit_I, if_true, hrem, hchk, va_rf, e4, r1', r2', hsz]
      rw [hlen]
    · rw [h3d]; simp
    · rw [List.getElem?_dropLast] at hi
      split at hi
      · rename_i h4
        rw [va_up_ne _ _ (by omega)]
        exact b5 i a' hi
      · cases hi
    · rw [List.getElem?_dropLast] at h1 h2
      split at h1
      · split at h2
        · exact (c3.2 i a' t h1 h2).las LS
        · cases h2
      · cases h1
    · obtain ⟨cap, fb, z, u1, u2, u3, u4, u5, u6⟩ := c4
      exact ⟨cap, fb, z, u1, u2, u3, (hu _ _ u4 (by simp [ki]) (by simp [ki]) (by simp [ki])).trans u4, (hu _ _ u5 (by simp [ki]) (by simp [ki]) (by simp [ki])).trans u5, u6⟩
    · obtain ⟨⟨q, hq⟩, -⟩ := c5
      exact ⟨q, (hu _ _ hq (by simp [ki, svo]) (by simp [ki, svo]) (by simp [ki, svo])).trans hq⟩
    · refine (hSt.las LS).row (fun k hk => ?_) (hG.2.1 r (List.mem_of_getElem? hr))
      show (if k < 356 then r k else g.1 k) = r k
      rw [if_pos hk]
end OP9g
