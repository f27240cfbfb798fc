/-! PLAIN LAW: the class: the text -/
set_option maxRecDepth 100000
theorem bitZF : I (bit (false = true)) = 0 := by simp [bit]; rfl
theorem bitZT : I (bit (true = true)) = 1 := by simp [bit]; rfl
theorem chI : ∀ c : Nat, c < 256 → ((I c).toUInt32 % 65536).toInt32 = I c := by decide +kernel
section OP9i
variable {m x : Nat} {h : PH} {g : GS}
theorem CI.bld (C : CI m h x g) : ∃ u ua cap fb z, gfr 0 2 (some x) h = some (some u) ∧ BuX h u ua cap fb z g.2.2.1 ∧ (∀ j, j < g.2.2.1 → fb j = (I (g.2.2.2 j)).toInt8.toInt32) ∧ u < hn h ∧ ua < hn h ∧
    ∀ (h' : PH) (ua' cap' : Nat) (fb' : Nat → Int32) (z' : Int32) (n' : Nat) (tx' : Nat → Nat), BuX h' u ua' cap' fb' z' n' → (∀ j, j < n' → fb' j = (I (tx' j)).toInt8.toInt32) → Bf h h' u ua cap ua' cap' → CI m h' x (g.1, g.2.1, n', tx') ∧ gfr 0 2 (some x) h' = some (some u) ∧ Keep h h' := by
  obtain ⟨st, d, da, u, ua, v, ra, ru, la, ⟨c1, ⟨hd, fe, b1, b2, b3, b4, b5⟩, c3, ⟨cap, fb, z, u1, u2, u3, u4, u5, u6⟩, c5, c6, o1, o2, o3, o4, o5, o6, o7⟩, S⟩ := id C
  refine ⟨u, ua, cap, fb, z, gfr_at (x := some u) c1 rfl, ⟨u1, u2, u3, u4, u5⟩, u6, o4.1, o5.1, fun h' ua' cap' fb' z' n' tx' B hf F => ?_⟩
  obtain ⟨f1, f2, f3, f4, f5, f6, f7⟩ := F
  obtain ⟨g1, g2, g3, g4, g5⟩ := B
  have nx : ∀ a c, h.1 a = some c → ki c ≠ 27 → ki c ≠ 1002 → a ≠ u ∧ a ≠ ua := fun a c hc q1 q2 =>
    ⟨fun e => by subst e; rw [u4] at hc; cases hc; exact q1 rfl, fun e => by subst e; rw [u5] at hc; cases hc; exact q2 rfl⟩
  have K : Keep h h' := by
    refine ⟨f1, f2, fun a ha => ?_⟩
    by_cases q : a = u
    · subst q
      exact ⟨fun c hc hz => (frz_ne hz).2.2.2.1 (by rw [u4] at hc; cases hc; rfl) |>.elim, fun hc => by rw [u4] at hc; cases hc⟩
    · by_cases q2 : a = ua
      · subst q2
        exact ⟨fun c hc hz => (frz_ne hz).2.2.2.2.1 (by rw [u5] at hc; cases hc; rfl) |>.elim, fun hc => by rw [u5] at hc; cases hc⟩
      · rw [f3 a q q2 ha]; exact ⟨fun c hc _ => hc, fun hc => hc⟩
  have LS : Las m h h' := Las.keep K
  have ex : h'.1 x = h.1 x := by
    obtain ⟨q1, q2⟩ := nx x _ c1 (by simp [ki, eso]) (by simp [ki, eso]); exact f3 _ q1 q2 o1.1
  have ed : h'.1 d = h.1 d := by
    obtain ⟨q1, q2⟩ := nx d _ b3 (by simp [ki]) (by simp [ki]); exact f3 _ q1 q2 o2.1
  have eda : h'.1 da = h.1 da := by
    obtain ⟨q1, q2⟩ := nx da _ b4 (by simp [ki]) (by simp [ki]); exact f3 _ q1 q2 o3.1
  have ev : ∃ q, h'.1 v = some (svo ra q) := by
    obtain ⟨⟨q, hq⟩, -⟩ := c5
    obtain ⟨q1, q2⟩ := nx v _ hq (by simp [ki, svo]) (by simp [ki, svo]); exact ⟨q, (f3 _ q1 q2 o6.1).trans hq⟩
  refine ⟨⟨st, d, da, u, ua', v, ra, ru, la, ⟨ex.trans c1, ⟨hd, fe, b1, b2, ed.trans b3, eda.trans b4, b5⟩, c3.las LS, ⟨cap', fb', z', g1, g2, g3, g4, g5, hf⟩, VR_las c5 c6 LS ev, ⟨(LS _ c6.1).1, fun k hk => (LS _ (c6.2 k hk)).1⟩, o1.le f1, o2.le f1, o3.le f1, o4.le f1, ?_, o6.le f1, by omega⟩, S.las LS⟩, gfr_at (x := some u) (ex.trans c1) rfl, K⟩
  refine ⟨f5, ?_⟩
  rcases f4 with e | e
  · rw [e]; exact o5.2
  · right; omega
theorem c_append {y : Int32} (C : CI m h x g) (hG : GInv g) : Res m x h (o_append g y) (f_X0_append (some x) y h) := by
  obtain ⟨u, ua, cap, fb, z, r2, B, hf, hu, hua, key⟩ := CI.bld C
  have hlen : g.2.2.1 ≤ 140 := hG.2.2.1
  have rc : rcv 27 (some u) h = some () := rcv_at B.2.2.2.1
  have hib : f_X0_isBetween y 1 255 h = some (I (bit (bt y 1 255 = true)), h) := betZ (a := 1) (b := 255)
  unfold o_append
  cases h1 : bt y 1 255 with
  | false =>
    rw [h1, bitZF] at hib
    refine Res.same C ?_ rfl
    simp only [Bool.false_eq_true, if_false]
    unfold f_X0_append
    rw [hib, Option.bind_some, if_pos (show (0 : Int32) = 0 from rfl)]
  | true =>
    rw [h1, bitZT] at hib
    obtain ⟨e1, -, e3⟩ := bt_na (by decide) (by decide) h1
    simp only [if_true]
    generalize na y = c at *
    subst e1
    have hl0 := bu_len B
    by_cases q : g.2.2.1 = 140
    · rw [if_pos q]
      rw [q] at hl0
      refine Res.same C ?_ rfl
      unfold f_X0_append
      rw [hib, Option.bind_some, if_neg (show ¬ (1 : Int32) = 0 by decide), r2, Option.bind_some, rc, Option.bind_some, hl0, Option.bind_some, if_pos (show I 140 = (140 : Int32) from rfl)]
    · rw [if_neg q]
      obtain ⟨h', ua', cap', fb', p1, p2, p3, p4, p5, -⟩ := bu_putc (c := c) B (by omega) e3 hu hua
      obtain ⟨k1, k2, k3⟩ := key h' ua' cap' fb' z (g.2.2.1 + 1) (nup g.2.2.2 g.2.2.1 c) p2 (fun j hj => by
        by_cases w : j = g.2.2.1
        · subst w; rw [p4]; simp [nup]
        · rw [p3 j (by omega), nup_ne w]; exact hf j (by omega)) p5
      have hch : ((I c).toUInt32 % 65536).toInt32 = I c := chI c (by omega)
      have hl1 := bu_len p2
      have rc1 : rcv 27 (some u) h' = some () := rcv_at p2.2.2.2.1
      have g1 := p5.2.2.2.2.2
      have g2 := p2.2.1
      have g3 := B.2.1
      refine ⟨h', ?_, k1, k3, by omega, by omega⟩
      unfold f_X0_append
      rw [hib, Option.bind_some, if_neg (show ¬ (1 : Int32) = 0 by decide), r2, Option.bind_some, rc, Option.bind_some, hl0, Option.bind_some, if_neg (by rw [show (140 : Int32) = I 140 from rfl, I_eq (by omega) (by omega)]; exact q)]
      simp only [r2, rc, hch, p1, k2, rc1, hl1, Option.bind_some]
theorem c_clearText (C : CI m h x g) (hG : GInv g) : Res m x h (o_clearText g) (f_X0_clearText (some x) h) := by
  obtain ⟨u, ua, cap, fb, z, r2, B, hf, hu, hua, key⟩ := CI.bld C
  have hlen : g.2.2.1 ≤ 140 := hG.2.2.1
  have rc : rcv 27 (some u) h = some () := rcv_at B.2.2.2.1
  have hl0 := bu_len B
  obtain ⟨h', z', p1, p2, p3, p4, p5⟩ := bu_clear B (by omega) hu hua
  obtain ⟨k1, k2, k3⟩ := key h' ua cap fb z' 0 g.2.2.2 p2 (fun j hj => absurd hj (by omega)) p3
  unfold o_clearText
  refine ⟨h', ?_, k1, k3, by omega, by omega⟩
  unfold f_X0_clearText
  rw [r2, Option.bind_some, rc, Option.bind_some, hl0, Option.bind_some, r2, Option.bind_some, rc, Option.bind_some, p1, Option.bind_some]
end OP9i
