/-! PLAIN LAW: the class: what a look may change -/
set_option maxRecDepth 100000
/-- all old cells are as they were, but the numbers of solvers -/
def Fr (h h' : PH) : Prop := hn h ≤ hn h' ∧ hg h' = hg h ∧ (∀ a c, a < hn h → h.1 a = some c → ki c ≠ 5 → h'.1 a = some c) ∧ (∀ a ra q, a < hn h → h.1 a = some (svo ra q) → ∃ q', h'.1 a = some (svo ra q')) ∧ (∀ a, a < hn h → h.1 a = none → h'.1 a = none) ∧ (∀ a c, a < hn h → h.1 a = some c → ∃ c', h'.1 a = some c' ∧ ki c' = ki c)
theorem Fr.refl (h : PH) : Fr h h := ⟨Nat.le_refl _, rfl, fun _ _ _ hc _ => hc, fun _ _ q _ hc => ⟨q, hc⟩, fun _ _ hc => hc, fun _ c _ hc => ⟨c, hc, rfl⟩⟩
theorem Fr.trans {h h1 h2 : PH} (F : Fr h h1) (G : Fr h1 h2) : Fr h h2 := by
  obtain ⟨a1, a2, a3, a4, a5, a6⟩ := F
  obtain ⟨b1, b2, b3, b4, b5, b6⟩ := G
  refine ⟨Nat.le_trans a1 b1, b2.trans a2, fun a c h1 h2 h3 => b3 a c (by omega) (a3 a c h1 h2 h3) h3, fun a ra q h1 h2 => ?_, fun a h1 h2 => b5 a (by omega) (a5 a h1 h2), fun a c h1 h2 => ?_⟩
  · obtain ⟨q', e⟩ := a4 a ra q h1 h2
    exact b4 a ra q' (by omega) e
  · obtain ⟨c', e1, e2⟩ := a6 a c h1 h2
    obtain ⟨c2, e3, e4⟩ := b6 a c' (by omega) e1
    exact ⟨c2, e3, e4.trans e2⟩
theorem Old.fr {h h' : PH} (O : Old h h') : Fr h h' := ⟨O.1, O.2.1, fun a c h1 h2 _ => (O.2.2 a h1).trans h2, fun a ra q h1 h2 => ⟨q, (O.2.2 a h1).trans h2⟩, fun a h1 h2 => (O.2.2 a h1).trans h2, fun a c h1 h2 => ⟨c, (O.2.2 a h1).trans h2, rfl⟩⟩
theorem Fr_sol {h : PH} {v ra : Nat} {q q0 : Int32 × Int32 × Int32 × Int32} (hv : h.1 v = some (svo ra q0)) : Fr h (sol h v ra q) := by
  refine ⟨Nat.le_refl _, rfl, fun a c h1 h2 h3 => ?_, fun a ra' q' h1 h2 => ?_, fun a h1 h2 => ?_, fun a c h1 h2 => ?_⟩
  · rw [show sol h v ra q = hset h v (svo ra q) from rfl, hset_ne (fun e => by subst e; rw [hv] at h2; cases h2; exact h3 rfl)]; exact h2
  · by_cases e : a = v
    · subst e
      rw [hv] at h2
      simp only [svo, Option.some.injEq, Sum.inr.injEq, Prod.mk.injEq, List.cons.injEq, Value.ref.injEq] at h2
      exact ⟨q, by rw [← h2.2.1]; exact hset_at⟩
    · exact ⟨q', (hset_ne e).trans h2⟩
  · exact (hset_ne (fun e => by subst e; rw [hv] at h2; cases h2)).trans h2
  · by_cases e : a = v
    · subst e
      rw [hv] at h2; cases h2
      exact ⟨_, hset_at, rfl⟩
    · exact ⟨c, (hset_ne e).trans h2, rfl⟩
/-- a write behind the start -/
theorem Fr.set {h h' : PH} {a : Nat} {c : PC} (F : Fr h h') (ha : hn h ≤ a) : Fr h (hset h' a c) := by
    obtain ⟨a1, a2, a3, a4, a5, a6⟩ := F
    refine ⟨a1, a2, fun x d h1 h2 h3 => (hset_ne (by omega)).trans (a3 x d h1 h2 h3), fun x ra q h1 h2 => ?_, fun x h1 h2 => (hset_ne (by omega)).trans (a5 x h1 h2), fun x d h1 h2 => ?_⟩
    · obtain ⟨q', e⟩ := a4 x ra q h1 h2
      exact ⟨q', (hset_ne (by omega)).trans e⟩
    · obtain ⟨c', e1, e2⟩ := a6 x d h1 h2
      exact ⟨c', (hset_ne (by omega)).trans e1, e2⟩
theorem Fr.keep {h h' : PH} (F : Fr h h') : Keep h h' := ⟨F.1, F.2.1, fun a ha => ⟨fun c hc hz => F.2.2.1 a c ha hc (frz_ne hz).2.1, F.2.2.2.2.1 a ha⟩⟩
theorem Fr.las {m : Nat} {h h' : PH} (F : Fr h h') : Las m h h' := Las.keep F.keep
theorem CM.fr {m : Nat} {h h' : PH} {x st : Nat} {L : List (Nat → Nat)} {n : Nat} {tx : Nat → Nat} {d da u ua v ra : Nat} {ru : Nat → Nat} {la : List Nat} (C : CM m h x st L n tx d da u ua v ra ru la) (F : Fr h h') : CM m h' x st L n tx d da u ua v ra ru la := by
  obtain ⟨c1, ⟨hd, fe, b1, b2, b3, b4, b5⟩, c3, ⟨cap, fb, z, u1, u2, u3, u4, u5, u6⟩, c5, c6, o1, o2, o3, o4, o5, o6, o7⟩ := C
  have LS := F.las (m := m)
  obtain ⟨⟨q, hq⟩, -⟩ := id c5
  exact ⟨F.2.2.1 _ _ o1.1 c1 (by simp [ki, eso]), ⟨hd, fe, b1, b2, F.2.2.1 _ _ o2.1 b3 (by simp [ki]), F.2.2.1 _ _ o3.1 b4 (by simp [ki]), b5⟩, c3.las LS, ⟨cap, fb, z, u1, u2, u3, F.2.2.1 _ _ o4.1 u4 (by simp [ki]), F.2.2.1 _ _ o5.1 u5 (by simp [ki]), u6⟩, VR_las c5 c6 LS (F.2.2.2.1 _ _ _ o6.1 hq), ⟨(LS _ c6.1).1, fun k hk => (LS _ (c6.2 k hk)).1⟩, o1.le F.1, o2.le F.1, o3.le F.1, o4.le F.1, o5.le F.1, o6.le F.1, Nat.lt_of_lt_of_le o7 F.1⟩
theorem CI.fr {m x : Nat} {h h' : PH} {g : GS} (C : CI m h x g) (F : Fr h h') : CI m h' x g := by
  obtain ⟨st, d, da, u, ua, v, ra, ru, la, CM0, S⟩ := C
  exact ⟨st, d, da, u, ua, v, ra, ru, la, CM0.fr F, S.las F.las⟩
theorem CI.x {m x : Nat} {h : PH} {g : GS} (C : CI m h x g) : x < hn h ∧ m + 11 < hn h := by
  obtain ⟨st, d, da, u, ua, v', ra', ru', la, ⟨-, -, -, -, -, -, o1, -, -, -, -, -, o7⟩, -⟩ := C
  exact ⟨o1.1, o7⟩
theorem Fr.gfr {h h' : PH} {x k : Nat} {y : Option Nat} {fs : List Value} (F : Fr h h') (hx : x < hn h) (hc : h.1 x = some (.inr (0, fs))) : ob 0 (some x) h' = ob 0 (some x) h := by
  have := F.2.2.1 x _ hx hc (by simp [ki])
  rw [ob_at hc, ob_at this]
/-- what is read of a page stays -/
theorem Fr.lk {h h' : PH} {a : Nat} {c : PC} (F : Fr h h') (ha : a < hn h) (hc : h.1 a = some c) (hk : ki c ≠ 5) : lk h' a = lk h a := by
  rw [lk_own hc, lk_own (F.2.2.1 a c ha hc hk)]
section MID9q
variable {m x n0 : Nat} {h : PH} {st sh sl p b co mm : Nat} {ms : Nat → Nat} {f : F4} {fc fw : Nat → Int32} {fs : Nat → Option Nat} {s : Nat → Nat} {L : List (Nat → Nat)} {n : Nat} {tx : Nat → Nat}
theorem tr_fr {h h' : PH} {n0 : Nat} (F : Fr h h') (h0 : n0 ≤ hn h) : Fr (tr n0 h) (tr n0 h') := ⟨Nat.le_refl _, F.2.1, fun a c h1 h2 h3 => F.2.2.1 a c (Nat.lt_of_lt_of_le h1 h0) h2 h3, fun a ra q h1 h2 => F.2.2.2.1 a ra q (Nat.lt_of_lt_of_le h1 h0) h2, fun a h1 h2 => F.2.2.2.2.1 a (Nat.lt_of_lt_of_le h1 h0) h2, fun a c h1 h2 => F.2.2.2.2.2 a c (Nat.lt_of_lt_of_le h1 h0) h2⟩
theorem Mid.fr {h' : PH} (M : Mid m x n0 h st sh sl p b co mm ms f fc fw fs s L n tx) (F : Fr h h') : Mid m x n0 h' st sh sl p b co mm ms f fc fw fs s L n tx := by
  obtain ⟨⟨d, da, u, ua, v, ra, ru, la, C⟩, ⟨⟨x1, x2, x3, ⟨y0, y1, y2, y3, y4⟩, x5, x6⟩, b1, ⟨k1, k2, k3, k4, k5, k6⟩, D⟩, W, R, A, hfc, S, hl⟩ := M
  have LS := F.las (m := m)
  have FT := tr_fr F hl
  have g1 := F.1
  refine ⟨⟨d, da, u, ua, v, ra, ru, la, C.fr FT⟩, ⟨⟨F.2.2.1 _ _ k1 x1 (by simp [ki, sto]), F.2.2.1 _ _ k3 x2 (by simp [ki]), F.2.2.1 _ _ k2 x3 (by simp [ki, sho]), ⟨F.2.2.1 _ _ (by omega) y0 (by simp [ki, pgo]), F.2.2.1 _ _ (by omega) y1 (by simp [ki]), F.2.2.1 _ _ (by omega) y2 (by simp [ki]), F.2.2.1 _ _ (by omega) y3 (by simp [ki]), F.2.2.1 _ _ (by omega) y4 (by simp [ki])⟩, ⟨F.2.2.1 _ _ (by omega) x5.1 (by simp [ki]), F.2.2.1 _ _ k5 x5.2 (by simp [ki])⟩, F.2.2.1 _ _ k6 x6 (by simp [ki])⟩, b1, ⟨by omega, by omega, by omega, by omega, by omega, by omega⟩, D⟩, W, MbR_agree (A.1.lk (LS _ A.1).2) (fun k hk => (A.2 k hk).1.lk (LS _ (A.2 k hk).1).2) R, ⟨(LS _ A.1).1, fun k hk => ⟨(LS _ (A.2 k hk).1).1, (A.2 k hk).2⟩⟩, hfc, S.las FT.las, Nat.le_trans hl F.1⟩
end MID9q
