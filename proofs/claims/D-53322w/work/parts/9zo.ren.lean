/-! PLAIN LAW: the class: renumber: the numbers -/
set_option maxRecDepth 100000
theorem GC.set {h : PH} {ci : Nat → Nat} {nb a : Nat} {d d0 : PC} (G : GC h ci nb) (hc : h.1 a = some d0) : GC (hset h a d) ci nb := by
  obtain ⟨z, f, g1, g2, g3, g4, g5⟩ := G
  refine ⟨z, f, g1, g2, (hset_ne (fun e => by subst e; rw [hc] at g3; cases g3)).trans g3, g4, fun v hv => ?_⟩
  obtain ⟨a1, a2, a3, a4⟩ := g5 v hv
  exact ⟨a1, a2, (hset_ne (fun e => by subst e; rw [hc] at a3; cases a3)).trans a3, a4⟩
theorem GC.mono {h : PH} {ci : Nat → Nat} {nb nb' : Nat} (G : GC h ci nb) (hl : nb ≤ nb') : GC h ci nb' := by
  obtain ⟨z, f, g1, g2, g3, g4, g5⟩ := G
  exact ⟨z, f, g1, by omega, g3, g4, fun v hv => by obtain ⟨a1, a2, a3, a4⟩ := g5 v hv; exact ⟨a1, by omega, a3, a4⟩⟩
theorem MN.set2 {h0 H : PH} {nb t : Nat} {ci M : Nat → Nat} {K : Nat → Prop} {cnt : Nat} {N : Nat → Bool} {a : Nat} {d d0 : PC} (P : MN h0 nb t ci M K cnt N H) (ha : N a = false) (hat : a ≠ t) (hc : h0.1 a = some d0) : MN (hset h0 a d) nb t ci M K cnt N (hset H a d) := by
  obtain ⟨kr, md, vr, R, l, r, p, c, ky, rfl, T, hN, ht, hcc, hv, hR, G⟩ := P
  refine ⟨kr, md, vr, R, l, r, p, c, ky, ?_, T, hN, ht, hcc, hv, hR, G.set hc⟩
  refine Prod.ext ?_ rfl
  funext x
  by_cases e : x = a
  · subst e; rw [hset_at, tt_o ha hat, hset_at]
  · rw [hset_ne e]
    by_cases e' : x = t
    · rw [e', tt_t, tt_t]
    · by_cases hNx : N x = true
      · rw [tt_n hNx e', tt_n hNx e']
      · have h1 : N x = false := by simpa using hNx
        rw [tt_o h1 e', tt_o h1 e', hset_ne e]
/-- how many cells before c have the rank b -/
def cntR (s : Nat → Nat) (c b : Nat) : Nat := sumTo (fun d => if rk s d = b then 1 else 0) c
/-- the page's cell, whatever its members -/
def pgm (p : Nat) (r c : Int32) (om : Option Nat) : PC := .inr (3, [.int r, .int c, .ref (p + 1), .ref (p + 2), .ref (p + 3), .ref (p + 4), va_rf om])
section REN
variable {hs0 : PH} {p : Nat} {ci : Nat → Nat} {s : Nat → Nat} {f1 : Nat → Int32} {om : Option Nat}
/-- on the way: c cells have their numbers -/
def RN (hs0 : PH) (p : Nat) (ci : Nat → Nat) (s : Nat → Nat) (f1 : Nat → Int32) (c : Nat) (H : PH) : Prop :=
  ∃ (h0 : PH) (N : Nat → Bool) (M : Nat → Nat) (K : Nat → Prop), MN h0 (hn hs0) (hn hs0) ci M K (rkTo s c) N H ∧ (∀ k, K k ↔ ∃ d, d < c ∧ s (8 + d) = k) ∧ (∀ d, d < c → M (s (8 + d)) = rk s d) ∧ h0.1 (p + 1) = some (nar 0 25 (fun d => if d < c then I (rk s d) else f1 d)) ∧ h0.1 (hn hs0 + 1) = some (nar 0 25 (fun b => I (cntR s c b))) ∧ (∀ a, a < hn hs0 → a ≠ p + 1 → h0.1 a = hs0.1 a) ∧ N (hn hs0 + 1) = false ∧ (hn hs0 + 2 ≤ hn h0 ∧ hn h0 ≤ hn hs0 + 2 + c) ∧ hs h0 ≤ hs hs0 + 34 + 6 * c ∧ hg h0 = hg hs0
theorem ren_L15 (hp : hs0.1 p = some (pgm p (I (s 0)) (I (s 1)) om)) (hpl : p + 4 < hn hs0) (hP : PG' s) (h128 : ∀ d, d < nc s → s (8 + d) < 128 ∧ f1 d = I (s (8 + d))) :
    ∀ (j c k : Nat) (H : PH), c + j = nc s → j < k → RN hs0 p ci s f1 c H → ∃ H', f_X3_renumber_L15 k (some p) (some (hn hs0)) (some (hn hs0 + 1)) (I c) H = f_X3_renumber_L15 (k - j) (some p) (some (hn hs0)) (some (hn hs0 + 1)) (I (nc s)) H' ∧ RN hs0 p ci s f1 (nc s) H' := by
  have hnc := nc_le hP
  intro j
  induction j with
  | zero => intro c k H hc hk R; exact ⟨H, by rw [show c = nc s by omega]; rfl, by rw [show nc s = c by omega]; exact R⟩
  | succ j ih =>
    intro c k H hc hk R
    obtain ⟨k, rfl⟩ : ∃ k', k = k' + 1 := ⟨k - 1, by omega⟩
    have hcn : c < nc s := by omega
    obtain ⟨h0, N, M, K, P, r1, r2, r3, r4, r5, r6, ⟨r7, r8⟩, r9, r10⟩ := R
    obtain ⟨n1, n2, n3, n4, n5⟩ := P.nn
    obtain ⟨b128, bf1⟩ := h128 c hcn
    have hfs := fst_spec hcn
    have hrkl : rkTo s c ≤ 25 := by have := rkTo_le s c; omega
    have hrk25 : rk s c < 25 := by
      have h3 := rkTo_le s (fst s c)
      unfold rk; omega
    -- the cells that are read
    have hNp : ∀ a, a < hn hs0 → N a = false := fun a ha => by
      cases hh : N a with
      | false => rfl
      | true => have := n4 a hh; omega
    have HA : ∀ {h0 H : PH} {M K cnt N}, MN h0 (hn hs0) (hn hs0) ci M K cnt N H → (∀ n, N n = true → hn hs0 ≤ n ∧ n ≠ hn hs0 + 1) → ∀ a, (a < hn hs0 ∨ a = hn hs0 + 1) → H.1 a = h0.1 a := fun P hN a ha => by
      refine P.old ?_ (by omega)
      rename_i N
      cases hh : N a with
      | false => rfl
      | true => have := hN a hh; omega
    have hN0 : ∀ n, N n = true → hn hs0 ≤ n ∧ n ≠ hn hs0 + 1 := fun n hh => ⟨(n4 n hh).1, fun e => by subst e; rw [r6] at hh; cases hh⟩
    have page : ∀ {h0 H : PH} {M K cnt N}, MN h0 (hn hs0) (hn hs0) ci M K cnt N H → (∀ n, N n = true → hn hs0 ≤ n ∧ n ≠ hn hs0 + 1) → h0.1 p = hs0.1 p → rcv 3 (some p) H = some () ∧ gfr 3 2 (some p) H = some (some (p + 1)) ∧ f_X3_cells (some p) H = some (I (nc s), H) := fun {h0 H M K cnt N} P hN hp0 => by
      have e : H.1 p = some (pgm p (I (s 0)) (I (s 1)) om) := (HA P hN p (Or.inl (by omega))).trans (hp0.trans hp)
      have e0 : gfi 3 0 (some p) H = some (I (s 0)) := gfi_at e rfl
      have e1 : gfi 3 1 (some p) H = some (I (s 1)) := gfi_at e rfl
      refine ⟨rcv_at e, gfr_at (x := some (p + 1)) e rfl, ?_⟩
      unfold f_X3_cells
      rw [e0, Option.bind_some, e1, Option.bind_some, I_mul]
      rfl
    obtain ⟨q1, q2, q3⟩ := page P hN0 (r5 p (by omega) (by omega))
    have eb : ald 0 (some (p + 1)) (I c) H = some (I (s (8 + c))) := by
      rw [ald_at ((HA P hN0 _ (Or.inl (by omega))).trans r3) (by omega) (by decide), if_neg (by omega), bf1]
    have hle : ¬ I (nc s) ≤ I c := by rw [I_le (by omega) (by omega)]; omega
    have hvo := gc_of P.gc b128
    obtain ⟨rc, hsz⟩ := P.rc
    obtain ⟨ge1, ge2⟩ := mn_entry P b128
    -- what B64 does
    have b64 : ∀ (h0 H : PH) (M : Nat → Nat) (K : Nat → Prop) (N : Nat → Bool), MN h0 (hn hs0) (hn hs0) ci M K (rkTo s (c + 1)) N H → (∀ n, N n = true → hn hs0 ≤ n ∧ n ≠ hn hs0 + 1) → (∀ k, K k ↔ ∃ d, d < c + 1 ∧ s (8 + d) = k) → (∀ d, d < c + 1 → M (s (8 + d)) = rk s d) → h0.1 (p + 1) = some (nar 0 25 (fun d => if d < c then I (rk s d) else f1 d)) → h0.1 (hn hs0 + 1) = some (nar 0 25 (fun b => I (cntR s c b))) → (∀ a, a < hn hs0 → a ≠ p + 1 → h0.1 a = hs0.1 a) → (hn hs0 + 2 ≤ hn h0 ∧ hn h0 ≤ hn hs0 + 2 + (c + 1)) → hs h0 ≤ hs hs0 + 34 + 6 * (c + 1) → hg h0 = hg hs0 →
        ∃ H', f_X3_renumber_B64 (f_X3_renumber_L15 k) (some p) (some (hn hs0)) (some (hn hs0 + 1)) (I c) H = f_X3_renumber_L15 k (some p) (some (hn hs0)) (some (hn hs0 + 1)) (I (c + 1)) H' ∧ RN hs0 p ci s f1 (c + 1) H' := by
      intro h0 H M K N P hN r1 r2 r3 r4 r5 r7 r9 r10
      obtain ⟨-, q2, -⟩ := page P hN (r5 p (by omega) (by omega))
      have eb : ald 0 (some (p + 1)) (I c) H = some (I (s (8 + c))) := by
        rw [ald_at ((HA P hN _ (Or.inl (by omega))).trans r3) (by omega) (by decide), if_neg (by omega), bf1]
      have hvo := gc_of P.gc b128
      obtain ⟨rc, hsz⟩ := P.rc
      obtain ⟨nd, g1, g2⟩ := (mn_entry P b128).1 ((r1 _).mpr ⟨c, by omega, rfl⟩)
      rw [r2 c (by omega)] at g2
      have hget : f_J1_get (some (hn hs0)) (some (ci (s (8 + c)))) H = some (some (ci (rk s c)), H) := by
        unfold f_J1_get
        rw [rc, Option.bind_some, g1, Option.bind_some, if_neg (by simp), g2, Option.bind_some]
      obtain ⟨i1, i2, i3, i4⟩ := gc_i P.gc (show rk s c < 128 by omega)
      have hNp1 : N (p + 1) = false := by
        cases hh : N (p + 1) with
        | false => rfl
        | true => have := (hN _ hh).1; omega
      have hNc : N (hn hs0 + 1) = false := by
        cases hh : N (hn hs0 + 1) with
        | false => rfl
        | true => exact absurd rfl (hN _ hh).2
      have w1 : asi 0 (some (p + 1)) (I c) (I (rk s c)) H = some (hset H (p + 1) (nar 0 25 (upd (fun d => if d < c then I (rk s d) else f1 d) c (I (rk s c))))) := asi_at ((HA P hN _ (Or.inl (by omega))).trans r3) (by omega) (by decide)
      have P1 := P.set2 (a := p + 1) (d := nar 0 25 (upd (fun d => if d < c then I (rk s d) else f1 d) c (I (rk s c)))) hNp1 (by omega) r3
      have eu : upd (fun d => if d < c then I (rk s d) else f1 d) c (I (rk s c)) = fun d => if d < c + 1 then I (rk s d) else f1 d := by
        funext d
        simp only [upd]
        by_cases e : d = c
        · subst e; rw [if_pos rfl, if_pos (by omega)]
        · rw [if_neg e]
          by_cases e2 : d < c
          · rw [if_pos e2, if_pos (by omega)]
          · rw [if_neg e2, if_neg (by omega)]
      rw [eu] at w1 P1
      have r3' : (hset h0 (p + 1) (nar 0 25 (fun d => if d < c + 1 then I (rk s d) else f1 d))).1 (p + 1) = some (nar 0 25 (fun d => if d < c + 1 then I (rk s d) else f1 d)) := hset_at
      have r4' : (hset h0 (p + 1) (nar 0 25 (fun d => if d < c + 1 then I (rk s d) else f1 d))).1 (hn hs0 + 1) = some (nar 0 25 (fun b => I (cntR s c b))) := (hset_ne (by omega)).trans r4
      obtain ⟨-, q2', -⟩ := page P1 hN ((hset_ne (by omega)).trans (r5 p (by omega) (by omega)))
      have eb' : ald 0 (some (p + 1)) (I c) (hset H (p + 1) (nar 0 25 (fun d => if d < c + 1 then I (rk s d) else f1 d))) = some (I (rk s c)) := by
        rw [ald_at hset_at (by omega) (by decide), if_pos (by omega)]
      have ec : ald 0 (some (hn hs0 + 1)) (I (rk s c)) (hset H (p + 1) (nar 0 25 (fun d => if d < c + 1 then I (rk s d) else f1 d))) = some (I (cntR s c (rk s c))) := by
        rw [ald_at ((HA P1 hN _ (Or.inr rfl)).trans r4') hrk25 (by decide)]
      have w2 : asi 0 (some (hn hs0 + 1)) (I (rk s c)) (I (cntR s c (rk s c) + 1)) (hset H (p + 1) (nar 0 25 (fun d => if d < c + 1 then I (rk s d) else f1 d))) = some (hset (hset H (p + 1) (nar 0 25 (fun d => if d < c + 1 then I (rk s d) else f1 d))) (hn hs0 + 1) (nar 0 25 (upd (fun b => I (cntR s c b)) (rk s c) (I (cntR s c (rk s c) + 1))))) := asi_at ((HA P1 hN _ (Or.inr rfl)).trans r4') hrk25 (by decide)
      have P2 := P1.set2 (a := hn hs0 + 1) (d := nar 0 25 (upd (fun b => I (cntR s c b)) (rk s c) (I (cntR s c (rk s c) + 1)))) hNc (by omega) r4'
      have eu2 : upd (fun b => I (cntR s c b)) (rk s c) (I (cntR s c (rk s c) + 1)) = fun b => I (cntR s (c + 1) b) := by
        funext b
        have e : cntR s (c + 1) b = cntR s c b + (if rk s c = b then 1 else 0) := rfl
        simp only [upd]
        by_cases z : b = rk s c
        · subst z; rw [if_pos rfl, e, if_pos rfl]
        · rw [if_neg z, e, if_neg (Ne.symm z)]; rfl
      rw [eu2] at w2 P2
      refine ⟨_, ?_, ⟨_, N, M, K, P2, r1, r2, (hset_ne (by omega)).trans r3', hset_at, fun a ha hne => (hset_ne (by omega)).trans ((hset_ne hne).trans (r5 a ha hne)), hNc, r7, r9, r10⟩⟩
      unfold f_X3_renumber_B64
      rw [q2, Option.bind_some, Option.bind_some, eb, Option.bind_some, hvo, Option.bind_some, rc, Option.bind_some, hget, Option.bind_some, i3, Option.bind_some, i2, Option.bind_some, i4, Option.bind_some, w1, Option.bind_some, q2', Option.bind_some, eb', Option.bind_some, ec, Option.bind_some, show I (cntR s c (rk s c)) + 1 = I (cntR s c (rk s c) + 1) from I_add _ 1, w2, Option.bind_some, show I c + 1 = I (c + 1) from I_add _ 1]
    have e1 : rkTo s (c + 1) = rkTo s c + bit (isF s c = true) := rfl
    have fin : ∀ H', RN hs0 p ci s f1 (c + 1) H' → f_X3_renumber_L15 (k + 1) (some p) (some (hn hs0)) (some (hn hs0 + 1)) (I c) H = f_X3_renumber_L15 k (some p) (some (hn hs0)) (some (hn hs0 + 1)) (I (c + 1)) H' → ∃ H', f_X3_renumber_L15 (k + 1) (some p) (some (hn hs0)) (some (hn hs0 + 1)) (I c) H = f_X3_renumber_L15 (k + 1 - (j + 1)) (some p) (some (hn hs0)) (some (hn hs0 + 1)) (I (nc s)) H' ∧ RN hs0 p ci s f1 (nc s) H' := fun H' R' he => by
      obtain ⟨H2, g1, g2⟩ := ih (c + 1) k H' (by omega) (by omega) R'
      refine ⟨H2, ?_, g2⟩
      rw [he, g1, show k + 1 - (j + 1) = k - j by omega]
    by_cases hF : isF s c = true
    · -- the block's first cell
      have hfc : fst s c = c := by simpa [isF] using hF
      have hnK : ¬ K (s (8 + c)) := fun z => by
        obtain ⟨d, d1, d2⟩ := (r1 _).mp z
        exact hfs.2.2 d (by omega) d2
      have hcont : f_J1_containsKey (some (hn hs0)) (some (ci (s (8 + c)))) H = some (I 0, H) := by
        unfold f_J1_containsKey
        rw [rc, Option.bind_some, ge2 hnK, Option.bind_some, if_pos rfl]; rfl
      have hvs := gc_of P.gc (show rkTo s c < 128 by omega)
      obtain ⟨H1, p1, P1, p3, p4⟩ := mn_put P b128 (show rkTo s c < 128 by omega) hnK
      have e2 : rkTo s (c + 1) = rkTo s c + 1 := by rw [e1, bit_t hF]
      rw [← e2] at P1
      have hrkc : rk s c = rkTo s c := by unfold rk; rw [hfc]
      have hN1 : ∀ n, addN N (hn h0) n = true → hn hs0 ≤ n ∧ n ≠ hn hs0 + 1 := fun n hh => by
        rcases addN_iff.mp hh with z | z
        · exact hN0 n z
        · rw [z]; omega
      obtain ⟨H2, g1, g2⟩ := b64 (grow h0 6) H1 _ _ _ P1 hN1 (fun k => by
        rw [r1 k]
        constructor
        · rintro (⟨d, d1, d2⟩ | z)
          · exact ⟨d, by omega, d2⟩
          · exact ⟨c, by omega, z.symm⟩
        · rintro ⟨d, d1, d2⟩
          by_cases z : d = c
          · subst z; exact Or.inr d2.symm
          · exact Or.inl ⟨d, by omega, d2⟩) (fun d hd => by
        unfold nqs
        by_cases z : s (8 + d) = s (8 + c)
        · rw [if_pos z]
          have : rk s d = rk s c := (rk_eq (by omega) hcn).mpr z
          rw [this, hrkc]
        · rw [if_neg z]
          have : d ≠ c := fun e => z (by rw [e])
          exact r2 d (by omega)) r3 r4 r5 ⟨by show hn hs0 + 2 ≤ hn h0 + 1; omega, by show hn h0 + 1 ≤ _; omega⟩ (by show hs h0 + 6 ≤ _; omega) r10
      refine fin H2 g2 ?_
      have ck : chk 31 none H1 = some () := by unfold chk; rw [if_pos (Or.inl rfl)]
      rw [f_X3_renumber_L15, q1, Option.bind_some, q3, Option.bind_some, if_neg hle, q2, Option.bind_some, eb, Option.bind_some, hvo, Option.bind_some, rc, Option.bind_some, hcont, Option.bind_some, if_pos (show I 0 = 0 from rfl), q2, Option.bind_some, eb, Option.bind_some, hvo, Option.bind_some, rc, Option.bind_some, hsz, Option.bind_some, hvs, Option.bind_some, rc, Option.bind_some, p1, Option.bind_some, ck, Option.bind_some, g1]
    · have hfc : fst s c ≠ c := by intro e; exact hF (by simp [isF, e])
      have hKc : K (s (8 + c)) := (r1 _).mpr ⟨fst s c, by omega, hfs.2.1⟩
      obtain ⟨nd, ga, gb'⟩ := ge1 hKc
      have hcont : f_J1_containsKey (some (hn hs0)) (some (ci (s (8 + c)))) H = some (I 1, H) := by
        unfold f_J1_containsKey
        rw [rc, Option.bind_some, ga, Option.bind_some, if_neg (by simp)]; rfl
      have e2 : rkTo s (c + 1) = rkTo s c := by rw [e1, bit_f hF]; rfl
      rw [← e2] at P
      obtain ⟨H2, g1, g2⟩ := b64 h0 H M K N P hN0 (fun k => by
        rw [r1 k]
        constructor
        · rintro ⟨d, d1, d2⟩; exact ⟨d, by omega, d2⟩
        · rintro ⟨d, d1, d2⟩
          by_cases z : d = c
          · subst z; exact ⟨fst s d, by omega, hfs.2.1.trans d2⟩
          · exact ⟨d, by omega, d2⟩) (fun d hd => by
        by_cases z : d = c
        · subst z
          have := r2 (fst s d) (by omega)
          rw [hfs.2.1] at this
          rw [this]
          exact (rk_eq (by omega) hcn).mpr hfs.2.1
        · exact r2 d (by omega)) r3 r4 r5 ⟨by omega, by omega⟩ (by omega) r10
      refine fin H2 g2 ?_
      rw [f_X3_renumber_L15, q1, Option.bind_some, q3, Option.bind_some, if_neg hle, q2, Option.bind_some, eb, Option.bind_some, hvo, Option.bind_some, rc, Option.bind_some, hcont, Option.bind_some, if_neg (show ¬ I 1 = 0 by decide), g1]
end REN
