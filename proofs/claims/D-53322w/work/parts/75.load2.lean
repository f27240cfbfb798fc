/-! PLAIN LAW: items and the whole text, by the reference -/
set_option maxRecDepth 100000
noncomputable def pBody (tx : Nat → Nat) (n w : Nat) (s : Nat → Nat) (t : TK3) : PRs := if w = 0 then pPage tx n s t else if w = 1 then pAnswer tx n s t else if w = 5 then pCosts tx n 5 0 s t else pWhich tx n w s t
/-- the item's end -/
def pEndI (tx : Nat → Nat) (n : Nat) (r : PRs) : PRs := match r with
  | .inl e => .inl e
  | .inr x => if isSt tx n x.2 = true then .inr (x.1, nxt tx n x.2) else .inl x.2.2.1
noncomputable def pItem (tx : Nat → Nat) (n : Nat) (s : Nat → Nat) (t : TK3) : PRs := match firstI (fun w => isW tx n t w) 6 with
  | none => .inl t.2.1
  | some w => pEndI tx n (pBody tx n w s (nxt tx n t))
noncomputable def pLoad (tx : Nat → Nat) (n : Nat) : Nat → (Nat → Nat) → TK3 → Nat → Nat ⊕ ((Nat → Nat) × Nat)
  | 0, _, _, _ => .inl 0
  | f + 1, s, t, k => if t.1 = 0 then .inr (s, k) else match pItem tx n s t with
    | .inl e => .inl e
    | .inr x => pLoad tx n f x.1 x.2 (k + 1)
noncomputable def o_load (g : GS) : Int32 × GS := match pLoad g.2.2.2 g.2.2.1 200 g.1 (tokAt g.2.2.2 g.2.2.1 0) 0 with
  | .inl e => (-1000 - I e, g)
  | .inr x => (I x.2, (sReset x.1, push g.2.1 g.1, 0, g.2.2.2))
theorem pBody_Q {tx : Nat → Nat} {n w : Nat} {s : Nat → Nat} {t : TK3} {p : Nat} (hw : w < 6) (hQ : QInv s) (hT : SB tx) (ht : Tok tx n t) (hp : p ≤ t.2.1) : PQ tx n s p (pBody tx n w s t) := by
  unfold pBody
  split
  · exact pPage_Q hQ hT ht hp
  · split
    · exact pAnswer_Q hQ ht hp
    · split
      · exact pCosts_Q 5 0 s t p (by omega) hQ ht hp
      · exact pWhich_Q (by omega) hQ ht hp
theorem pItem_Q {tx : Nat → Nat} {n : Nat} {s : Nat → Nat} {t : TK3} (hQ : QInv s) (hT : SB tx) (ht : Tok tx n t) (h0 : t.1 ≠ 0) : ∀ x, pItem tx n s t = .inr x → QInv x.1 ∧ Tok tx n x.2 ∧ t.2.2 < x.2.2.2 + (if x.2.1 = 0 then 1 else 0) ∧ (∀ k, 118 ≤ k → x.1 k = s k) := by
  intro x hx
  have hf := ht.f
  unfold pItem at hx
  cases hw : firstI (fun w => isW tx n t w) 6 with
  | none => rw [hw] at hx; cases hx
  | some w =>
    rw [hw] at hx
    simp only at hx
    have hw6 := (firstI_some.mp hw).1
    have hpb := pBody_Q (p := (nxt tx n t).2.1) hw6 hQ hT ht.on (Nat.le_refl _)
    cases hr : pBody tx n w s (nxt tx n t) with
    | inl e => rw [hr] at hx; cases hx
    | inr y =>
      rw [hr] at hx
      obtain ⟨q1, q2, q3, q4⟩ := hpb y hr
      simp only [pEndI] at hx
      split at hx
      · cases hx
        have h1 := ht.lt
        have h2 := q2.f
        have h3 := q2.lt
        have h4 := q2.on.f
        refine ⟨q1, q2.on, ?_, q4⟩
        show t.2.2 < (nxt tx n y.2).2.2 + _
        by_cases c : (nxt tx n y.2).1 = 0
        · simp only [c, if_true]; omega
        · have := h4.2.2.1 c
          simp only [c, if_false]; omega
      · cases hx
section TW75
variable {m : Nat} {v : Nat → Int32} {A : Nat → Nat → Nat} {h : PH} {g : GS} {asd : Nat → Nat} {t : TK3}
theorem tw_endI {r : PRs} (hn : g.2.2.1 ≤ 140) (hr : PR v A g asd r) (hq : ∀ x, r = .inr x → Tok g.2.2.2 g.2.2.1 x.2 ∧ (∀ k, 118 ≤ k → x.1 k = g.1 k)) : ∃ v', f_X13_readItem_B77 (some m) (TW m v A h) = some (TW m v' A h) ∧ PR v' A g asd (pEndI g.2.2.2 g.2.2.1 r) := by
  cases r with
  | inl e =>
    have hF : PF v A g asd e := hr
    exact ⟨v, by simp (disch := first | omega | assumption) only [f_X13_readItem_B77, f_X13_readItem_B95, lit_I, tw_rcv, Option.bind_some, hF.well, if_true], hr⟩
  | inr x =>
    have hp : PS v A (x.1, g.2) asd x.2 := hr
    obtain ⟨ht, hk⟩ := hq x rfl
    have hst := hp.stop (m := m) (h := h) hn ht
    simp only [pEndI]
    cases c : isSt g.2.2.2 g.2.2.1 x.2 with
    | true =>
      simp only [c] at hst
      obtain ⟨v2, g1, g2⟩ := tw_go (m := m) (h := h) hp hn ht
      refine ⟨v2, ?_, g2⟩
      simp (disch := first | omega | assumption) only [f_X13_readItem_B77, f_X13_readItem_B95, lit_I, tw_rcv, Option.bind_some, hp.well, I_10, if_false, hst, bit_0, not_true_eq_false, g1]
    | false =>
      simp only [c] at hst
      obtain ⟨f1, f2⟩ := tw_failT (m := m) (h := h) hp ht hn
      refine ⟨_, ?_, f2.lift hk⟩
      simp (disch := first | omega | assumption) only [f_X13_readItem_B77, f_X13_readItem_B95, lit_I, tw_rcv, Option.bind_some, hp.well, I_10, if_false, hst, bit_0, Bool.false_eq_true, not_false_eq_true, if_true, f1, f2.well]
theorem tw_body {w : Nat} (hw : w < 6) (hp : PS v A g asd t) (hn : g.2.2.1 ≤ 140) (ht : Tok g.2.2.2 g.2.2.1 t) (hQ : QInv g.1) (hT : SB g.2.2.2) :
    ∃ v' A', f_X13_readItem_B22 (some m) (I w) (TW m v A h) = some (TW m v' A' h) ∧ PR v' A' g asd (pEndI g.2.2.2 g.2.2.1 (pBody g.2.2.2 g.2.2.1 w g.1 (nxt g.2.2.2 g.2.2.1 t))) := by
  obtain ⟨v2, g1, hp2⟩ := tw_go (m := m) (h := h) hp hn ht
  have ht2 := ht.on
  have hPQ := pBody_Q (p := 0) hw hQ hT ht2 (Nat.zero_le _)
  have key : ∃ v' A', (∀ z, f_X13_readItem_B77 (some m) (TW m v' A' h) = z → f_X13_readItem_B22 (some m) (I w) (TW m v A h) = z) ∧ PR v' A' g asd (pBody g.2.2.2 g.2.2.1 w g.1 (nxt g.2.2.2 g.2.2.1 t)) := by
    unfold pBody
    by_cases c0 : w = 0
    · obtain ⟨v', A', d1, d2⟩ := tw_readPage (m := m) (h := h) hp2 hn ht2 hQ hT
      refine ⟨v', A', fun z hz => ?_, by rw [if_pos c0]; exact d2⟩
      simp (disch := first | omega | assumption) only [f_X13_readItem_B22, lit_I, I_eq, if_neg, c0, if_true, tw_rcv, Option.bind_some, g1, d1]
      exact hz
    · rw [if_neg c0]
      by_cases c1 : w = 1
      · obtain ⟨v', A', d1, d2⟩ := tw_readAnswer (m := m) (h := h) hp2 hn ht2 hQ
        refine ⟨v', A', fun z hz => ?_, by rw [if_pos c1]; exact d2⟩
        simp (disch := first | omega | assumption) only [f_X13_readItem_B22, lit_I, I_eq, if_neg, c1, if_true, tw_rcv, Option.bind_some, g1, d1]
        exact hz
      · rw [if_neg c1]
        by_cases c5 : w = 5
        · obtain ⟨v', A', d1, d2⟩ := tw_costs (m := m) (h := h) 5 FU 0 v2 A g _ (by omega) (by rw [FU_eq]; omega) hp2 hn ht2 hQ
          have e : f_X13_readCosts (some m) (TW m v2 A h) = some (TW m v' A' h) := d1
          refine ⟨v', A', fun z hz => ?_, by rw [if_pos c5]; exact d2⟩
          simp (disch := first | omega | assumption) only [f_X13_readItem_B22, lit_I, I_eq, if_neg, c5, if_true, tw_rcv, Option.bind_some, g1, e]
          exact hz
        · rw [if_neg c5]
          obtain ⟨v', A', d1, d2⟩ := tw_readWhich (m := m) (h := h) (word := w) (by omega) hp2 hn ht2 hQ
          refine ⟨v', A', fun z hz => ?_, d2⟩
          simp (disch := first | omega | assumption) only [f_X13_readItem_B22, lit_I, I_eq, if_neg, tw_rcv, Option.bind_some, g1, d1]
          exact hz
  obtain ⟨v', A', d1, d2⟩ := key
  obtain ⟨v3, e1, e2⟩ := tw_endI (m := m) (h := h) hn d2 (fun x hx => by have := hPQ x hx; exact ⟨this.2.1, this.2.2.2⟩)
  exact ⟨v3, A', d1 _ e1, e2⟩
theorem tw_item (hp : PS v A g asd t) (hn : g.2.2.1 ≤ 140) (ht : Tok g.2.2.2 g.2.2.1 t) (hQ : QInv g.1) (hT : SB g.2.2.2) :
    ∃ v' A', f_X13_readItem (some m) (TW m v A h) = some (TW m v' A' h) ∧ PR v' A' g asd (pItem g.2.2.2 g.2.2.1 g.1 t) := by
  have hwd := fun w (hw : w < 8) => hp.word (m := m) (h := h) hn ht hw
  have key := loop_first (fun k (w : Nat) => f_X13_readItem_L2 k (some m) (I w) (TW m v A h)) (fun w => w) 6 (fun w => isW g.2.2.2 g.2.2.1 t w) (fun w => f_X13_readItem_B22 (some m) (I w) (TW m v A h)) (f_X13_readItem_B22 (some m) (I 6) (TW m v A h)) (by omega) (fun k j hj hq => ?_) (fun k j hj hq => ?_) (fun k => ?_)
  · have hent : f_X13_readItem (some m) (TW m v A h) = f_X13_readItem_L2 FU (some m) (I 0) (TW m v A h) := by
      simp (disch := first | omega | assumption) only [f_X13_readItem, lit_I]
    rw [hent, key]
    unfold pItem
    cases hw : firstI (fun w => isW g.2.2.2 g.2.2.1 t w) 6 with
    | none =>
      obtain ⟨f1, f2⟩ := tw_failT (m := m) (h := h) hp ht hn
      refine ⟨_, A, ?_, f2⟩
      simp (disch := first | omega | assumption) only [f_X13_readItem_B22, lit_I, if_true, tw_rcv, Option.bind_some, f1]
    | some w => exact tw_body (firstI_some.mp hw).1 hp hn ht hQ hT
  · have := hwd j (by omega)
    rw [hq] at this
    simp (disch := first | omega | assumption) only [f_X13_readItem_L2, lit_I, I_le, if_neg, tw_rcv, Option.bind_some, this, bit_0, Bool.false_eq_true, not_false_eq_true, if_true, I_add]
  · have := hwd j (by omega)
    rw [hq] at this
    simp (disch := first | omega | assumption) only [f_X13_readItem_L2, lit_I, I_le, if_neg, tw_rcv, Option.bind_some, this, bit_0, not_true_eq_false, if_false]
  · simp (disch := first | omega | assumption) only [f_X13_readItem_L2, lit_I, I_le, if_pos]
/-- the items one after another, up to the part behind them -/
theorem tw_items : ∀ (k f it : Nat) (v : Nat → Int32) (A : Nat → Nat → Nat) (g : GS) (t : TK3), g.2.2.1 + (if t.1 = 0 then 0 else 1) < t.2.2 + k → k < f → PS v A g asd t → g.2.2.1 ≤ 140 → Tok g.2.2.2 g.2.2.1 t → QInv g.1 → SB g.2.2.2 → it + k < 1000 →
    match pLoad g.2.2.2 g.2.2.1 k g.1 t it with
    | .inl e => ∃ v' A' it', f_X13_load_L48 f (some m) (I it) (TW m v A h) = f_X13_load_L74 FU (some m) (I it') (I 0) (TW m v' A' h) ∧ PF v' A' g asd e
    | .inr x => ∃ v' A' t', f_X13_load_L48 f (some m) (I it) (TW m v A h) = f_X13_load_L74 FU (some m) (I x.2) (I 0) (TW m v' A' h) ∧ PS v' A' (x.1, g.2) asd t' ∧ QInv x.1 ∧ (∀ j, 118 ≤ j → x.1 j = g.1 j) := by
  intro k
  induction k with
  | zero =>
    intro f it v A g t h1 _ _ _ ht
    have := ht.f
    split at h1 <;> omega
  | succ k ih =>
    intro f it v A g t hk hf hp hn ht hQ hT hit
    obtain ⟨f, rfl⟩ : ∃ f', f = f' + 1 := ⟨f - 1, by omega⟩
    have hf4 := ht.f
    simp only [pLoad]
    by_cases c : t.1 = 0
    · rw [if_pos c]
      refine ⟨v, A, t, ?_, hp, hQ, fun _ _ => rfl⟩
      simp (disch := first | omega | assumption) only [f_X13_load_L48, lit_I, tw_rcv, Option.bind_some, hp.well, I_10, if_false, tw_int (k := 20) rfl, hp.2.2.2.1, c, if_true]
    · rw [if_neg c]
      rw [if_neg c] at hk
      obtain ⟨v2, A2, d1, d2⟩ := tw_item (m := m) (h := h) hp hn ht hQ hT
      have hgo : f_X13_load_L48 (f + 1) (some m) (I it) (TW m v A h) = f_X13_load_L48 f (some m) (I (it + 1)) (TW m v2 A2 h) := by
        rw [f_X13_load_L48]
        simp (disch := first | omega | assumption) only [lit_I, tw_rcv, Option.bind_some, hp.well, I_10, if_false, tw_int (k := 20) rfl, hp.2.2.2.1, I_eq, if_neg, d1, I_add]
      have hPQ := pItem_Q hQ hT ht c
      cases hr : pItem g.2.2.2 g.2.2.1 g.1 t with
      | inl e =>
        rw [hr] at d2
        have hF : PF v2 A2 g asd e := d2
        refine ⟨v2, A2, it + 1, ?_, hF⟩
        rw [hgo]
        obtain ⟨f, rfl⟩ : ∃ f', f = f' + 1 := ⟨f - 1, by omega⟩
        simp (disch := first | omega | assumption) only [f_X13_load_L48, lit_I, tw_rcv, Option.bind_some, hF.well, if_true]
      | inr x =>
        rw [hr] at d2
        have hp2 : PS v2 A2 (x.1, g.2) asd x.2 := d2
        obtain ⟨q1, q2, q3, q4⟩ := hPQ x hr
        have := ih f (it + 1) v2 A2 (x.1, g.2) x.2 (by simp only; split <;> simp_all <;> omega) (by omega) hp2 hn q2 q1 hT (by omega)
        simp only at this ⊢
        rw [hgo]
        cases hl : pLoad g.2.2.2 g.2.2.1 k x.1 x.2 (it + 1) with
        | inl e =>
          rw [hl] at this
          obtain ⟨v', A', it', e1, e2⟩ := this
          exact ⟨v', A', it', e1, e2.lift q4⟩
        | inr y =>
          rw [hl] at this
          obtain ⟨v', A', t', e1, e2, e3, e4⟩ := this
          exact ⟨v', A', t', e1, e2, e3, fun j hj => (e4 j hj).trans (q4 j hj)⟩
/-- the rows exchanged -/
def mixR (n : Nat) (a b : Nat → Nat) : Nat → Nat := fun k => if k < n then a k else b k
def A12 (A : Nat → Nat → Nat) (S D : Nat → Nat) : Nat → Nat → Nat := aset (aset A 2 D) 1 S
theorem a12_1 {S D : Nat → Nat} : A12 A S D 1 = S := aset_eq
theorem a12_2 {S D : Nat → Nat} : A12 A S D 2 = D := by unfold A12; rw [aset_ne (by decide), aset_eq]
theorem a12_s1 {S D G : Nat → Nat} : aset (A12 A S D) 1 G = A12 A G D := by unfold A12; rw [aset_aset]
theorem a12_s2 {S D G : Nat → Nat} : aset (A12 A S D) 2 G = A12 A S G := by unfold A12; rw [aset_comm (by decide), aset_aset]
theorem a12_self {S D : Nat → Nat} (h1 : A 1 = S) (h2 : A 2 = D) : A12 A S D = A := by
  subst h1; subst h2
  unfold A12
  rw [show aset A 2 (A 2) = A from aset_self, show aset A 1 (A 1) = A from aset_self]
theorem tw_r2' {j : Nat} (hj : j < 356) : ald 0 (some (m + 2)) (I j) (TW m v A h) = some (I (A 2 j)) := tw_ald (o := 2) (by decide) hj
theorem tw_w2 {j x : Nat} (hj : j < 356) : asi 0 (some (m + 2)) (I j) (I x) (TW m v A h) = some (TW m v (aset A 2 (nup (A 2) j x)) h) := tw_w (o := 2) (by decide) hj
theorem mixR_up {n : Nat} {a b : Nat → Nat} : nup (mixR n a b) n (a n) = mixR (n + 1) a b := by
  funext k
  simp only [nup, mixR]
  by_cases e : k = n
  · subst e; rw [if_pos rfl, if_pos (by omega)]
  · rw [if_neg e]
    by_cases e2 : k < n
    · rw [if_pos e2, if_pos (by omega)]
    · rw [if_neg e2, if_neg (by omega)]
theorem mixR_n {n : Nat} {a b : Nat → Nat} : mixR n a b n = b n := by unfold mixR; rw [if_neg (by omega)]
/-- the swap of rows -/
theorem tw_ld74 {it : Nat} {S D : Nat → Nat} (h1 : A 1 = S) (h2 : A 2 = D) (z : Option (Int32 × PH)) (hz : ∀ k, f_X13_load_L74 (k + 1) (some m) (I it) (I 356) (TW m v (A12 A (mixR 356 D S) (mixR 356 S D)) h) = z) : f_X13_load_L74 FU (some m) (I it) (I 0) (TW m v A h) = z := by
  have key := loop_FU (fun n (p : Nat × (Nat → Nat) × (Nat → Nat)) => f_X13_load_L74 n (some m) (I it) (I p.1) (TW m v (A12 A p.2.1 p.2.2) h)) (fun i => (i, mixR i D S, mixR i S D)) 356 z (by omega) (fun n i hi => ?_) (fun n => hz n)
  · have e0 : ∀ a b : Nat → Nat, mixR 0 a b = b := fun a b => by funext k; simp [mixR]
    simp only [e0, a12_self h1 h2] at key
    exact key
  · have u1 : nup (mixR i D S) i (D i) = mixR (i + 1) D S := mixR_up
    have u2 : nup (mixR i S D) i (S i) = mixR (i + 1) S D := mixR_up
    have n1 : mixR i S D i = D i := mixR_n
    have n2 : mixR i D S i = S i := mixR_n
    simp (disch := first | omega | assumption) only [f_X13_load_L74, lit_I, I_le, if_neg, tw_r1, tw_r2, Option.bind_some, tw_s, tw_r2', a12_1, a12_2, a12_s1, a12_s2, tw_ws, tw_w2, n1, n2, u1, u2, I_add]
theorem mixR_SB {n : Nat} {a b : Nat → Nat} (ha : SB a) (hb : SB b) : SB (mixR n a b) := fun k => by
  unfold mixR
  have h1 := ha k
  have h2 := hb k
  split <;> assumption
theorem tw_load (hT : TI v A g) (hI : RInv g.1) (hn : g.2.2.1 ≤ 140) : ∃ v' A', f_X13_load (some m) (TW m v A h) = some ((o_load g).1, TW m v' A' h) ∧ TI v' A' (o_load g).2 := by
  have hT0 := TI_v0 (x := I 0) hT
  have s1 : A 1 = g.1 := hT.2.1
  have hs := TI_SB hT
  have hTX : SB g.2.2.2 := by rw [← hT.2.2.2.2.2]; exact hT.1 4
  -- the row laid aside
  have hA2 : SB (mixR 356 g.1 (A 2)) := mixR_SB hs (hT.1 2)
  have hT1 : TI (vup (vup (vup v 0 (I 0)) 22 (I 0)) 23 (-1)) (aset A 2 (mixR 356 g.1 (A 2))) g := TI_VK (TI_o hT0 hA2 (by decide) (by decide) (by decide)) (by rw [vup_ne _ (by decide), vup_ne _ (by decide)]) (by rw [vup_ne _ (by decide), vup_ne _ (by decide)])
  obtain ⟨v2, e1, e2, e3⟩ := tw_goOn (m := m) (v := vup (vup (vup v 0 (I 0)) 22 (I 0)) 23 (-1)) (A := aset A 2 (mixR 356 g.1 (A 2))) (h := h) (n := g.2.2.1) (p := 0) (Nat.zero_le _) hT1.2.2.2.2.1 hn (hT1.1 4) (by rw [vup_ne _ (by decide), vup_eq])
  rw [hT1.2.2.2.2.2] at e3
  have hp : PS v2 (aset A 2 (mixR 356 g.1 (A 2))) g (mixR 356 g.1 (A 2)) (tokAt g.2.2.2 g.2.2.1 0) := ⟨TI_VK hT1 (e2 4 (by omega)) (e2 6 (by omega)), aset_eq, (e2 23 (by omega)).trans (vup_eq _ _), e3⟩
  have ht : Tok g.2.2.2 g.2.2.1 (tokAt g.2.2.2 g.2.2.1 0) := ⟨0, Nat.zero_le _, rfl⟩
  have hit := tw_items (m := m) (h := h) 200 FU 0 v2 _ g _ (by split <;> omega) (by rw [FU_eq]; omega) hp hn ht hI.1.1 hTX (by omega)
  have hent : f_X13_load (some m) (TW m v A h) = f_X13_load_L48 FU (some m) (I 0) (TW m v2 (aset A 2 (mixR 356 g.1 (A 2))) h) := by
    have key := loop_FU (fun n (p : Nat × (Nat → Nat)) => f_X13_load_L7 n (some m) (I p.1) (TW m (vup v 0 (I 0)) (aset A 2 p.2) h)) (fun i => (i, mixR i g.1 (A 2))) 356 (f_X13_load_L48 FU (some m) (I 0) (TW m v2 (aset A 2 (mixR 356 g.1 (A 2))) h)) (by omega) (fun n i hi => ?_) (fun n => ?_)
    · have e0 : mixR 0 g.1 (A 2) = A 2 := by funext k; simp [mixR]
      simp only [e0, aset_self] at key
      rw [← key]
      simp (disch := first | omega | assumption) only [f_X13_load, lit_I, tw_p0, Option.bind_some]
    · have u1 : nup (mixR i g.1 (A 2)) i (g.1 i) = mixR (i + 1) g.1 (A 2) := mixR_up
      have r1 : (aset A 2 (mixR i g.1 (A 2))) 1 = g.1 := by rw [aset_ne (by decide)]; exact s1
      simp (disch := first | omega | assumption) only [f_X13_load_L7, lit_I, I_le, if_neg, tw_r1, tw_r2, Option.bind_some, tw_s, r1, tw_w2, aset_eq, aset_aset, u1, I_add]
    · have e1' : f_X13_goOn (some m) (TW m (vup (vup (vup v 0 (I 0)) 22 (I 0)) 23 (- I 1)) (aset A 2 (mixR 356 g.1 (A 2))) h) = some (TW m v2 (aset A 2 (mixR 356 g.1 (A 2))) h) := e1
      simp (disch := first | omega | assumption) only [f_X13_load_L7, lit_I, I_le, if_pos, tw_pf (k := 22) rfl, tw_pf (k := 23) rfl, Option.bind_some, tw_rcv, e1']
  rw [hent]
  unfold o_load
  cases hl : pLoad g.2.2.2 g.2.2.1 200 g.1 (tokAt g.2.2.2 g.2.2.1 0) 0 with
  | inl e =>
    rw [hl] at hit
    obtain ⟨v3, A3, it', d1, d2⟩ := hit
    obtain ⟨⟨s', z1, z2⟩, z3, z4, z5⟩ := d2
    have hback : mixR 356 (mixR 356 g.1 (A 2)) s' = g.1 := by
      funext k; unfold mixR
      by_cases c : k < 356
      · rw [if_pos c, if_pos c]
      · rw [if_neg c]; exact z2 k (by omega)
    have hA2' : SB (mixR 356 s' (mixR 356 g.1 (A 2))) := mixR_SB (TI_SB z1) (mixR_SB hs (hT.1 2))
    refine ⟨v3, A12 A3 g.1 (mixR 356 s' (mixR 356 g.1 (A 2))), ?_, ?_⟩
    · rw [d1]
      refine tw_ld74 z1.2.1 z3 _ (fun k => ?_)
      rw [hback]
      have hw : f_X13_isWell (some m) (TW m v3 (A12 A3 g.1 (mixR 356 s' (mixR 356 g.1 (A 2)))) h) = some (I 0, TW m v3 (A12 A3 g.1 (mixR 356 s' (mixR 356 g.1 (A 2)))) h) := tw_wellF (by omega) z4
      simp (disch := first | omega | assumption) only [f_X13_load_L74, lit_I, I_le, if_pos, tw_rcv, Option.bind_some, hw, if_true, tw_int (k := 23) rfl, z4]
    · have := TI_set (s := g.1) (TI_o (o := 2) z1 hA2' (by decide) (by decide) (by decide)) hs
      exact this
  | inr x =>
    rw [hl] at hit
    obtain ⟨v3, A3, t', d1, d2, d3, d4⟩ := hit
    have hsx : SB x.1 := TI_SB d2.1
    have hback : mixR 356 (mixR 356 g.1 (A 2)) x.1 = g.1 := by
      funext k; unfold mixR
      by_cases c : k < 356
      · rw [if_pos c, if_pos c]
      · rw [if_neg c]; exact d4 k (by omega)
    have hfwd : mixR 356 (mixR 356 x.1 (mixR 356 g.1 (A 2))) g.1 = x.1 := by
      funext k; unfold mixR
      by_cases c : k < 356
      · rw [if_pos c, if_pos c]
      · rw [if_neg c]; exact (d4 k (by omega)).symm
    have hA2' : SB (mixR 356 x.1 (mixR 356 g.1 (A 2))) := mixR_SB hsx (mixR_SB hs (hT.1 2))
    have hT4 : TI v3 (A12 A3 g.1 (mixR 356 x.1 (mixR 356 g.1 (A 2)))) g := by
      have q := TI_set (s := g.1) (TI_o (g := (x.1, g.2)) (o := 2) d2.1 hA2' (by decide) (by decide) (by decide)) hs
      exact q
    obtain ⟨v5, A5, b1, b2, b3, b4⟩ := tw_actT (m := m) (h := h) hT4
    have s5 : A5 1 = g.1 := b2.2.1
    have a52 : A5 2 = mixR 356 x.1 (mixR 356 g.1 (A 2)) := by rw [b4 2 (by decide)]; exact a12_2
    obtain ⟨A6, c1, c2, -, -⟩ := tw_resetT (m := m) (h := h) (TI_set (s := x.1) b2 hsx) d3
    refine ⟨vup v5 6 (I 0), A6, ?_, ?_⟩
    · rw [d1]
      refine tw_ld74 d2.1.2.1 d2.2.1 _ (fun k => ?_)
      rw [hback]
      have hw : f_X13_isWell (some m) (TW m v3 (A12 A3 g.1 (mixR 356 x.1 (mixR 356 g.1 (A 2)))) h) = some (I 1, TW m v3 (A12 A3 g.1 (mixR 356 x.1 (mixR 356 g.1 (A 2)))) h) := tw_wellT d2.2.2.1
      simp (disch := first | omega | assumption) only [f_X13_load_L74, lit_I, I_le, if_pos, tw_rcv, Option.bind_some, hw, I_10, if_false, b1]
      have key := loop_FU (fun n (p : Nat × (Nat → Nat)) => f_X13_load_L135 n (some m) (I x.2) (I p.1) (TW m v5 (aset A5 1 p.2) h)) (fun i => (i, mixR i (mixR 356 x.1 (mixR 356 g.1 (A 2))) g.1)) 356 (some (I x.2, TW m (vup v5 6 (I 0)) A6 h)) (by omega) (fun n i hi => ?_) (fun n => ?_)
      · have e0 : aset A5 1 (mixR 0 (mixR 356 x.1 (mixR 356 g.1 (A 2))) g.1) = A5 := by
          have : mixR 0 (mixR 356 x.1 (mixR 356 g.1 (A 2))) g.1 = A5 1 := by rw [s5]; funext k; simp [mixR]
          rw [this]; exact aset_self
        simp only [e0] at key
        exact key
      · have u1 : nup (mixR i (mixR 356 x.1 (mixR 356 g.1 (A 2))) g.1) i (mixR 356 x.1 (mixR 356 g.1 (A 2)) i) = mixR (i + 1) (mixR 356 x.1 (mixR 356 g.1 (A 2))) g.1 := mixR_up
        have r2 : (aset A5 1 (mixR i (mixR 356 x.1 (mixR 356 g.1 (A 2))) g.1)) 2 = mixR 356 x.1 (mixR 356 g.1 (A 2)) := by rw [aset_ne (by decide)]; exact a52
        simp (disch := first | omega | assumption) only [f_X13_load_L135, lit_I, I_le, if_neg, tw_r1, tw_r2, Option.bind_some, tw_r2', r2, tw_ws, aset_eq, aset_aset, u1, I_add]
      · rw [hfwd]
        simp (disch := first | omega | assumption) only [f_X13_load_L135, lit_I, I_le, if_pos, tw_rcv, Option.bind_some, c1, tw_pf (k := 6) rfl]
    · obtain ⟨j1, j2, j3, j4, j5, j6⟩ := c2
      exact ⟨j1, j2, j3, by rw [vup_ne _ (by decide)]; exact j4, vup_eq _ _, j6⟩
end TW75
