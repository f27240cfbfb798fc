/-! PLAIN LAW: the items of the text, by the reference: costs, choices -/
set_option maxRecDepth 100000
/-- a token of the text -/
def Tok (tx : Nat → Nat) (n : Nat) (t : TK3) : Prop := ∃ p, p ≤ n ∧ t = tokAt tx n p
def nxt (tx : Nat → Nat) (n : Nat) (t : TK3) : TK3 := tokAt tx n t.2.2
section TOK
variable {tx : Nat → Nat} {n : Nat} {t : TK3}
theorem Tok.f (h : Tok tx n t) : t.2.1 ≤ t.2.2 ∧ t.2.2 ≤ n ∧ (t.1 ≠ 0 → t.2.1 < t.2.2) ∧ t.1 ≤ 3 := by
  obtain ⟨p, hp, rfl⟩ := h
  have := tok_spec (tx := tx) hp
  exact ⟨this.2.1, this.2.2.1, this.2.2.2.1, this.2.2.2.2⟩
theorem Tok.on (h : Tok tx n t) : Tok tx n (nxt tx n t) := ⟨_, h.f.2.1, rfl⟩
theorem Tok.lt (h : Tok tx n t) : t.2.2 ≤ (nxt tx n t).2.1 := (tok_spec (tx := tx) h.f.2.1).1
theorem Tok.dig (h : Tok tx n t) : t.1 = 2 → t.2.1 < t.2.2 ∧ ∀ k, t.2.1 ≤ k → k < t.2.2 → isDig (atT tx n k) = true := by
  intro h2
  refine ⟨h.f.2.2.1 (by omega), ?_⟩
  obtain ⟨p, hp, rfl⟩ := h
  exact tok_dig hp h2
end TOK
/-- reading: the state is well, the token in hand -/
def PS (v : Nat → Int32) (A : Nat → Nat → Nat) (g : GS) (asd : Nat → Nat) (t : TK3) : Prop := TI v A g ∧ A 2 = asd ∧ v 23 = -1 ∧ TKv v t
/-- reading has failed at e -/
def PF (v : Nat → Int32) (A : Nat → Nat → Nat) (g : GS) (asd : Nat → Nat) (e : Nat) : Prop := (∃ s', TI v A (s', g.2) ∧ ∀ k, 118 ≤ k → s' k = g.1 k) ∧ A 2 = asd ∧ v 23 = I e ∧ e < 1000
abbrev PRs : Type := Nat ⊕ ((Nat → Nat) × TK3)
/-- a result of reading -/
def PR (v : Nat → Int32) (A : Nat → Nat → Nat) (g : GS) (asd : Nat → Nat) (r : PRs) : Prop := match r with
  | .inl e => PF v A g asd e
  | .inr x => PS v A (x.1, g.2) asd x.2
/-- what a well result is like -/
def PQ (tx : Nat → Nat) (n : Nat) (s : Nat → Nat) (p : Nat) (r : PRs) : Prop := ∀ x, r = .inr x → QInv x.1 ∧ Tok tx n x.2 ∧ p ≤ x.2.2.1 ∧ (∀ k, 118 ≤ k → x.1 k = s k)
section TW72
variable {m : Nat} {v : Nat → Int32} {A : Nat → Nat → Nat} {h : PH} {g : GS} {asd : Nat → Nat} {t : TK3}
theorem PS.bd (hp : PS v A g asd t) : v 6 = I g.2.2.1 ∧ A 4 = g.2.2.2 ∧ SB (A 4) := ⟨hp.1.2.2.2.2.1, hp.1.2.2.2.2.2, hp.1.1 4⟩
/-- the token goes on -/
theorem tw_go (hp : PS v A g asd t) (hn : g.2.2.1 ≤ 140) (ht : Tok g.2.2.2 g.2.2.1 t) : ∃ v', f_X13_goOn (some m) (TW m v A h) = some (TW m v' A h) ∧ PS v' A g asd (nxt g.2.2.2 g.2.2.1 t) := by
  obtain ⟨b1, b2, b3⟩ := hp.bd
  obtain ⟨v', e1, e2, e3⟩ := tw_goOn (m := m) (v := v) (A := A) (h := h) (n := g.2.2.1) (p := t.2.2) ht.f.2.1 b1 hn b3 hp.2.2.2.2.2
  rw [b2] at e3
  exact ⟨v', e1, TI_VK hp.1 (e2 4 (by omega)) (e2 6 (by omega)), hp.2.1, (e2 23 (by omega)).trans hp.2.2.1, e3⟩
theorem tw_failT (hp : PS v A g asd t) (ht : Tok g.2.2.2 g.2.2.1 t) (hn : g.2.2.1 ≤ 140) : f_X13_fail (some m) (TW m v A h) = some (TW m (vup v 23 (I t.2.1)) A h) ∧ PF (vup v 23 (I t.2.1)) A g asd t.2.1 := by
  have := tw_fail (m := m) (v := v) (A := A) (h := h) hp.2.2.1
  rw [hp.2.2.2.2.1] at this
  have hf := ht.f
  exact ⟨this, ⟨g.1, TI_VK hp.1 (vup_ne _ (by decide)) (vup_ne _ (by decide)), fun _ _ => rfl⟩, hp.2.1, vup_eq _ _, by omega⟩
theorem PF.well {e : Nat} (hf : PF v A g asd e) : f_X13_isWell (some m) (TW m v A h) = some (I 0, TW m v A h) := tw_wellF (by have := hf.2.2.2; omega) hf.2.2.1
theorem PS.well (hp : PS v A g asd t) : f_X13_isWell (some m) (TW m v A h) = some (I 1, TW m v A h) := tw_wellT hp.2.2.1
theorem PS.num {a b : Nat} (hp : PS v A g asd t) (hn : g.2.2.1 ≤ 140) (ht : Tok g.2.2.2 g.2.2.1 t) (ha : a < 1000) (hb : b < 1000) : f_X13_numberHere (some m) (I a) (I b) (TW m v A h) = some ((match numH g.2.2.2 g.2.2.1 t a b with | some x => I x | none => -1), TW m v A h) := by
  obtain ⟨b1, b2, b3⟩ := hp.bd
  have hf := ht.f
  have hd := ht.dig
  rw [← b2] at hd ⊢
  exact tw_numberHere hp.2.2.2 (by omega) hf.1 hf.2.1 hd ha hb b1 hn b3
theorem numH_le {tx : Nat → Nat} {n : Nat} {a b x : Nat} (h : numH tx n t a b = some x) : a ≤ x ∧ x ≤ b := by
  unfold numH at h
  split at h
  · rename_i q
    cases h
    simp only [Bool.and_eq_true, decide_eq_true_eq] at q
    exact ⟨q.1.2, q.2⟩
  · cases h
/-! costs -/
def pCosts (tx : Nat → Nat) (n : Nat) : Nat → Nat → (Nat → Nat) → TK3 → PRs
  | 0, _, s, t => .inr (s, t)
  | k + 1, r, s, t => match numH tx n t 1 9 with
    | none => .inl t.2.1
    | some c => pCosts tx n k (r + 1) (nup s (3 + r) c) (nxt tx n t)
theorem QInv_cost {s : Nat → Nat} {r c : Nat} (h : QInv s) (hr : r < 5) (hc : 1 ≤ c ∧ c ≤ 9) : QInv (nup s (3 + r) c) := by
  obtain ⟨hP, ⟨h2, h3⟩, h4, h5, h6⟩ := h
  have hn := nc_le hP
  have en : nc (nup s (3 + r) c) = nc s := nc_of (nup_ne (by omega)) (nup_ne (by omega))
  have hbs : ∀ e, bsz (nup s (3 + r) c) e = bsz s e := fun e => by
    unfold bsz; rw [en]; exact sumTo_congr (fun i hi => by rw [nup_ne (by omega)])
  refine ⟨PG_of (nup_ne (by omega)) (nup_ne (by omega)) hP, ⟨by rw [nup_ne (by omega)]; exact h2, fun q hq => ?_⟩, fun d hd => ?_, fun d e hd he hde => ?_, fun i hi => ?_⟩
  · by_cases e : q = r
    · subst e; rw [nup_eq]; exact hc
    · rw [nup_ne (by omega)]; exact h3 q hq
  · rw [en] at hd
    rw [nup_ne (k := 8 + d) (by omega), nup_ne (k := 33 + d) (by omega), nup_ne (k := 58 + d) (by omega), hbs]; exact h4 d hd
  · rw [en] at hd he
    rw [nup_ne (k := 8 + d) (by omega), nup_ne (k := 8 + e) (by omega), nup_ne (k := 33 + d) (by omega), nup_ne (k := 33 + e) (by omega)]; exact h5 d e hd he hde
  · rw [nup_ne (k := 0) (by omega), nup_ne (k := 1) (by omega)] at hi
    obtain ⟨a1, a2, a3, a4⟩ := hP
    rw [nup_ne (by omega)]; exact h6 i hi
theorem pCosts_Q {tx : Nat → Nat} {n : Nat} : ∀ k r s t p, r + k = 5 → QInv s → Tok tx n t → p ≤ t.2.1 → PQ tx n s p (pCosts tx n k r s t) := by
  intro k
  induction k with
  | zero => intro r s t p _ hQ ht hp x hx; cases hx; exact ⟨hQ, ht, hp, fun _ _ => rfl⟩
  | succ k ih =>
    intro r s t p hr hQ ht hp x hx
    simp only [pCosts] at hx
    cases hq : numH tx n t 1 9 with
    | none => rw [hq] at hx; cases hx
    | some c =>
      rw [hq] at hx
      have hf := ht.f
      obtain ⟨q1, q2, q3, q4⟩ := ih (r + 1) (nup s (3 + r) c) (nxt tx n t) p (by omega) (QInv_cost hQ (by omega) (numH_le hq)) ht.on (by have := ht.lt; omega) x hx
      exact ⟨q1, q2, q3, fun k hk => by rw [q4 k hk, nup_ne (by omega)]⟩
theorem PF.lift {s : Nat → Nat} {e : Nat} (hs : ∀ k, 118 ≤ k → s k = g.1 k) (h : PF v A (s, g.2) asd e) : PF v A g asd e := by
  obtain ⟨⟨s', h1, h2⟩, h3⟩ := h
  exact ⟨⟨s', h1, fun k hk => (h2 k hk).trans (hs k hk)⟩, h3⟩
theorem PR.lift {s : Nat → Nat} {r : PRs} (hs : ∀ k, 118 ≤ k → s k = g.1 k) (h : PR v A (s, g.2) asd r) : PR v A g asd r := by
  cases r with
  | inl e => exact PF.lift hs h
  | inr x => exact h
theorem tw_costs : ∀ (k f r : Nat) (v : Nat → Int32) (A : Nat → Nat → Nat) (g : GS) (t : TK3), r + k = 5 → k + 1 < f → PS v A g asd t → g.2.2.1 ≤ 140 → Tok g.2.2.2 g.2.2.1 t → QInv g.1 →
    ∃ v' A', f_X13_readCosts_L2 f (some m) (I r) (TW m v A h) = some (TW m v' A' h) ∧ PR v' A' g asd (pCosts g.2.2.2 g.2.2.1 k r g.1 t) := by
  intro k
  induction k with
  | zero =>
    intro f r v A g t hr hf hp _ _ _
    obtain ⟨f, rfl⟩ : ∃ f', f = f' + 1 := ⟨f - 1, by omega⟩
    refine ⟨v, A, ?_, hp⟩
    simp (disch := first | omega | assumption) only [f_X13_readCosts_L2, lit_I, I_le, if_pos]
  | succ k ih =>
    intro f r v A g t hr hf hp hn ht hQ
    obtain ⟨f, rfl⟩ : ∃ f', f = f' + 1 := ⟨f - 1, by omega⟩
    have hnum := hp.num (m := m) (h := h) hn ht (show 1 < 1000 by decide) (show 9 < 1000 by decide)
    simp only [pCosts]
    cases hq : numH g.2.2.2 g.2.2.1 t 1 9 with
    | none =>
      rw [hq] at hnum
      obtain ⟨f1, f2⟩ := tw_failT (m := m) (h := h) hp ht hn
      refine ⟨_, A, ?_, f2⟩
      have hneg : ¬ ((0 : Int32) ≤ -1) := by decide
      have hgo : f_X13_readCosts_L2 (f + 1) (some m) (I r) (TW m v A h) = f_X13_readCosts_L2 f (some m) (I (r + 1)) (TW m (vup v 23 (I t.2.1)) A h) := by
        rw [f_X13_readCosts_L2]
        have hneg' : ¬ (I 0 ≤ - I 1) := by decide
        simp (disch := first | omega | assumption) only [lit_I, I_le, if_neg, tw_rcv, hp.well, hnum, f1, Option.bind_some, I_10, if_false, hneg', I_add]
      rw [hgo]
      obtain ⟨f, rfl⟩ : ∃ f', f = f' + 1 := ⟨f - 1, by omega⟩
      by_cases c : 5 ≤ r + 1
      · simp (disch := first | omega | assumption) only [f_X13_readCosts_L2, lit_I, I_le, if_pos]
      · simp (disch := first | omega | assumption) only [f_X13_readCosts_L2, lit_I, I_le, if_neg, tw_rcv, f2.well, Option.bind_some, if_true]
    | some c =>
      rw [hq] at hnum
      have hc := numH_le hq
      have s1 : A 1 = g.1 := hp.1.2.1
      have hs := TI_SB hp.1
      have hQ2 := QInv_cost (r := r) hQ (by omega) hc
      have hp2 : PS v (aset A 1 (nup g.1 (3 + r) c)) (nup g.1 (3 + r) c, g.2) asd t := ⟨TI_set hp.1 (nup_SB hs (by omega)), by rw [aset_ne (by decide)]; exact hp.2.1, hp.2.2⟩
      obtain ⟨v2, g1, g2⟩ := tw_go (m := m) (h := h) hp2 hn ht
      obtain ⟨v', A', d1, d2⟩ := ih f (r + 1) v2 _ _ _ (by omega) (by omega) g2 hn ht.on hQ2
      refine ⟨v', A', ?_, d2.lift (fun k hk => nup_ne (by omega))⟩
      rw [← d1]
      simp (disch := first | omega | assumption) only [f_X13_readCosts_L2, lit_I, I_le, if_neg, if_pos, tw_rcv, tw_r1, hp.well, I_10, if_false, hnum, Option.bind_some, I_add, tw_ws, s1, g1]
/-! choices -/
def whAll (s : Nat → Nat) (word : Nat) : Nat := if word = 2 then nc s else if word = 3 then s 0 + s 1 else 5
def canW (s : Nat → Nat) (word i : Nat) : Bool := if word = 2 then !(s (33 + i) == 0) else if word = 3 then canS s i else true
def putW (s : Nat → Nat) (word i b : Nat) : Nat → Nat := if word = 4 then nup s 2 (alw (s 2) i b) else nup s ((if word = 2 then 58 else 83) + i) b
def putA (s : Nat → Nat) (word : Nat) (all : Bool) : Nat → (Nat → Nat)
  | 0 => s
  | k + 1 => putW (putA s word all k) word k (bit ((all && canW (putA s word all k) word k) = true))
def pWh (tx : Nat → Nat) (n word : Nat) : Nat → (Nat → Nat) → TK3 → PRs
  | 0, _, _ => .inl 0
  | f + 1, s, t => match numH tx n t 0 (whAll s word - 1) with
    | none => .inl t.2.1
    | some i => if canW s word i = true then (if (nxt tx n t).1 = 2 then pWh tx n word f (putW s word i 1) (nxt tx n t) else .inr (putW s word i 1, nxt tx n t)) else .inl t.2.1
def pWhich (tx : Nat → Nat) (n word : Nat) (s : Nat → Nat) (t : TK3) : PRs :=
  if isW tx n t 7 = true ∨ isW tx n t 6 = true then .inr (putA s word (isW tx n t 7) (whAll s word), nxt tx n t) else pWh tx n word 200 (putA s word (isW tx n t 7) (whAll s word)) t
theorem QInv_rule {s : Nat → Nat} {x : Nat} (h : QInv s) (hx : x < 32) : QInv (nup s 2 x) := by
  obtain ⟨hP, ⟨h2, h3⟩, h4, h5, h6⟩ := h
  have hn := nc_le hP
  have en : nc (nup s 2 x) = nc s := nc_of (nup_ne (by omega)) (nup_ne (by omega))
  have hbs : ∀ e, bsz (nup s 2 x) e = bsz s e := fun e => by
    unfold bsz; rw [en]; exact sumTo_congr (fun i hi => by rw [nup_ne (by omega)])
  refine ⟨PG_of (nup_ne (by omega)) (nup_ne (by omega)) hP, ⟨by rw [nup_eq]; exact hx, fun q hq => by rw [nup_ne (by omega)]; exact h3 q hq⟩, fun d hd => ?_, fun d e hd he hde => ?_, fun i hi => ?_⟩
  · rw [en] at hd
    rw [nup_ne (k := 8 + d) (by omega), nup_ne (k := 33 + d) (by omega), nup_ne (k := 58 + d) (by omega), hbs]; exact h4 d hd
  · rw [en] at hd he
    rw [nup_ne (k := 8 + d) (by omega), nup_ne (k := 8 + e) (by omega), nup_ne (k := 33 + d) (by omega), nup_ne (k := 33 + e) (by omega)]; exact h5 d e hd he hde
  · rw [nup_ne (k := 0) (by omega), nup_ne (k := 1) (by omega)] at hi
    obtain ⟨a1, a2, a3, a4⟩ := hP
    rw [nup_ne (by omega)]; exact h6 i hi
/-- a choice put keeps what holds, and the places that the choices are about -/
theorem putW_Q {s : Nat → Nat} {word i b : Nat} (hw : 2 ≤ word ∧ word ≤ 4) (h : QInv s) (hi : i < whAll s word) (hb : b ≤ 1) (hc : b = 1 → canW s word i = true) : QInv (putW s word i b) ∧ (∀ k, k < 58 → k ≠ 2 → putW s word i b k = s k) ∧ (∀ k, 118 ≤ k → putW s word i b k = s k) ∧ (SB s → SB (putW s word i b)) := by
  have hn := nc_le h.1
  have hPP := h.1
  obtain ⟨p1, p2, p3, p4⟩ := hPP
  have hw' : word = 2 ∨ word = 3 ∨ word = 4 := by omega
  rcases hw' with rfl | rfl | rfl
  · have hi' : i < nc s := hi
    refine ⟨QInv_give h hi' hb (fun q => ?_), fun k hk _ => show nup s (58 + i) b k = s k from nup_ne (by omega), fun k hk => show nup s (58 + i) b k = s k from nup_ne (by omega), fun hs => nup_SB hs (by omega)⟩
    have := hc q
    simpa [canW] using this
  · have hi' : i < s 0 + s 1 := hi
    exact ⟨QInv_show h hb, fun k hk _ => show nup s (83 + i) b k = s k from nup_ne (by omega), fun k hk => show nup s (83 + i) b k = s k from nup_ne (by omega), fun hs => nup_SB hs (by omega)⟩
  · have hi' : i < 5 := hi
    have hlt := alw_lt (k := b) h.2.1.1 hi' hb
    exact ⟨QInv_rule h hlt, fun k hk hk2 => nup_ne (by omega), fun k hk => nup_ne (by omega), fun hs => nup_SB hs (by omega)⟩
theorem whAll_of {s s' : Nat → Nat} {word : Nat} (he : ∀ k, k < 58 → k ≠ 2 → s' k = s k) : whAll s' word = whAll s word := by
  unfold whAll; rw [nc_of (he 0 (by omega) (by omega)) (he 1 (by omega) (by omega)), he 0 (by omega) (by omega), he 1 (by omega) (by omega)]
theorem putA_Q {s : Nat → Nat} {word : Nat} {all : Bool} (hw : 2 ≤ word ∧ word ≤ 4) (h : QInv s) : ∀ k, k ≤ whAll s word → QInv (putA s word all k) ∧ (∀ j, j < 58 → j ≠ 2 → putA s word all k j = s j) ∧ (∀ j, 118 ≤ j → putA s word all k j = s j) ∧ (SB s → SB (putA s word all k)) := by
  intro k
  induction k with
  | zero => intro _; exact ⟨h, fun _ _ _ => rfl, fun _ _ => rfl, id⟩
  | succ k ih =>
    intro hk
    obtain ⟨i1, i2, i3, i4⟩ := ih (by omega)
    have hwa := whAll_of (word := word) i2
    have hb := bit_lt ((all && canW (putA s word all k) word k) = true)
    obtain ⟨j1, j2, j3, j4⟩ := putW_Q (i := k) (b := bit ((all && canW (putA s word all k) word k) = true)) hw i1 (by omega) (by omega) (fun q => by
      cases hq : (all && canW (putA s word all k) word k) with
      | true => exact ((Bool.and_eq_true _ _).mp hq).2
      | false => rw [hq] at q; cases q)
    exact ⟨j1, fun j h1 h2 => (j2 j h1 h2).trans (i2 j h1 h2), fun j h1 => (j3 j h1).trans (i3 j h1), fun hs => j4 (i4 hs)⟩
theorem pWh_Q {tx : Nat → Nat} {n word : Nat} (hw : 2 ≤ word ∧ word ≤ 4) : ∀ f s t p, QInv s → Tok tx n t → p ≤ t.2.1 → PQ tx n s p (pWh tx n word f s t) := by
  intro f
  induction f with
  | zero => intro s t p _ _ _ x hx; cases hx
  | succ f ih =>
    intro s t p hQ ht hp x hx
    simp only [pWh] at hx
    cases hq : numH tx n t 0 (whAll s word - 1) with
    | none => rw [hq] at hx; cases hx
    | some i =>
      rw [hq] at hx
      simp only at hx
      have hi := numH_le hq
      have hwp : 0 < whAll s word := by
        have hn := nc_le hQ.1
        have hPP := hQ.1
        obtain ⟨p1, p2, p3, p4⟩ := hPP
        unfold whAll; split
        · omega
        · split <;> omega
      have hf := ht.f
      split at hx
      · rename_i hc
        obtain ⟨j1, j2, j3, j4⟩ := putW_Q (i := i) (b := 1) hw hQ (by omega) (Nat.le_refl _) (fun _ => hc)
        split at hx
        · obtain ⟨q1, q2, q3, q4⟩ := ih _ _ p j1 ht.on (by have := ht.lt; omega) x hx
          exact ⟨q1, q2, q3, fun k hk => (q4 k hk).trans (j3 k hk)⟩
        · cases hx
          exact ⟨j1, ht.on, by have := ht.lt; show p ≤ (nxt tx n t).2.1; omega, j3⟩
      · cases hx
theorem pWhich_Q {tx : Nat → Nat} {n word : Nat} {s : Nat → Nat} {t : TK3} {p : Nat} (hw : 2 ≤ word ∧ word ≤ 4) (hQ : QInv s) (ht : Tok tx n t) (hp : p ≤ t.2.1) : PQ tx n s p (pWhich tx n word s t) := by
  intro x hx
  obtain ⟨j1, j2, j3, j4⟩ := putA_Q (all := isW tx n t 7) hw hQ (whAll s word) (Nat.le_refl _)
  have hf := ht.f
  unfold pWhich at hx
  split at hx
  · cases hx
    exact ⟨j1, ht.on, by have := ht.lt; show p ≤ (nxt tx n t).2.1; omega, j3⟩
  · obtain ⟨q1, q2, q3, q4⟩ := pWh_Q hw 200 _ _ p j1 ht hp x hx
    exact ⟨q1, q2, q3, fun k hk => (q4 k hk).trans (j3 k hk)⟩
theorem PS.word {w : Nat} (hp : PS v A g asd t) (hn : g.2.2.1 ≤ 140) (ht : Tok g.2.2.2 g.2.2.1 t) (hw : w < 8) : f_X13_isWord (some m) (I w) (TW m v A h) = some (I (bit (isW g.2.2.2 g.2.2.1 t w = true)), TW m v A h) := by
  obtain ⟨b1, b2, b3⟩ := hp.bd
  have hf := ht.f
  rw [← b2]
  exact tw_isWord hw hp.2.2.2 (by omega) hf.1 hf.2.1 b1 hn b3
theorem tw_canBe {word i : Nat} (hw : 2 ≤ word ∧ word ≤ 4) (hT : TI v A g) (hQ : QInv g.1) (hi : i < whAll g.1 word) : f_X13_canBe (some m) (I word) (I i) (TW m v A h) = some (I (bit (canW g.1 word i = true)), TW m v A h) := by
  have s1 : A 1 = g.1 := hT.2.1
  have hs := TI_SB hT
  have hn := nc_le hQ.1
  have hw' : word = 2 ∨ word = 3 ∨ word = 4 := by omega
  rcases hw' with rfl | rfl | rfl
  · have hi' : i < nc g.1 := hi
    have hb := hs (33 + i)
    by_cases q : g.1 (33 + i) = 0
    · have : canW g.1 2 i = false := by simp [canW, q]
      simp (disch := first | omega | assumption) only [f_X13_canBe, lit_I, if_true, tw_rcv, Option.bind_some, tw_numberOf, s1, q, this, bit_F]
    · have : canW g.1 2 i = true := by simp [canW, q]
      simp (disch := first | omega | assumption) only [f_X13_canBe, lit_I, if_true, tw_rcv, Option.bind_some, tw_numberOf, s1, I_eq, if_neg, this, bit_T]
  · have hi' : i < g.1 0 + g.1 1 := hi
    have hcs := tw_canShow (m := m) (v := v) (A := A) (h := h) (i := i) (by rw [s1]; exact hi') (hT.1 1) (by rw [s1]; exact hQ.1)
    rw [s1] at hcs
    have e : canW g.1 3 i = canS g.1 i := rfl
    rw [e]
    cases q : canS g.1 i with
    | false =>
      rw [q] at hcs
      simp (disch := first | omega | assumption) only [f_X13_canBe, lit_I, I_eq, if_neg, if_true, tw_rcv, Option.bind_some, hcs, bit_F, Bool.false_eq_true, bit_F']
    | true =>
      rw [q] at hcs
      simp (disch := first | omega | assumption) only [f_X13_canBe, lit_I, I_eq, if_neg, if_true, tw_rcv, Option.bind_some, hcs, bit_T]
  · simp (disch := first | omega | assumption) only [f_X13_canBe, lit_I, I_eq, if_neg]
    rfl
theorem tw_put {word i b : Nat} (hw : 2 ≤ word ∧ word ≤ 4) (hT : TI v A g) (hQ : QInv g.1) (hi : i < whAll g.1 word) : f_X13_put (some m) (I word) (I i) (I b) (TW m v A h) = some (TW m v (aset A 1 (putW g.1 word i b)) h) := by
  have s1 : A 1 = g.1 := hT.2.1
  have hn := nc_le hQ.1
  have hPP := hQ.1
  obtain ⟨p1, p2, p3, p4⟩ := hPP
  have hw' : word = 2 ∨ word = 3 ∨ word = 4 := by omega
  rcases hw' with rfl | rfl | rfl
  · have hi' : i < nc g.1 := hi
    simp (disch := first | omega | assumption) only [f_X13_put, f_X13_put_B46, lit_I, I_eq, if_neg, if_true, tw_r1, Option.bind_some, I_add, tw_ws, s1]
    rfl
  · have hi' : i < g.1 0 + g.1 1 := hi
    simp (disch := first | omega | assumption) only [f_X13_put, f_X13_put_B46, lit_I, I_eq, if_neg, tw_r1, Option.bind_some, I_add, tw_ws, s1]
    rfl
  · have hi' : i < 5 := hi
    have e : andn (g.1 2) (1 <<< i) ||| (b <<< i) = alw (g.1 2) i b := rfl
    simp (disch := first | omega | assumption) only [f_X13_put, lit_I, if_true, tw_r1, Option.bind_some, tw_s, s1, I_and, I_shlM, I_andnI, I_or, e, tw_ws]
    rfl
theorem PS.set {s : Nat → Nat} (hp : PS v A g asd t) (hs : SB s) : PS v (aset A 1 s) (s, g.2) asd t := ⟨TI_set hp.1 hs, by rw [aset_ne (by decide)]; exact hp.2.1, hp.2.2⟩
theorem tw_wh95 {word : Nat} (hw : 2 ≤ word ∧ word ≤ 4) : ∀ (k f : Nat) (v : Nat → Int32) (A : Nat → Nat → Nat) (g : GS) (t : TK3), g.2.2.1 < t.2.2 + k → k + 2 < f → PS v A g asd t → g.2.2.1 ≤ 140 → Tok g.2.2.2 g.2.2.1 t → QInv g.1 →
    ∃ v' A', f_X13_readWhich_L95 f (some m) (I word) (I (whAll g.1 word)) (I 1) (TW m v A h) = some (TW m v' A' h) ∧ PR v' A' g asd (pWh g.2.2.2 g.2.2.1 word k g.1 t) := by
  intro k
  induction k with
  | zero => intro f v A g t h1 _ _ _ ht; have := ht.f; omega
  | succ k ih =>
    intro f v A g t hk hf hp hn ht hQ
    obtain ⟨f, rfl⟩ : ∃ f', f = f' + 1 := ⟨f - 1, by omega⟩
    have hnc := nc_le hQ.1
    have hPP := hQ.1
    obtain ⟨p1, p2, p3, p4⟩ := hPP
    have hwp : 0 < whAll g.1 word ∧ whAll g.1 word ≤ 25 := by
      unfold whAll; split
      · omega
      · split <;> omega
    have hnum := hp.num (m := m) (h := h) (a := 0) (b := whAll g.1 word - 1) hn ht (by decide) (by omega)
    have s1 : A 1 = g.1 := hp.1.2.1
    have hs := TI_SB hp.1
    have ew : I (whAll g.1 word) - I 1 = I (whAll g.1 word - 1) := I_sub (by omega)
    -- the failing end
    have bad : f_X13_readWhich_B125 (f_X13_readWhich_L95 f) (some m) (I word) (I (whAll g.1 word)) (TW m v A h) = some (TW m (vup v 23 (I t.2.1)) A h) ∧ PF (vup v 23 (I t.2.1)) A g asd t.2.1 := by
      obtain ⟨f1, f2⟩ := tw_failT (m := m) (h := h) hp ht hn
      refine ⟨?_, f2⟩
      obtain ⟨f, rfl⟩ : ∃ f', f = f' + 1 := ⟨f - 1, by omega⟩
      simp (disch := first | omega | assumption) only [f_X13_readWhich_B125, f_X13_readWhich_B144, lit_I, tw_rcv, Option.bind_some, f1, f2.well, if_true, f_X13_readWhich_L95]
    simp only [pWh]
    cases hq : numH g.2.2.2 g.2.2.1 t 0 (whAll g.1 word - 1) with
    | none =>
      rw [hq] at hnum
      refine ⟨_, A, ?_, bad.2⟩
      have hneg : (- I 1 < I 0) := by decide
      simp (disch := first | omega | assumption) only [f_X13_readWhich_L95, lit_I, I_10, if_false, tw_rcv, Option.bind_some, ew, hnum, hneg, if_true]
      exact bad.1
    | some i =>
      rw [hq] at hnum
      have hi := numH_le hq
      have hcb := tw_canBe (m := m) (h := h) (i := i) hw hp.1 hQ (by omega)
      simp only
      cases hc : canW g.1 word i with
      | false =>
        rw [hc] at hcb
        refine ⟨_, A, ?_, bad.2⟩
        simp (disch := first | omega | assumption) only [f_X13_readWhich_L95, lit_I, I_10, if_false, tw_rcv, Option.bind_some, ew, hnum, I_lt, if_neg, hcb, bit_0, Bool.false_eq_true, not_false_eq_true, if_true]
        exact bad.1
      | true =>
        rw [hc] at hcb
        obtain ⟨j1, j2, j3, j4⟩ := putW_Q (i := i) (b := 1) hw hQ (by omega) (Nat.le_refl _) (fun _ => hc)
        have hpt := tw_put (m := m) (h := h) (i := i) (b := 1) hw hp.1 hQ (by omega)
        have hp2 := hp.set (j4 hs)
        obtain ⟨v2, g1, g2⟩ := tw_go (m := m) (h := h) hp2 hn ht
        have hwa := whAll_of (word := word) j2
        have hgo : f_X13_readWhich_L95 (f + 1) (some m) (I word) (I (whAll g.1 word)) (I 1) (TW m v A h) = f_X13_readWhich_B144 (f_X13_readWhich_L95 f) (some m) (I word) (I (whAll g.1 word)) (TW m v2 (aset A 1 (putW g.1 word i 1)) h) := by
          rw [f_X13_readWhich_L95]
          simp (disch := first | omega | assumption) only [lit_I, I_10, if_false, tw_rcv, Option.bind_some, ew, hnum, I_lt, if_neg, hcb, bit_0, not_true_eq_false, hpt, g1]
        rw [hgo]
        have hk1 := ht.on.f
        by_cases c : (nxt g.2.2.2 g.2.2.1 t).1 = 2
        · have hlt := ht.lt
          have h2 := ht.on.f.2.2.1 (by omega)
          obtain ⟨v', A', d1, d2⟩ := ih f v2 _ (putW g.1 word i 1, g.2) _ (by simp only; omega) (by omega) g2 hn ht.on j1
          simp only [hwa] at d1
          refine ⟨v', A', ?_, ?_⟩
          · rw [← d1]
            simp (disch := first | omega | assumption) only [f_X13_readWhich_B144, lit_I, tw_rcv, Option.bind_some, g2.well, I_10, if_false, tw_int (k := 20) rfl, g2.2.2.2.1, c, if_true]
          · rw [if_pos rfl, if_pos c]
            exact d2.lift j3
        · refine ⟨v2, aset A 1 (putW g.1 word i 1), ?_, ?_⟩
          rotate_left
          · rw [if_pos rfl, if_neg c]; exact g2
          · obtain ⟨f, rfl⟩ : ∃ f', f = f' + 1 := ⟨f - 1, by omega⟩
            simp (disch := first | omega | assumption) only [f_X13_readWhich_B144, lit_I, tw_rcv, Option.bind_some, g2.well, I_10, if_false, tw_int (k := 20) rfl, g2.2.2.2.1, I_eq, if_neg, f_X13_readWhich_L95, if_true]
theorem tw_readWhich {word : Nat} (hw : 2 ≤ word ∧ word ≤ 4) (hp : PS v A g asd t) (hn : g.2.2.1 ≤ 140) (ht : Tok g.2.2.2 g.2.2.1 t) (hQ : QInv g.1) :
    ∃ v' A', f_X13_readWhich (some m) (I word) (TW m v A h) = some (TW m v' A' h) ∧ PR v' A' g asd (pWhich g.2.2.2 g.2.2.1 word g.1 t) := by
  have s1 : A 1 = g.1 := hp.1.2.1
  have hs := TI_SB hp.1
  have hnc := nc_le hQ.1
  have hPP := hQ.1
  obtain ⟨p1, p2, p3, p4⟩ := hPP
  have hwp : 0 < whAll g.1 word ∧ whAll g.1 word ≤ 25 := by
    unfold whAll; split
    · omega
    · split <;> omega
  have hent : f_X13_readWhich (some m) (I word) (TW m v A h) = f_X13_readWhich_B25 (some m) (I word) (I (whAll g.1 word)) (TW m v A h) := by
    have hw' : word = 2 ∨ word = 3 ∨ word = 4 := by omega
    rcases hw' with rfl | rfl | rfl
    · simp (disch := first | omega | assumption) only [f_X13_readWhich, lit_I, if_true, tw_rcv, tw_cells, Option.bind_some, s1]; rfl
    · simp (disch := first | omega | assumption) only [f_X13_readWhich, lit_I, I_eq, if_neg, if_true, tw_rcv, tw_lines, Option.bind_some, s1]; rfl
    · simp (disch := first | omega | assumption) only [f_X13_readWhich, lit_I, I_eq, if_neg]; rfl
  have h7 := hp.word (m := m) (h := h) hn ht (show 7 < 8 by decide)
  rw [hent]
  have e25 : f_X13_readWhich_B25 (some m) (I word) (I (whAll g.1 word)) (TW m v A h) = f_X13_readWhich_L36 FU (some m) (I word) (I (whAll g.1 word)) (I (bit (isW g.2.2.2 g.2.2.1 t 7 = true))) (I 0) (TW m v A h) := by
    simp (disch := first | omega | assumption) only [f_X13_readWhich_B25, lit_I, tw_rcv, Option.bind_some, h7]
  rw [e25]
  have hPA := fun k hk => putA_Q (all := isW g.2.2.2 g.2.2.1 t 7) (word := word) hw hQ k hk
  obtain ⟨j1, j2, j3, j4⟩ := hPA (whAll g.1 word) (Nat.le_refl _)
  have hpe := hp.set (j4 hs)
  have hwe := whAll_of (word := word) j2
  have key : ∀ z, (∀ k, f_X13_readWhich_L36 (k + 1) (some m) (I word) (I (whAll g.1 word)) (I (bit (isW g.2.2.2 g.2.2.1 t 7 = true))) (I (whAll g.1 word)) (TW m v (aset A 1 (putA g.1 word (isW g.2.2.2 g.2.2.1 t 7) (whAll g.1 word))) h) = z) → f_X13_readWhich_L36 FU (some m) (I word) (I (whAll g.1 word)) (I (bit (isW g.2.2.2 g.2.2.1 t 7 = true))) (I 0) (TW m v A h) = z := fun z hz => by
    have := loop_FU (fun k (p : Nat × (Nat → Nat)) => f_X13_readWhich_L36 k (some m) (I word) (I (whAll g.1 word)) (I (bit (isW g.2.2.2 g.2.2.1 t 7 = true))) (I p.1) (TW m v (aset A 1 p.2) h)) (fun k => (k, putA g.1 word (isW g.2.2.2 g.2.2.1 t 7) k)) (whAll g.1 word) z (by omega) (fun k i hi => ?_) (fun k => hz k)
    · have e0 : aset A 1 (putA g.1 word (isW g.2.2.2 g.2.2.1 t 7) 0) = A := by show aset A 1 g.1 = A; rw [← s1]; exact aset_self
      simp only [e0] at this
      exact this
    · obtain ⟨i1, i2, i3, i4⟩ := hPA i (by omega)
      have hpi := hp.set (i4 hs)
      have hwi := whAll_of (word := word) i2
      have hcb := tw_canBe (m := m) (h := h) (i := i) hw hpi.1 i1 (by simp only; omega)
      have hpt := fun b => tw_put (m := m) (h := h) (i := i) (b := b) hw hpi.1 i1 (by simp only; omega)
      simp only [aset_aset] at hpt
      have eS : putA g.1 word (isW g.2.2.2 g.2.2.1 t 7) (i + 1) = putW (putA g.1 word (isW g.2.2.2 g.2.2.1 t 7) i) word i (bit ((isW g.2.2.2 g.2.2.1 t 7 && canW (putA g.1 word (isW g.2.2.2 g.2.2.1 t 7) i) word i) = true)) := rfl
      rw [eS]
      simp only at hcb
      generalize isW g.2.2.2 g.2.2.1 t 7 = bb at hcb hpt ⊢
      cases bb with
      | false =>
        simp (disch := first | omega | assumption) only [f_X13_readWhich_L36, f_X13_readWhich_B65, lit_I, I_le, if_neg, bit_0, Bool.false_eq_true, not_false_eq_true, if_true, tw_rcv, Option.bind_some, hpt, Bool.false_and, bit_F', I_add]
      | true =>
        cases hc : canW (putA g.1 word true i) word i with
        | false =>
          rw [hc] at hcb
          simp (disch := first | omega | assumption) only [f_X13_readWhich_L36, f_X13_readWhich_B65, lit_I, I_le, if_neg, bit_0, not_true_eq_false, if_false, hcb, Bool.false_eq_true, not_false_eq_true, if_true, tw_rcv, Option.bind_some, hpt, Bool.true_and, bit_F', I_add]
        | true =>
          rw [hc] at hcb
          simp (disch := first | omega | assumption) only [f_X13_readWhich_L36, f_X13_readWhich_B65, lit_I, I_le, if_neg, bit_0, not_true_eq_false, if_false, hcb, tw_rcv, Option.bind_some, hpt, Bool.true_and, bit_T, I_10, I_add]
  unfold pWhich
  cases h7b : isW g.2.2.2 g.2.2.1 t 7 with
  | true =>
    rw [h7b] at key hpe
    obtain ⟨v2, g1, g2⟩ := tw_go (m := m) (h := h) hpe hn ht
    rw [if_pos (Or.inl rfl)]
    refine ⟨v2, _, key _ (fun k => ?_), g2⟩
    simp (disch := first | omega | assumption) only [f_X13_readWhich_L36, f_X13_readWhich_B87, lit_I, I_le, if_pos, bit_0, not_true_eq_false, if_false, tw_rcv, Option.bind_some, g1]
  | false =>
    rw [h7b] at key hpe hwe j1 j3
    have h6 := hpe.word (m := m) (h := h) hn ht (show 6 < 8 by decide)
    cases h6b : isW g.2.2.2 g.2.2.1 t 6 with
    | true =>
      simp only [h6b] at h6
      obtain ⟨v2, g1, g2⟩ := tw_go (m := m) (h := h) hpe hn ht
      rw [if_pos (Or.inr rfl)]
      refine ⟨v2, _, key _ (fun k => ?_), g2⟩
      simp (disch := first | omega | assumption) only [f_X13_readWhich_L36, f_X13_readWhich_B87, lit_I, I_le, if_pos, bit_0, Bool.false_eq_true, not_false_eq_true, not_true_eq_false, if_true, if_false, tw_rcv, Option.bind_some, h6, g1]
    | false =>
      simp only [h6b] at h6
      have hno : ¬ (false = true ∨ false = true) := by intro q; rcases q with q | q <;> cases q
      rw [if_neg hno]
      have hf := ht.f
      obtain ⟨v', A', d1, d2⟩ := tw_wh95 (m := m) (h := h) hw 200 FU v _ _ t (by simp only; omega) (by rw [FU_eq]; omega) hpe hn ht j1
      simp only [hwe] at d1
      refine ⟨v', A', key _ (fun k => ?_), d2.lift j3⟩
      simp (disch := first | omega | assumption) only [f_X13_readWhich_L36, lit_I, I_le, if_pos, bit_0, Bool.false_eq_true, not_false_eq_true, if_true, tw_rcv, Option.bind_some, h6]
      exact d1
end TW72
