/-! PLAIN LAW: the page of the text, items, the whole text, by the reference -/
set_option maxRecDepth 100000
def rowO (tx : Nat → Nat) (n : Nat) (O : Nat → Nat) (b w f : Nat) : Nat → Nat := fun j => if b ≤ j ∧ j < b + w then atT tx n (f + (j - b)) else O j
/-- rows of letters: how many, how wide, the letters, the token behind -/
def pgRows (tx : Nat → Nat) (n : Nat) : Nat → Nat → Nat → (Nat → Nat) → TK3 → Nat ⊕ (Nat × Nat × (Nat → Nat) × TK3)
  | 0, rows, wide, O, t => .inr (rows, wide, O, t)
  | k + 1, rows, wide, O, t => if t.1 = 1 then
      (if 2 ≤ (if rows = 0 then t.2.2 - t.2.1 else wide) ∧ (if rows = 0 then t.2.2 - t.2.1 else wide) ≤ 5 ∧ t.2.2 - t.2.1 = (if rows = 0 then t.2.2 - t.2.1 else wide) then pgRows tx n k (rows + 1) (if rows = 0 then t.2.2 - t.2.1 else wide) (rowO tx n O (8 + (if rows = 0 then t.2.2 - t.2.1 else wide) * rows) (if rows = 0 then t.2.2 - t.2.1 else wide) t.2.1) (nxt tx n t) else .inl t.2.1)
    else .inr (rows, wide, O, t)
def sLet (s O : Nat → Nat) (R C : Nat) : Nat → Nat := fun k => if 8 ≤ k ∧ k < 8 + R * C then O k else sPage s R C k
noncomputable def propB (s : Nat → Nat) (many : Nat) : Bool := allB (fun b => connB s b none && decide (bsz s b ≤ 6)) many
noncomputable def pPage (tx : Nat → Nat) (n : Nat) (s : Nat → Nat) (t : TK3) : PRs := match pgRows tx n 5 0 (t.2.2 - t.2.1) (fun _ => 0) t with
  | .inl e => .inl e
  | .inr x => if x.1 < 2 ∨ isSt tx n x.2.2.2 = false then .inl x.2.2.2.2.1 else
      if propB (sRen (sLet s x.2.2.1 x.1 x.2.1)) (rkTo (sLet s x.2.2.1 x.1 x.2.1) (x.1 * x.2.1)) = true then .inr (sRen (sLet s x.2.2.1 x.1 x.2.1), x.2.2.2) else .inl x.2.2.2.2.1
theorem pgRows_ok {tx : Nat → Nat} {n : Nat} : ∀ k rows wide O t x p, rows + k = 5 → (rows = 0 ∨ (2 ≤ wide ∧ wide ≤ 5)) → SB O → SB tx → Tok tx n t → p ≤ t.2.1 → pgRows tx n k rows wide O t = .inr x → x.1 ≤ 5 ∧ (x.1 = 0 ∨ (2 ≤ x.2.1 ∧ x.2.1 ≤ 5)) ∧ SB x.2.2.1 ∧ Tok tx n x.2.2.2 ∧ p ≤ x.2.2.2.2.1 := by
  intro k
  induction k with
  | zero => intro rows wide O t x p hr hw hO _ ht hp hx; cases hx; exact ⟨by simp only; omega, hw, hO, ht, hp⟩
  | succ k ih =>
    intro rows wide O t x p hr hw hO hT ht hp hx
    simp only [pgRows] at hx
    generalize (if rows = 0 then t.2.2 - t.2.1 else wide) = W at hx
    split at hx
    · split at hx
      · rename_i c
        have hf := ht.f
        refine ih (rows + 1) _ _ _ x p (by omega) (Or.inr ⟨c.1, c.2.1⟩) ?_ hT ht.on (by have := ht.lt; omega) hx
        intro j
        unfold rowO
        split
        · exact atT_lt hT
        · exact hO j
      · cases hx
    · cases hx; exact ⟨by simp only; omega, hw, hO, ht, hp⟩
theorem QInv_blank {s u : Nat → Nat} {R C : Nat} (h : QInv s) (hR : 2 ≤ R ∧ R ≤ 5) (hC : 2 ≤ C ∧ C ≤ 5) (he : ∀ k, k < 8 ∨ 8 + R * C ≤ k → 2 ≤ R * C → (k < 8 ∨ 33 ≤ k) → u k = sPage s R C k) (hb : ∀ c, c < R * C → bsz u (u (8 + c)) ≤ 6) : QInv u := by
  have hRC : R * C ≤ 25 := Nat.mul_le_mul hR.2 hC.2
  have hRC2 : 4 ≤ R * C := Nat.mul_le_mul hR.1 hC.1
  obtain ⟨e0, e1, -⟩ := sPage_Eq (s := s) (R := R) (C := C)
  have he' : ∀ k, k < 8 ∨ 33 ≤ k → u k = sPage s R C k := fun k hk => he k (by omega) (by omega) hk
  have u0 : u 0 = R := (he' 0 (by omega)).trans e0
  have u1 : u 1 = C := (he' 1 (by omega)).trans e1
  have en : nc u = R * C := by unfold nc; rw [u0, u1]
  obtain ⟨q1, q2⟩ := QInv_page (R := R) (C := C) h hR hC
  have en0 : nc (sPage s R C) = R * C := by unfold nc; rw [e0, e1]
  have hz : ∀ c, c < R * C → sPage s R C (33 + c) = 0 ∧ sPage s R C (58 + c) = 0 := fun c hc => by
    unfold sPage sHide sLay
    constructor
    · rw [if_neg (by omega), if_neg (by omega), if_neg (by omega), if_neg (by omega), if_pos (by omega)]
    · rw [if_neg (by omega), if_neg (by omega), if_neg (by omega), if_neg (by omega), if_neg (by omega), if_pos (by omega)]
  refine ⟨⟨by omega, by omega, by omega, by omega⟩, ⟨by rw [he' 2 (by omega)]; exact q1.2.1.1, fun r hr => by rw [he' (3 + r) (by omega)]; exact q1.2.1.2 r hr⟩, fun c hc => ?_, fun c d hc hd _ _ _ => ?_, fun i hi => ?_⟩
  · rw [en] at hc
    rw [he' (33 + c) (by omega), he' (58 + c) (by omega), (hz c hc).1, (hz c hc).2]
    exact ⟨hb c hc, Nat.zero_le _, by decide, fun q => by cases q⟩
  · rw [en] at hc
    rw [he' (33 + c) (by omega), (hz c hc).1]
  · rw [u0, u1] at hi
    rw [he' (83 + i) (by omega)]
    exact q1.2.2.2.2 i (by rw [e0, e1]; exact hi)
theorem sLet_0 {s O : Nat → Nat} {R C : Nat} : sLet s O R C 0 = R ∧ sLet s O R C 1 = C := by
  obtain ⟨e0, e1, -⟩ := sPage_Eq (s := s) (R := R) (C := C)
  unfold sLet
  exact ⟨by rw [if_neg (by omega)]; exact e0, by rw [if_neg (by omega)]; exact e1⟩
theorem PG_sLet {s O : Nat → Nat} {R C : Nat} (hR : 2 ≤ R ∧ R ≤ 5) (hC : 2 ≤ C ∧ C ≤ 5) : PG' (sLet s O R C) := by
  obtain ⟨e0, e1⟩ := sLet_0 (s := s) (O := O) (R := R) (C := C)
  exact ⟨by omega, by omega, by omega, by omega⟩
theorem nc_sLet {s O : Nat → Nat} {R C : Nat} : nc (sLet s O R C) = R * C := by
  obtain ⟨e0, e1⟩ := sLet_0 (s := s) (O := O) (R := R) (C := C)
  unfold nc; rw [e0, e1]
theorem propB_Q {s O : Nat → Nat} {R C : Nat} (h : QInv s) (hR : 2 ≤ R ∧ R ≤ 5) (hC : 2 ≤ C ∧ C ≤ 5) (hpr : propB (sRen (sLet s O R C)) (rkTo (sLet s O R C) (R * C)) = true) : QInv (sRen (sLet s O R C)) := by
  have hRC : R * C ≤ 25 := Nat.mul_le_mul hR.2 hC.2
  have hP := PG_sLet (s := s) (O := O) hR hC
  have en := nc_sLet (s := s) (O := O) (R := R) (C := C)
  refine QInv_blank h hR hC (fun k h1 _ h3 => ?_) (fun c hc => ?_)
  · rw [sRen_ne (by omega) hP]
    unfold sLet; rw [if_neg (by omega)]
  · unfold propB at hpr
    rw [allB_iff] at hpr
    rw [sRen_8 (by rw [en]; exact hc)]
    have hrk : rk (sLet s O R C) c < rkTo (sLet s O R C) (R * C) := by
      have h1 := fst_spec (s := sLet s O R C) (c := c) (by rw [en]; exact hc)
      have h5 := rkTo_mono (s := sLet s O R C) (show fst (sLet s O R C) c + 1 ≤ R * C by omega)
      have h6 : rkTo (sLet s O R C) (fst (sLet s O R C) c + 1) = rkTo (sLet s O R C) (fst (sLet s O R C) c) + bit (isF (sLet s O R C) (fst (sLet s O R C) c) = true) := rfl
      rw [bit_t (by unfold isF; rw [fst_fst (by rw [en]; exact hc)]; simp)] at h6
      unfold rk; omega
    have := hpr _ hrk
    simp only [Bool.and_eq_true, decide_eq_true_eq] at this
    exact this.2
theorem sLet_hi {s O : Nat → Nat} {R C k : Nat} (hR : R ≤ 5) (hC : C ≤ 5) (hk : 118 ≤ k) : sLet s O R C k = s k := by
  have hRC : R * C ≤ 25 := Nat.mul_le_mul hR hC
  unfold sLet sPage sHide sLay
  simp (disch := omega) only [if_neg]
theorem pPage_Q {tx : Nat → Nat} {n : Nat} {s : Nat → Nat} {t : TK3} {p : Nat} (hQ : QInv s) (hT : SB tx) (ht : Tok tx n t) (hp : p ≤ t.2.1) : PQ tx n s p (pPage tx n s t) := by
  intro y hy
  unfold pPage at hy
  cases hr : pgRows tx n 5 0 (t.2.2 - t.2.1) (fun _ => 0) t with
  | inl e => rw [hr] at hy; cases hy
  | inr x =>
    rw [hr] at hy
    simp only at hy
    obtain ⟨q1, q2, q3, q4, q5⟩ := pgRows_ok 5 0 _ _ t x p (by omega) (Or.inl rfl) (fun _ => by decide) hT ht hp hr
    split at hy
    · cases hy
    · rename_i c
      have c1 : ¬ x.1 < 2 := fun q => c (Or.inl q)
      split at hy
      · rename_i c2
        cases hy
        have hR : 2 ≤ x.1 ∧ x.1 ≤ 5 := by omega
        have hC : 2 ≤ x.2.1 ∧ x.2.1 ≤ 5 := by omega
        refine ⟨propB_Q hQ hR hC c2, q4, q5, fun k hk => ?_⟩
        show sRen (sLet s x.2.2.1 x.1 x.2.1) k = s k
        rw [sRen_ne (by omega) (PG_sLet hR hC), sLet_hi hR.2 hC.2 hk]
      · cases hy
section TW74
variable {m : Nat} {v : Nat → Int32} {A : Nat → Nat → Nat} {h : PH} {g : GS} {asd : Nat → Nat} {t : TK3}
theorem PS.ten {w : Nat → Nat} (hp : PS v A g asd t) (hw : SB w) : PS v (aset A 10 w) g asd t := ⟨TI_10 hp.1 hw, by rw [aset_ne (by decide)]; exact hp.2.1, hp.2.2⟩
theorem PS.stop (hp : PS v A g asd t) (hn : g.2.2.1 ≤ 140) (ht : Tok g.2.2.2 g.2.2.1 t) : f_X13_isStop (some m) (TW m v A h) = some (I (bit (isSt g.2.2.2 g.2.2.1 t = true)), TW m v A h) := by
  obtain ⟨b1, b2, b3⟩ := hp.bd
  have hf := ht.f
  rw [← b2]
  exact tw_isStop hp.2.2.2 (by omega) (by omega) b1 hn b3
/-- after a failure a page's reading ends -/
theorem pg_out {f rows : Nat} {wide : Int32} {e : Nat} (hF : PF v A g asd e) : f_X13_readPage_L12 (f + 1) (some m) (I rows) wide (TW m v A h) = some (TW m v A h) := by
  simp (disch := first | omega | assumption) only [f_X13_readPage_L12, f_X13_readPage_B136, f_X13_readPage_B159, lit_I, tw_rcv, Option.bind_some, hF.well, if_true]
/-- the rows of letters -/
theorem tw_pg12 : ∀ (k f rows wide : Nat) (v : Nat → Int32) (A : Nat → Nat → Nat) (O : Nat → Nat) (g : GS) (t : TK3), rows + k = 5 → (rows = 0 ∨ (2 ≤ wide ∧ wide ≤ 5)) → k + 1 < f → PS v A g asd t → g.2.2.1 ≤ 140 → Tok g.2.2.2 g.2.2.1 t → SB g.2.2.2 → (rows = 0 → wide = t.2.2 - t.2.1) → (∀ j, 8 ≤ j → j < 8 + wide * rows → A 10 j = O j) →
    match pgRows g.2.2.2 g.2.2.1 k rows wide O t with
    | .inl e => ∃ v' A', f_X13_readPage_L12 f (some m) (I rows) (I wide) (TW m v A h) = some (TW m v' A' h) ∧ PF v' A' g asd e
    | .inr x => ∃ v' A', f_X13_readPage_L12 f (some m) (I rows) (I wide) (TW m v A h) = f_X13_readPage_B136 (some m) (I x.1) (I x.2.1) (TW m v' A' h) ∧ PS v' A' g asd x.2.2.2 ∧ (∀ j, 8 ≤ j → j < 8 + x.2.1 * x.1 → A' 10 j = x.2.2.1 j) := by
  intro k
  induction k with
  | zero =>
    intro f rows wide v A O g t hr hw hf hp hn ht hT hwt hO
    obtain ⟨f, rfl⟩ : ∃ f', f = f' + 1 := ⟨f - 1, by omega⟩
    simp only [pgRows]
    refine ⟨v, A, ?_, hp, hO⟩
    obtain ⟨t1, t2, t3⟩ := hp.2.2.2
    have hf4 := ht.f
    by_cases c : t.1 = 1
    · simp (disch := first | omega | assumption) only [f_X13_readPage_L12, lit_I, tw_rcv, Option.bind_some, hp.well, I_10, if_false, tw_int (k := 20) rfl, t1, c, if_true, I_le, if_pos]
    · simp (disch := first | omega | assumption) only [f_X13_readPage_L12, lit_I, tw_rcv, Option.bind_some, hp.well, I_10, if_false, tw_int (k := 20) rfl, t1, I_eq, if_neg]
  | succ k ih =>
    intro f rows wide v A O g t hr hw hf hp hn ht hT hwt hO
    obtain ⟨f, rfl⟩ : ∃ f', f = f' + 1 := ⟨f - 1, by omega⟩
    obtain ⟨t1, t2, t3⟩ := hp.2.2.2
    have hf4 := ht.f
    have esub : I t.2.2 - I t.2.1 = I (t.2.2 - t.2.1) := I_sub hf4.1
    simp only [pgRows]
    by_cases c : t.1 = 1
    · rw [if_pos c]
      have ew : (if rows = 0 then t.2.2 - t.2.1 else wide) = wide := by
        by_cases q : rows = 0
        · rw [if_pos q, hwt q]
        · rw [if_neg q]
      rw [ew]
      have hent : f_X13_readPage_L12 (f + 1) (some m) (I rows) (I wide) (TW m v A h) = f_X13_readPage_B49 (f_X13_readPage_L12 f) (some m) (I rows) (I wide) (TW m v A h) := by
        rw [f_X13_readPage_L12]
        by_cases q : rows = 0
        · have := hwt q
          simp (disch := first | omega | assumption) only [lit_I, tw_rcv, Option.bind_some, hp.well, I_10, if_false, tw_int (k := 20) rfl, tw_int (k := 21) rfl, tw_int (k := 22) rfl, t1, t2, t3, c, if_true, I_le, if_neg, q, esub, this]
        · simp (disch := first | omega | assumption) only [lit_I, tw_rcv, Option.bind_some, hp.well, I_10, if_false, tw_int (k := 20) rfl, t1, c, if_true, I_le, I_eq, if_neg]
      rw [hent]
      have hwl : wide < 1000 := by
        by_cases q : rows = 0
        · have := hwt q; omega
        · omega
      have hin : f_X13_in (I wide) (I 2) (I 5) (TW m v A h) = some (I (bit ((decide (2 ≤ wide) && decide (wide ≤ 5)) = true)), TW m v A h) := by
        rw [inZ, bt_I (by omega) (by decide) (by decide)]
      by_cases c2 : 2 ≤ wide ∧ wide ≤ 5 ∧ t.2.2 - t.2.1 = wide
      · rw [if_pos c2]
        have hd : (decide (2 ≤ wide) && decide (wide ≤ 5)) = true := by simp [c2.1, c2.2.1]
        have hwr : wide * rows ≤ 20 := by
          have := Nat.mul_le_mul c2.2.1 (show rows ≤ 4 by omega); omega
        let st : Nat → (Nat → Nat) := fun i => rowO g.2.2.2 g.2.2.1 (A 10) (8 + wide * rows) i t.2.1
        have hstS : ∀ i, SB (st i) := fun i j => by
          simp only [st, rowO]; split
          · exact atT_lt hT
          · exact hp.1.1 10 j
        have key := loop_FU (fun n (p : Nat × (Nat → Nat)) => f_X13_readPage_L78 (f_X13_readPage_L12 f) n (some m) (I rows) (I wide) (I p.1) (TW m v (aset A 10 p.2) h)) (fun i => (i, st i)) wide (f_X13_readPage_B119 (f_X13_readPage_L12 f) (some m) (I rows) (I wide) (TW m v (aset A 10 (st wide)) h)) (by omega) (fun n i hi => ?_) (fun n => ?_)
        · have e0 : st 0 = A 10 := by funext j; simp only [st, rowO]; rw [if_neg (by omega)]
          simp only [e0, aset_self] at key
          have hp2 := hp.ten (hstS wide)
          obtain ⟨v2, g1, g2⟩ := tw_go (m := m) (h := h) hp2 hn ht
          have hlt := ht.lt
          have := ih f (rows + 1) wide v2 _ (rowO g.2.2.2 g.2.2.1 O (8 + wide * rows) wide t.2.1) g (nxt g.2.2.2 g.2.2.1 t) (by omega) (Or.inr ⟨c2.1, c2.2.1⟩) (by omega) g2 hn ht.on hT (fun q => by omega) (fun j j1 j2 => by
            rw [aset_eq]
            simp only [st, rowO]
            split
            · rfl
            · rw [Nat.mul_add, Nat.mul_one] at j2; exact hO j j1 (by omega))
          have hgo : f_X13_readPage_B49 (f_X13_readPage_L12 f) (some m) (I rows) (I wide) (TW m v A h) = f_X13_readPage_L12 f (some m) (I (rows + 1)) (I wide) (TW m v2 (aset A 10 (st wide)) h) := by
            have e1 : f_X13_readPage_B49 (f_X13_readPage_L12 f) (some m) (I rows) (I wide) (TW m v A h) = f_X13_readPage_L78 (f_X13_readPage_L12 f) FU (some m) (I rows) (I wide) (I 0) (TW m v A h) := by
              simp (disch := first | omega | assumption) only [f_X13_readPage_B49, lit_I, hin, hd, bit_0, not_true_eq_false, if_false, Option.bind_some, tw_int (k := 21) rfl, tw_int (k := 22) rfl, t2, t3, esub, c2.2.2, if_true]
            rw [e1, key]
            simp (disch := first | omega | assumption) only [f_X13_readPage_B119, lit_I, tw_rcv, Option.bind_some, hp2.well, I_10, if_false, g1, I_add]
          rw [hgo]
          exact this
        · have hpi := hp.ten (hstS i)
          have hat := hpi.at (m := m) (h := h) (i := t.2.1 + i) hn (by omega)
          have e2 : nup (st i) (8 + wide * rows + i) (atT g.2.2.2 g.2.2.1 (t.2.1 + i)) = st (i + 1) := by
            funext j
            simp only [nup, st, rowO]
            by_cases e : j = 8 + wide * rows + i
            · subst e
              rw [if_pos rfl, if_pos (by omega), Nat.add_sub_cancel_left]
            · rw [if_neg e]
              by_cases e3 : 8 + wide * rows ≤ j ∧ j < 8 + wide * rows + i
              · rw [if_pos e3, if_pos (by omega)]
              · rw [if_neg e3, if_neg (by omega)]
          simp (disch := first | omega | assumption) only [f_X13_readPage_L78, lit_I, I_le, if_neg, tw_rcv, tw_r17, Option.bind_some, hpi.well, I_10, if_false, tw_int (k := 21) rfl, t2, I_add, I_mul, hat, tw_w10, aset_eq, aset_aset, e2]
        · simp (disch := first | omega | assumption) only [f_X13_readPage_L78, lit_I, I_le, if_pos]
      · rw [if_neg c2]
        obtain ⟨f1, f2⟩ := tw_failT (m := m) (h := h) hp ht hn
        refine ⟨_, A, ?_, f2⟩
        have h72 : f_X13_readPage_B49 (f_X13_readPage_L12 f) (some m) (I rows) (I wide) (TW m v A h) = f_X13_readPage_B72 (f_X13_readPage_L12 f) (some m) (I rows) (I wide) (TW m v A h) := by
          cases hd : (decide (2 ≤ wide) && decide (wide ≤ 5)) with
          | false => simp (disch := first | omega | assumption) only [f_X13_readPage_B49, lit_I, hin, hd, bit_0, Bool.false_eq_true, not_false_eq_true, if_true, Option.bind_some]
          | true =>
            have c3 : ¬ t.2.2 - t.2.1 = wide := fun q => c2 (by simp at hd; exact ⟨hd.1, hd.2, q⟩)
            simp (disch := first | omega | assumption) only [f_X13_readPage_B49, lit_I, hin, hd, bit_0, not_true_eq_false, if_false, Option.bind_some, tw_int (k := 21) rfl, tw_int (k := 22) rfl, t2, t3, esub, I_eq, if_neg]
        obtain ⟨f0, hF⟩ : ∃ f, FU = f + 1 := ⟨999999, FU_eq⟩
        obtain ⟨f, rfl⟩ : ∃ f', f = f' + 1 := ⟨f - 1, by omega⟩
        rw [h72]
        simp (disch := first | omega | assumption) only [f_X13_readPage_B72, tw_rcv, Option.bind_some, f1]
        rw [hF]
        have ho := pg_out (m := m) (h := h) (f := f) (rows := rows + 1) (wide := I wide) f2
        by_cases c4 : wide = 0
        · simp (disch := first | omega | assumption) only [f_X13_readPage_L78, f_X13_readPage_B119, lit_I, I_le, if_pos, c4, tw_rcv, Option.bind_some, f2.well, if_true, I_add]
          rw [c4] at ho; exact ho
        · simp (disch := first | omega | assumption) only [f_X13_readPage_L78, f_X13_readPage_B119, lit_I, I_le, if_neg, tw_rcv, Option.bind_some, f2.well, if_true, I_add]
          exact ho
    · rw [if_neg c]
      refine ⟨v, A, ?_, hp, hO⟩
      rw [f_X13_readPage_L12]
      simp (disch := first | omega | assumption) only [lit_I, tw_rcv, Option.bind_some, hp.well, I_10, if_false, tw_int (k := 20) rfl, t1, I_eq, if_neg]
theorem tw_connN {b : Nat} (hT : TI v A g) (hP : PG' g.1) (hb : b < 1000000) : ∃ M, f_X13_isConnected (some m) (I b) (- I 1) (TW m v A h) = some (I (bit (connB g.1 b none = true)), TW m v (aset A 8 M) h) ∧ SB M := by
  obtain ⟨M', r, e1, e2, e3⟩ := tw_isConnected (m := m) (v := v) (h := h) (b := b) (but := none) hb (fun j hj => by cases hj) hT.1 (by rw [hT.2.1]; exact hP)
  rw [hT.2.1] at e3
  rw [connB_eq e3] at e1
  exact ⟨M', e1, e2⟩
/-- blocks looked at: all are well, or reading has failed -/
theorem tw_pg215 {many : Nat} (hm : many ≤ 25) (hn : g.2.2.1 ≤ 140) (ht : Tok g.2.2.2 g.2.2.1 t) (hP : PG' g.1) : ∀ (d f b : Nat) (A : Nat → Nat → Nat), b + d = many → d < f →
    (PS v A g asd t → allB (fun b => connB g.1 b none && decide (bsz g.1 b ≤ 6)) b = true → ∃ v' A', f_X13_readPage_L215 f (some m) (I many) (I b) (TW m v A h) = some (TW m v' A' h) ∧ PR v' A' g asd (if propB g.1 many = true then .inr (g.1, t) else .inl t.2.1)) ∧
    (∀ v, (∃ A0 : Nat → Nat → Nat, PF v A g asd t.2.1 ∧ A 1 = g.1) → ∃ A', f_X13_readPage_L215 f (some m) (I many) (I b) (TW m v A h) = some (TW m v A' h) ∧ PF v A' g asd t.2.1) := by
  intro d
  induction d with
  | zero =>
    intro f b A hbd hf
    obtain ⟨f, rfl⟩ : ∃ f', f = f' + 1 := ⟨f - 1, by omega⟩
    have : b = many := by omega
    subst this
    refine ⟨fun hp hall => ⟨v, A, ?_, ?_⟩, fun v ⟨_, hF, _⟩ => ⟨A, ?_, hF⟩⟩
    · simp (disch := first | omega | assumption) only [f_X13_readPage_L215, lit_I, I_le, if_pos]
    · unfold propB; rw [hall, if_pos rfl]; exact hp
    · simp (disch := first | omega | assumption) only [f_X13_readPage_L215, lit_I, I_le, if_pos]
  | succ d ih =>
    intro f b A hbd hf
    obtain ⟨f, rfl⟩ : ∃ f', f = f' + 1 := ⟨f - 1, by omega⟩
    have hbz : bsz g.1 b ≤ 25 := by
      have hnn := nc_le hP
      have hone : ∀ n, sumTo (fun _ => 1) n = n := fun n => by induction n with | zero => rfl | succ n ih => simp [sumTo, ih]
      have : bsz g.1 b ≤ sumTo (fun _ => 1) (nc g.1) := sumTo_le (fun c hc => by split <;> omega)
      rw [hone] at this; omega
    refine ⟨fun hp hall => ?_, fun v ⟨_, hF, hA1⟩ => ?_⟩
    · obtain ⟨M, c1, c2⟩ := tw_connN (m := m) (h := h) (b := b) hp.1 hP (by omega)
      have hp2 : PS v (aset A 8 M) g asd t := ⟨TI_o hp.1 c2 (by decide) (by decide) (by decide), by rw [aset_ne (by decide)]; exact hp.2.1, hp.2.2⟩
      have s2 : (aset A 8 M) 1 = g.1 := hp2.1.2.1
      have hbs := tw_blockSize (m := m) (v := v) (h := h) (A := aset A 8 M) (b := b) (by omega) (hp2.1.1 1) (by rw [s2]; exact hP)
      rw [s2] at hbs
      obtain ⟨ih1, ih2⟩ := ih f (b + 1) (aset A 8 M) (by omega) (by omega)
      cases hc : (connB g.1 b none && decide (bsz g.1 b ≤ 6)) with
      | true =>
        obtain ⟨hc1, hc2⟩ := (Bool.and_eq_true _ _).mp hc
        have hc2' : bsz g.1 b ≤ 6 := by simpa using hc2
        obtain ⟨v', A', d1, d2⟩ := ih1 hp2 (by simp only [allB, hall, hc, Bool.and_self])
        refine ⟨v', A', ?_, d2⟩
        rw [← d1]
        simp (disch := first | omega | assumption) only [f_X13_readPage_L215, lit_I, I_le, if_neg, tw_rcv, Option.bind_some, c1, hc1, bit_0, not_true_eq_false, if_false, hbs, if_pos, I_add]
      | false =>
        obtain ⟨f1, f2⟩ := tw_failT (m := m) (h := h) hp2 ht hn
        obtain ⟨A', d1, d2⟩ := ih2 _ ⟨A, f2, s2⟩
        have hpn : propB g.1 many = false := by
          refine Bool.eq_false_iff.mpr (fun q => ?_)
          unfold propB at q
          rw [allB_iff] at q
          have := q b (by omega)
          rw [hc] at this; cases this
        refine ⟨_, A', ?_, by rw [hpn]; exact d2⟩
        rw [← d1]
        cases hcb : connB g.1 b none with
        | false =>
          rw [hcb] at c1
          simp (disch := first | omega | assumption) only [f_X13_readPage_L215, f_X13_readPage_B242, lit_I, I_le, if_neg, tw_rcv, Option.bind_some, c1, bit_0, Bool.false_eq_true, not_false_eq_true, if_true, f1, I_add]
        | true =>
          rw [hcb] at c1 hc
          have hc2 : ¬ bsz g.1 b ≤ 6 := fun q => by simp [q] at hc
          simp (disch := first | omega | assumption) only [f_X13_readPage_L215, f_X13_readPage_B242, lit_I, I_le, if_neg, tw_rcv, Option.bind_some, c1, bit_0, not_true_eq_false, if_false, hbs, f1, I_add]
    · -- it has failed already
      obtain ⟨s', e1, e2⟩ := hF.rd
      have hs' : s' = g.1 := e1.symm.trans hA1
      subst hs'
      have hTI : TI v A g := e2
      obtain ⟨M, c1, c2⟩ := tw_connN (m := m) (h := h) (b := b) hTI hP (by omega)
      have hT2 : TI v (aset A 8 M) g := TI_o hTI c2 (by decide) (by decide) (by decide)
      have hF2 : PF v (aset A 8 M) g asd t.2.1 := ⟨⟨g.1, hT2, fun _ _ => rfl⟩, by rw [aset_ne (by decide)]; exact hF.2.1, hF.2.2⟩
      have s2 : (aset A 8 M) 1 = g.1 := hT2.2.1
      have hbs := tw_blockSize (m := m) (v := v) (h := h) (A := aset A 8 M) (b := b) (by omega) (hT2.1 1) (by rw [s2]; exact hP)
      rw [s2] at hbs
      obtain ⟨-, ih2⟩ := ih f (b + 1) (aset A 8 M) (by omega) (by omega)
      obtain ⟨A', d1, d2⟩ := ih2 v ⟨A, hF2, s2⟩
      have hfl : f_X13_fail (some m) (TW m v (aset A 8 M) h) = some (TW m v (aset A 8 M) h) := by
        have h1000 := hF.2.2.2
        simp (disch := first | omega | assumption) only [f_X13_fail, f_X13_fail_B19, lit_I, tw_int (k := 23) rfl, hF.2.2.1, Option.bind_some, I_le, if_pos, tw_pf (k := 23) rfl, vup_id hF.2.2.1]
      refine ⟨A', ?_, d2⟩
      rw [← d1]
      cases hcb : connB g.1 b none with
      | false =>
        rw [hcb] at c1
        simp (disch := first | omega | assumption) only [f_X13_readPage_L215, f_X13_readPage_B242, lit_I, I_le, if_neg, tw_rcv, Option.bind_some, c1, bit_0, Bool.false_eq_true, not_false_eq_true, if_true, hfl, I_add]
      | true =>
        rw [hcb] at c1
        by_cases hc2 : bsz g.1 b ≤ 6
        · simp (disch := first | omega | assumption) only [f_X13_readPage_L215, f_X13_readPage_B242, lit_I, I_le, if_neg, if_pos, tw_rcv, Option.bind_some, c1, bit_0, not_true_eq_false, if_false, hbs, I_add]
        · simp (disch := first | omega | assumption) only [f_X13_readPage_L215, f_X13_readPage_B242, lit_I, I_le, if_neg, tw_rcv, Option.bind_some, c1, bit_0, not_true_eq_false, if_false, hbs, hfl, I_add]
theorem tw_readPage (hp : PS v A g asd t) (hn : g.2.2.1 ≤ 140) (ht : Tok g.2.2.2 g.2.2.1 t) (hQ : QInv g.1) (hT : SB g.2.2.2) :
    ∃ v' A', f_X13_readPage (some m) (TW m v A h) = some (TW m v' A' h) ∧ PR v' A' g asd (pPage g.2.2.2 g.2.2.1 g.1 t) := by
  obtain ⟨t1, t2, t3⟩ := hp.2.2.2
  have hf4 := ht.f
  have esub : I t.2.2 - I t.2.1 = I (t.2.2 - t.2.1) := I_sub hf4.1
  have h12 := tw_pg12 (m := m) (h := h) (asd := asd) 5 FU 0 (t.2.2 - t.2.1) v A (fun _ => 0) g t (by omega) (Or.inl rfl) (by rw [FU_eq]; omega) hp hn ht hT (fun _ => rfl) (fun j j1 j2 => by omega)
  have hent : f_X13_readPage (some m) (TW m v A h) = f_X13_readPage_L12 FU (some m) (I 0) (I (t.2.2 - t.2.1)) (TW m v A h) := by
    simp (disch := first | omega | assumption) only [f_X13_readPage, lit_I, tw_int (k := 21) rfl, tw_int (k := 22) rfl, t2, t3, Option.bind_some, esub]
  rw [hent]
  unfold pPage
  cases hr : pgRows g.2.2.2 g.2.2.1 5 0 (t.2.2 - t.2.1) (fun _ => 0) t with
  | inl e => rw [hr] at h12; exact h12
  | inr x =>
    rw [hr] at h12
    simp only at h12 ⊢
    obtain ⟨v2, A2, d1, hp2, hO⟩ := h12
    obtain ⟨q1, q2, q3, q4, q5⟩ := pgRows_ok 5 0 _ _ t x 0 (by omega) (Or.inl rfl) (fun _ => by decide) hT ht (Nat.zero_le _) hr
    have hst := hp2.stop (m := m) (h := h) hn q4
    rw [d1]
    by_cases c : x.1 < 2 ∨ isSt g.2.2.2 g.2.2.1 x.2.2.2 = false
    · rw [if_pos c]
      obtain ⟨f1, f2⟩ := tw_failT (m := m) (h := h) hp2 q4 hn
      refine ⟨_, A2, ?_, f2⟩
      by_cases c1 : x.1 < 2
      · simp (disch := first | omega | assumption) only [f_X13_readPage_B136, f_X13_readPage_B155, f_X13_readPage_B159, lit_I, tw_rcv, Option.bind_some, hp2.well, I_10, if_false, I_lt, if_pos, f1, f2.well, if_true]
      · have c2 : isSt g.2.2.2 g.2.2.1 x.2.2.2 = false := c.resolve_left c1
        rw [c2] at hst
        simp (disch := first | omega | assumption) only [f_X13_readPage_B136, f_X13_readPage_B155, f_X13_readPage_B159, lit_I, tw_rcv, Option.bind_some, hp2.well, I_10, if_false, I_lt, if_neg, hst, bit_0, Bool.false_eq_true, not_false_eq_true, f1, f2.well, if_true]
    · rw [if_neg c]
      have c1 : ¬ x.1 < 2 := fun q => c (Or.inl q)
      have c2 : isSt g.2.2.2 g.2.2.1 x.2.2.2 = true := by
        cases hq : isSt g.2.2.2 g.2.2.1 x.2.2.2 with
        | true => rfl
        | false => exact absurd (Or.inr hq) c
      rw [c2] at hst
      have hR : 2 ≤ x.1 ∧ x.1 ≤ 5 := by omega
      have hC : 2 ≤ x.2.1 ∧ x.2.1 ≤ 5 := by omega
      have hRC : x.1 * x.2.1 ≤ 25 := Nat.mul_le_mul hR.2 hC.2
      have s2 : A2 1 = g.1 := hp2.1.2.1
      have hs := TI_SB hp2.1
      have hlay := tw_lay (m := m) (v := v2) (A := A2) (h := h) (R := x.1) (C := x.2.1) hR.2 ⟨by omega, hC.2⟩
      rw [s2] at hlay
      have hlay' : f_X13_lay (some m) (I x.1) (I x.2.1) (TW m v2 A2 h) = some (TW m v2 (aset A2 1 (sPage g.1 x.1 x.2.1)) h) := hlay
      have hSL : SB (sLet g.1 x.2.2.1 x.1 x.2.1) := fun k => by
        unfold sLet; split
        · exact q3 k
        · exact sPage_SB hs hR.2 hC.2 k
      have hPL := PG_sLet (s := g.1) (O := x.2.2.1) hR hC
      have enL := nc_sLet (s := g.1) (O := x.2.2.1) (R := x.1) (C := x.2.1)
      have hp3 := hp2.set hSL
      have hren := tw_renumber (m := m) (v := v2) (A := aset A2 1 (sLet g.1 x.2.2.1 x.1 x.2.1)) (h := h) (hp3.1.1 1) (by rw [aset_eq]; exact hPL)
      rw [aset_eq, enL] at hren
      have hp4 : PS v2 (aRen (aset A2 1 (sLet g.1 x.2.2.1 x.1 x.2.1))) (sRen (sLet g.1 x.2.2.1 x.1 x.2.1), g.2) asd x.2.2.2 := by
        refine ⟨⟨aRen_AB hp3.1.1 (by rw [aset_eq]; exact hPL), by rw [aRen_1, aset_eq], ?_, hp3.1.2.2.2.1, hp3.1.2.2.2.2.1, ?_⟩, ?_, hp3.2.2⟩
        · rw [aRen_ne (by decide) (by decide) (by decide)]; exact hp3.1.2.2.1
        · rw [aRen_ne (by decide) (by decide) (by decide)]; exact hp3.1.2.2.2.2.2
        · rw [aRen_ne (by decide) (by decide) (by decide)]; exact hp3.2.1
      have hrkl := rkTo_le (sLet g.1 x.2.2.1 x.1 x.2.1) (x.1 * x.2.1)
      obtain ⟨k1, -⟩ := tw_pg215 (m := m) (v := v2) (h := h) (g := (sRen (sLet g.1 x.2.2.1 x.1 x.2.1), g.2)) (asd := asd) (t := x.2.2.2) (many := rkTo (sLet g.1 x.2.2.1 x.1 x.2.1) (x.1 * x.2.1)) (by omega) hn q4 (PG_of (sRen_ne (k := 0) (by omega) hPL) (sRen_ne (k := 1) (by omega) hPL) hPL) _ FU 0 _ (Nat.zero_add _) (by rw [FU_eq]; omega)
      obtain ⟨v', A', e1, e2⟩ := k1 hp4 rfl
      refine ⟨v', A', ?_, ?_⟩
      · let st : Nat → (Nat → Nat) := fun i k => if 8 ≤ k ∧ k < 8 + i then x.2.2.1 k else sPage g.1 x.1 x.2.1 k
        have key := loop_FU (fun n (p : Nat × (Nat → Nat)) => f_X13_readPage_L175 n (some m) (I p.1) (TW m v2 (aset A2 1 p.2) h)) (fun i => (i, st i)) (x.1 * x.2.1) (some (TW m v' A' h)) (by omega) (fun n i hi => ?_) (fun n => ?_)
        · have e0 : st 0 = sPage g.1 x.1 x.2.1 := by funext k; simp only [st]; rw [if_neg (by omega)]
          simp only [e0] at key
          simp (disch := first | omega | assumption) only [f_X13_readPage_B136, f_X13_readPage_B159, lit_I, tw_rcv, Option.bind_some, hp2.well, I_10, if_false, I_lt, if_neg, hst, bit_0, not_true_eq_false, hlay']
          exact key
        · have eni : nc (st i) = x.1 * x.2.1 := by
            obtain ⟨z0, z1, -⟩ := sPage_Eq (s := g.1) (R := x.1) (C := x.2.1)
            have y0 : st i 0 = x.1 := by simp only [st]; rw [if_neg (by omega)]; exact z0
            have y1 : st i 1 = x.2.1 := by simp only [st]; rw [if_neg (by omega)]; exact z1
            unfold nc; rw [y0, y1]
          have h10 : A2 10 (8 + i) = x.2.2.1 (8 + i) := hO (8 + i) (by omega) (by rw [Nat.mul_comm]; omega)
          have e2 : nup (st i) (8 + i) (x.2.2.1 (8 + i)) = st (i + 1) := by
            funext k
            simp only [nup, st]
            by_cases e : k = 8 + i
            · subst e; rw [if_pos rfl, if_pos (by omega)]
            · rw [if_neg e]
              by_cases e3 : 8 ≤ k ∧ k < 8 + i
              · rw [if_pos e3, if_pos (by omega)]
              · rw [if_neg e3, if_neg (by omega)]
          have h10' : ∀ w, (aset A2 1 w) 10 = A2 10 := fun w => aset_ne (by decide)
          simp (disch := first | omega | assumption) only [f_X13_readPage_L175, lit_I, tw_rcv, tw_r1, tw_r17, tw_cells, aset_eq, eni, Option.bind_some, I_le, if_neg, I_add, tw_r10', h10', h10, tw_ws, aset_aset, e2]
        · have est : st (x.1 * x.2.1) = sLet g.1 x.2.2.1 x.1 x.2.1 := rfl
          rw [est]
          simp (disch := first | omega | assumption) only [f_X13_readPage_L175, lit_I, tw_rcv, tw_cells, aset_eq, enL, Option.bind_some, I_le, if_pos, hren]
          exact e1
      · cases hpb : propB (sRen (sLet g.1 x.2.2.1 x.1 x.2.1)) (rkTo (sLet g.1 x.2.2.1 x.1 x.2.1) (x.1 * x.2.1)) with
        | true => rw [hpb] at e2; exact e2
        | false =>
          rw [hpb] at e2
          refine PF.lift (s := sRen (sLet g.1 x.2.2.1 x.1 x.2.1)) (fun k hk => ?_) e2
          rw [sRen_ne (by omega) hPL, sLet_hi hR.2 hC.2 hk]
end TW74
