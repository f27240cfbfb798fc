/-! PLAIN LAW: the class: the map mended: the loop -/
set_option maxRecDepth 100000
section FIX2
variable {B : Nat} {K : Nat → Prop} {ky : Nat → Nat} {h0 : PH} {t : Nat} {N : Nat → Bool} {cm : Option Nat} {kr : Nat → Nat} {sz md : Int32} {vr : Nat → Option Nat} {R : Option Nat} {l r p : Nat → Option Nat} {c : Nat → Int32}
theorem rotP_x {x y : Nat} {b : Option Nat} : rotP p x y b x = some y := by unfold rotP; exact ou_eq
theorem rotP_y {x y : Nat} {b : Option Nat} (h : x ≠ y) : rotP p x y b y = p x := by unfold rotP; rw [ou_ne (Ne.symm h), ou_eq]
theorem rotP_n {x y n : Nat} {b : Option Nat} (h1 : n ≠ x) (h2 : n ≠ y) (h3 : b ≠ some n) : rotP p x y b n = p n := by
  unfold rotP; rw [ou_ne h1, ou_ne h2]
  cases b with
  | none => rfl
  | some b => simp only; exact ou_ne (fun e => h3 (by rw [e]))
theorem rotA_y {x y : Nat} : rotA l p x y y = some x := by unfold rotA; exact ou_eq
theorem rotA_q {x y q : Nat} (hp : p x = some q) (hl : l q = some x) (hqy : q ≠ y) : rotA l p x y q = some y := by
  unfold rotA; rw [ou_ne hqy, hp]; simp only; rw [if_pos hl, ou_eq]
theorem oU_ne {x : Option Nat} {n : Nat} {y : Int32} (h : x ≠ some n) : oU c x y n = c n := by
  cases x with
  | none => rfl
  | some m => show uc c m y n = c n; unfold uc; rw [if_neg (fun e => h (by rw [e]))]
theorem fix_B118 {k x P : Nat} (T : TOK B (fun n => N n = true) ky K R l r p) (ht : ∀ n, N n = true → n ≠ t) (hc : ∀ n, N n = true → c n = 0 ∨ c n = 1) (hx : N x = true) (hp : p x = some P) (hl : l P = some x) (hg : ∀ g, p P = some g → l g = some P) :
    ∃ R' l' r' p' c', f_J1_fixAfterInsertion_B118 (f_J1_fixAfterInsertion_L5 (k + 1)) (some t) (some x) (TT h0 t N cm kr sz md vr R l r p c) = some (TT h0 t N cm kr sz md vr R' l' r' p' c') ∧ TOK B (fun n => N n = true) ky K R' l' r' p' ∧ ∀ n, N n = true → c' n = 0 ∨ c' n = 1 := by
  obtain ⟨g1, g2, g3, g4, g5⟩ := T.par
  have hPN := (g1 x P hx hp).1
  obtain ⟨n1, n2⟩ := T.ne hx hp
  have ox : ∀ n, some x = some n → N n = true := fun n e => by cases e; exact hx
  have oPp : ∀ n, some P = some n → N n = true := fun n e => by cases e; exact hPN
  have oG : ∀ n, p P = some n → N n = true := fun n e => (g1 P n hPN e).1
  have c1 := oU_01 (x := some P) (y := 1) (Or.inr rfl) hc
  have c2 := oU_01 (x := p P) (y := 0) (Or.inl rfl) c1
  have hcP : oU (oU c (some P) 1) (p P) 0 P = 1 := by
    rw [oU_ne (fun e => (T.ne hPN e).1 rfl)]
    show uc c P 1 P = 1
    unfold uc; rw [if_pos rfl]
  have pre : ∀ o, (f_J1_rotateRight (some t) (p P) (TT h0 t N cm kr sz md vr R l r p (oU (oU c (some P) 1) (p P) 0))).bind (fun h9 => f_J1_fixAfterInsertion_L5 (k + 1) (some t) (some x) h9) = o → f_J1_fixAfterInsertion_B118 (f_J1_fixAfterInsertion_L5 (k + 1)) (some t) (some x) (TT h0 t N cm kr sz md vr R l r p c) = o := fun o ho => by
    have e1 : oP p (some x) = some P := hp
    have e2 : oP p (some P) = p P := rfl
    unfold f_J1_fixAfterInsertion_B118
    rw [j_par ht ox, Option.bind_some, e1, j_set ht oPp (Or.inr rfl), Option.bind_some, j_par ht ox, Option.bind_some, e1, j_par ht oPp, Option.bind_some, e2, j_set ht oG (Or.inl rfl), Option.bind_some, j_par ht ox, Option.bind_some, e1, j_par ht oPp, Option.bind_some, e2, tt_rc, Option.bind_some]
    exact ho
  cases hG : p P with
  | none =>
    obtain ⟨c', e1, e2⟩ := fix_exit (h0 := h0) (cm := cm) (kr := kr) (sz := sz) (md := md) (vr := vr) (k := k) T ht c2 hx hp hcP
    refine ⟨R, l, r, p, c', pre _ ?_, T, e2⟩
    rw [hG] at e1 ⊢
    unfold f_J1_rotateRight
    rw [if_pos rfl, Option.bind_some, e1]
  | some g =>
    have hgl := hg g hG
    have hgN := oG g hG
    obtain ⟨s1, s2, s3, s4, s5⟩ := T.sideL hgN hgl
    have hrot := tt_rotR (h0 := h0) (cm := cm) (kr := kr) (sz := sz) (md := md) (vr := vr) (R := R) (c := oU (oU c (some P) 1) (p P) 0) ht hgN hgl s1 s2 s3 (fun q hq => ⟨(s4 q hq).1, (s4 q hq).2.1⟩)
    have T2 := T.rotR hgN hgl
    have hxg : x ≠ g := fun e => by subst e; exact (s4 P hp).2.2 rfl
    have hpx : rotP p g P (r P) x = some P := by
      rw [rotP_n hxg n1 (fun e => n2 ⟨hl, e⟩)]; exact hp
    obtain ⟨c', e1, e2⟩ := fix_exit (h0 := h0) (cm := cm) (kr := kr) (sz := sz) (md := md) (vr := vr) (k := k) T2 ht c2 hx hpx hcP
    refine ⟨_, _, _, _, c', pre _ ?_, T2, e2⟩
    rw [hG] at hrot e1 ⊢
    rw [hrot, Option.bind_some]
    exact e1
theorem fix_B225 {k x P : Nat} (T : TOK B (fun n => N n = true) ky K R l r p) (ht : ∀ n, N n = true → n ≠ t) (hc : ∀ n, N n = true → c n = 0 ∨ c n = 1) (hx : N x = true) (hp : p x = some P) (hl : r P = some x) (hg : ∀ g, p P = some g → r g = some P) :
    ∃ R' l' r' p' c', f_J1_fixAfterInsertion_B225 (f_J1_fixAfterInsertion_L5 (k + 1)) (some t) (some x) (TT h0 t N cm kr sz md vr R l r p c) = some (TT h0 t N cm kr sz md vr R' l' r' p' c') ∧ TOK B (fun n => N n = true) ky K R' l' r' p' ∧ ∀ n, N n = true → c' n = 0 ∨ c' n = 1 := by
  obtain ⟨g1, g2, g3, g4, g5⟩ := T.par
  have hPN := (g1 x P hx hp).1
  obtain ⟨n1, n2⟩ := T.ne hx hp
  have ox : ∀ n, some x = some n → N n = true := fun n e => by cases e; exact hx
  have oPp : ∀ n, some P = some n → N n = true := fun n e => by cases e; exact hPN
  have oG : ∀ n, p P = some n → N n = true := fun n e => (g1 P n hPN e).1
  have c1 := oU_01 (x := some P) (y := 1) (Or.inr rfl) hc
  have c2 := oU_01 (x := p P) (y := 0) (Or.inl rfl) c1
  have hcP : oU (oU c (some P) 1) (p P) 0 P = 1 := by
    rw [oU_ne (fun e => (T.ne hPN e).1 rfl)]
    show uc c P 1 P = 1
    unfold uc; rw [if_pos rfl]
  have pre : ∀ o, (f_J1_rotateLeft (some t) (p P) (TT h0 t N cm kr sz md vr R l r p (oU (oU c (some P) 1) (p P) 0))).bind (fun h9 => f_J1_fixAfterInsertion_L5 (k + 1) (some t) (some x) h9) = o → f_J1_fixAfterInsertion_B225 (f_J1_fixAfterInsertion_L5 (k + 1)) (some t) (some x) (TT h0 t N cm kr sz md vr R l r p c) = o := fun o ho => by
    have e1 : oP p (some x) = some P := hp
    have e2 : oP p (some P) = p P := rfl
    unfold f_J1_fixAfterInsertion_B225
    rw [j_par ht ox, Option.bind_some, e1, j_set ht oPp (Or.inr rfl), Option.bind_some, j_par ht ox, Option.bind_some, e1, j_par ht oPp, Option.bind_some, e2, j_set ht oG (Or.inl rfl), Option.bind_some, j_par ht ox, Option.bind_some, e1, j_par ht oPp, Option.bind_some, e2, tt_rc, Option.bind_some]
    exact ho
  cases hG : p P with
  | none =>
    obtain ⟨c', e1, e2⟩ := fix_exit (h0 := h0) (cm := cm) (kr := kr) (sz := sz) (md := md) (vr := vr) (k := k) T ht c2 hx hp hcP
    refine ⟨R, l, r, p, c', pre _ ?_, T, e2⟩
    rw [hG] at e1 ⊢
    unfold f_J1_rotateLeft
    rw [if_pos rfl, Option.bind_some, e1]
  | some g =>
    have hgl := hg g hG
    have hgN := oG g hG
    obtain ⟨s1, s2, s3, s4, s5⟩ := T.sideR hgN hgl
    have hrot := tt_rotL (h0 := h0) (cm := cm) (kr := kr) (sz := sz) (md := md) (vr := vr) (R := R) (c := oU (oU c (some P) 1) (p P) 0) ht hgN hgl s1 s2 s3 (fun q hq => ⟨(s4 q hq).1, (s4 q hq).2.1⟩)
    have T2 := T.rot hgN hgl
    have hxg : x ≠ g := fun e => by subst e; exact (s4 P hp).2.2 rfl
    have hpx : rotP p g P (l P) x = some P := by
      rw [rotP_n hxg n1 (fun e => n2 ⟨e, hl⟩)]; exact hp
    obtain ⟨c', e1, e2⟩ := fix_exit (h0 := h0) (cm := cm) (kr := kr) (sz := sz) (md := md) (vr := vr) (k := k) T2 ht c2 hx hpx hcP
    refine ⟨_, _, _, _, c', pre _ ?_, T2, e2⟩
    rw [hG] at hrot e1 ⊢
    rw [hrot, Option.bind_some]
    exact e1
theorem fix_L5 (ht : ∀ n, N n = true → n ≠ t) {lo hi : Nat → Nat} {S : Nat → Nat → Prop} (TI : TInv B (fun n => N n = true) ky R l r p lo hi S) (hK : RSem B K R S) :
    ∀ (k x : Nat) (c : Nat → Int32), N x = true → (∀ n, N n = true → c n = 0 ∨ c n = 1) → B - (hi x - lo x) + 1 < k → ∃ R' l' r' p' c', f_J1_fixAfterInsertion_L5 k (some t) (some x) (TT h0 t N cm kr sz md vr R l r p c) = some (TT h0 t N cm kr sz md vr R' l' r' p' c') ∧ TOK B (fun n => N n = true) ky K R' l' r' p' ∧ ∀ n, N n = true → c' n = 0 ∨ c' n = 1 := by
  have T : TOK B (fun n => N n = true) ky K R l r p := ⟨lo, hi, S, TI, hK⟩
  obtain ⟨g1, g2, g3, g4, g5⟩ := T.par
  obtain ⟨t1, t2, t3, t4, t5, t6, t7⟩ := id TI
  intro k
  induction k with
  | zero => intro x c hx hc hk; omega
  | succ k ih =>
    intro x c hx hc hk
    obtain ⟨k, rfl⟩ : ∃ k', k = k' + 1 := ⟨k - 1, by omega⟩
    obtain ⟨rt, hR, hN⟩ := T.rt hx
    have stop : ∃ R' l' r' p' c', f_J1_fixAfterInsertion_B258 (some t) (TT h0 t N cm kr sz md vr R l r p c) = some (TT h0 t N cm kr sz md vr R' l' r' p' c') ∧ TOK B (fun n => N n = true) ky K R' l' r' p' ∧ ∀ n, N n = true → c' n = 0 ∨ c' n = 1 := by
      obtain ⟨c', e1, e2⟩ := fix_B258 (h0 := h0) (cm := cm) (kr := kr) (sz := sz) (md := md) (vr := vr) (l := l) (r := r) (p := p) ht hc hR hN
      exact ⟨R, l, r, p, c', e1, T, e2⟩
    rw [f_J1_fixAfterInsertion_L5, if_neg (by simp), tt_R, Option.bind_some]
    by_cases hxr : some x = R
    · rw [if_pos hxr]; exact stop
    rw [if_neg hxr, tt_p hx (ht x hx), Option.bind_some]
    cases hp : p x with
    | none => exact absurd (g2 x hx hp).symm hxr
    | some q =>
    obtain ⟨hq, hqc⟩ := g1 x q hx hp
    obtain ⟨nx1, nx2⟩ := T.ne hx hp
    rw [tt_c hq (ht q hq), Option.bind_some]
    by_cases hc0 : ¬ c q = 0
    · rw [if_neg hc0]; exact stop
    rw [if_pos (Classical.not_not.mp hc0)]
    have ox : ∀ n, some x = some n → N n = true := fun n e => by cases e; exact hx
    have oq : ∀ n, some q = some n → N n = true := fun n e => by cases e; exact hq
    have oG : ∀ n, p q = some n → N n = true := fun n e => (g1 q n hq e).1
    have oL : ∀ n, oP l (p q) = some n → N n = true := fun n e => by
      cases hG : p q with
      | none => rw [hG] at e; cases e
      | some g => rw [hG] at e; exact (g4 g n (oG g hG) e).1
    have oR : ∀ n, oP r (p q) = some n → N n = true := fun n e => by
      cases hG : p q with
      | none => rw [hG] at e; cases e
      | some g => rw [hG] at e; exact (g5 g n (oG g hG) e).1
    have e1 : oP p (some x) = some q := hp
    have e2 : oP p (some q) = p q := rfl
    have e3 : oP r (some q) = r q := rfl
    have e4 : oP l (some q) = l q := rfl
    -- up by two
    have up : ∀ (g : Nat) (c1 : Nat → Int32), p q = some g → (∀ n, N n = true → c1 n = 0 ∨ c1 n = 1) → ∃ R' l' r' p' c', f_J1_fixAfterInsertion_L5 (k + 1) (some t) (some g) (TT h0 t N cm kr sz md vr R l r p c1) = some (TT h0 t N cm kr sz md vr R' l' r' p' c') ∧ TOK B (fun n => N n = true) ky K R' l' r' p' ∧ ∀ n, N n = true → c' n = 0 ∨ c' n = 1 := fun g c1 hg hc1 => by
      refine ih g c1 (oG g hg) hc1 ?_
      have w1 := t1 x hx
      have w2 := t1 q hq
      have w3 := t1 g (oG g hg)
      have u1 : hi x - lo x < hi q - lo q := by
        rcases hqc with a | a
        · have := t2 q x hq a; omega
        · have := t3 q x hq a; omega
      have u2 : hi q - lo q < hi g - lo g := by
        rcases (g1 q g hq hg).2 with a | a
        · have := t2 g q (oG g hg) a; omega
        · have := t3 g q (oG g hg) a; omega
      omega
    rw [j_par ht ox, Option.bind_some, j_par ht ox, Option.bind_some, e1, j_par ht oq, Option.bind_some, e2, j_left ht oG, Option.bind_some]
    by_cases hlg : some q = oP l (p q)
    · rw [if_pos hlg, j_par ht ox, Option.bind_some, e1, j_par ht oq, Option.bind_some, e2, j_right ht oG, Option.bind_some, j_col ht oR hc, Option.bind_some]
      cases hG : p q with
      | none => rw [hG] at hlg; cases hlg
      | some g =>
      rw [hG] at hlg oR
      have hlg' : l g = some q := hlg.symm
      by_cases hy : oC c (oP r (some g)) = 0
      · rw [if_pos hy, j_par ht ox, Option.bind_some, e1, j_set ht oq (Or.inr rfl), Option.bind_some, j_set ht oR (Or.inr rfl), Option.bind_some, j_par ht ox, Option.bind_some, e1, j_par ht oq, Option.bind_some, e2, hG, j_set ht (fun n e => by cases e; exact oG g hG) (Or.inl rfl), Option.bind_some, j_par ht ox, Option.bind_some, e1, j_par ht oq, Option.bind_some, e2, hG]
        exact up g _ hG (oU_01 (Or.inl rfl) (oU_01 (Or.inr rfl) (oU_01 (Or.inr rfl) hc)))
      · rw [if_neg hy, j_par ht ox, Option.bind_some, e1, j_right ht oq, Option.bind_some, e3]
        by_cases hrx : some x = r q
        · rw [if_pos hrx, j_par ht ox, Option.bind_some, e1, tt_rc, Option.bind_some]
          obtain ⟨s1, s2, s3, s4, s5⟩ := T.sideR hq hrx.symm
          rw [tt_rotL ht hq hrx.symm s1 s2 s3 (fun q' hq' => ⟨(s4 q' hq').1, (s4 q' hq').2.1⟩), Option.bind_some]
          refine fix_B118 (P := x) (T.rot hq hrx.symm) ht hc hq rotP_x rotA_y (fun g' hg' => ?_)
          rw [rotP_y s2, hG] at hg'; cases hg'
          exact rotA_q hG hlg' (s4 g hG).2.2
        · rw [if_neg hrx]
          have hlx : l q = some x := by
            rcases hqc with a | a
            · exact a
            · exact absurd a.symm hrx
          exact fix_B118 (P := q) T ht hc hx hp hlx (fun g' hg' => by rw [hG] at hg'; cases hg'; exact hlg')
    · rw [if_neg hlg, j_par ht ox, Option.bind_some, e1, j_par ht oq, Option.bind_some, e2, j_left ht oG, Option.bind_some, j_col ht oL hc, Option.bind_some]
      have hrg : ∀ g, p q = some g → r g = some q := fun g hg => by
        rcases (g1 q g hq hg).2 with a | a
        · exact absurd (show some q = oP l (p q) by rw [hg]; exact a.symm) hlg
        · exact a
      by_cases hy : oC c (oP l (p q)) = 0
      · cases hG : p q with
        | none => rw [hG] at hy; exact absurd (show (1 : Int32) = 0 from hy) (by decide)
        | some g =>
        rw [hG] at hy oL
        rw [if_pos hy, j_par ht ox, Option.bind_some, e1, j_set ht oq (Or.inr rfl), Option.bind_some, j_set ht oL (Or.inr rfl), Option.bind_some, j_par ht ox, Option.bind_some, e1, j_par ht oq, Option.bind_some, e2, hG, j_set ht (fun n e => by cases e; exact oG g hG) (Or.inl rfl), Option.bind_some, j_par ht ox, Option.bind_some, e1, j_par ht oq, Option.bind_some, e2, hG]
        exact up g _ hG (oU_01 (Or.inl rfl) (oU_01 (Or.inr rfl) (oU_01 (Or.inr rfl) hc)))
      · rw [if_neg hy, j_par ht ox, Option.bind_some, e1, j_left ht oq, Option.bind_some, e4]
        by_cases hlx : some x = l q
        · rw [if_pos hlx, j_par ht ox, Option.bind_some, e1, tt_rc, Option.bind_some]
          obtain ⟨s1, s2, s3, s4, s5⟩ := T.sideL hq hlx.symm
          rw [tt_rotR ht hq hlx.symm s1 s2 s3 (fun q' hq' => ⟨(s4 q' hq').1, (s4 q' hq').2.1⟩), Option.bind_some]
          refine fix_B225 (P := x) (T.rotR hq hlx.symm) ht hc hq rotP_x rotA_y (fun g' hg' => ?_)
          rw [rotP_y s2] at hg'
          exact rotA_q hg' (hrg g' hg') (s4 g' hg').2.2
        · rw [if_neg hlx]
          have hrx : r q = some x := by
            rcases hqc with a | a
            · exact absurd a.symm hlx
            · exact a
          exact fix_B225 (P := q) T ht hc hx hp hrx hrg
end FIX2
