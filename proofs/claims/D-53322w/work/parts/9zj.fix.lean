/-! PLAIN LAW: the class: the map mended after an insertion -/
set_option maxRecDepth 100000
/-- the keys that a tree holds, from its root -/
def RSem (B : Nat) (K : Nat → Prop) (R : Option Nat) (S : Nat → Nat → Prop) : Prop := ∀ k, k < B → (K k ↔ ∃ rt, R = some rt ∧ S rt k)
theorem TInv.side {B : Nat} {N : Nat → Prop} {ky : Nat → Nat} {R : Option Nat} {l r p : Nat → Option Nat} {lo hi : Nat → Nat} {S : Nat → Nat → Prop} (T : TInv B N ky R l r p lo hi S) {x y : Nat} (hx : N x) (hy : r x = some y) : N y ∧ x ≠ y ∧ (∀ b, l y = some b → N b ∧ b ≠ x ∧ b ≠ y) ∧ (∀ q, p x = some q → N q ∧ q ≠ x ∧ q ≠ y) ∧ p y = some x := by
  obtain ⟨t1, t2, t3, t4, t5, t6, t7⟩ := T
  obtain ⟨y1, y2, y3, y4⟩ := t3 x y hx hy
  have x1 := t1 x hx
  have z1 := t1 y y1
  have hxy : x ≠ y := fun e => by subst e; omega
  refine ⟨y1, hxy, fun b e => ?_, fun q e => ?_, y2⟩
  · obtain ⟨a1, a2, a3, a4⟩ := t2 y b y1 e
    exact ⟨a1, fun e => by subst e; omega, fun e => by subst e; omega⟩
  · obtain ⟨a1, a2⟩ := t4 x q hx e
    have w := t1 q a1
    refine ⟨a1, fun e => ?_, fun e => ?_⟩
    · subst e
      rcases a2 with a2 | a2
      · have := t2 q q hx a2; omega
      · have := t3 q q hx a2; omega
    · subst e
      rcases a2 with a2 | a2
      · have := t2 q x a1 a2; omega
      · have := t3 q x a1 a2; omega
theorem RSem_rot {B : Nat} {N : Nat → Prop} {K : Nat → Prop} {ky : Nat → Nat} {R : Option Nat} {l r p : Nat → Option Nat} {lo hi : Nat → Nat} {S : Nat → Nat → Prop} (T : TInv B N ky R l r p lo hi S) (hK : RSem B K R S) {x y : Nat} (hx : N x) (hy : r x = some y) {S' : Nat → Nat → Prop} (hS' : ∀ n k, S' n k = if n = y then S x k else if n = x then (k = ky x ∨ (k < ky x ∧ ∃ c, l x = some c ∧ S c k) ∨ (ky x < k ∧ ∃ c, l y = some c ∧ S c k)) else S n k) : RSem B K (rotR0 R (p x) y) S' := by
  intro k hk
  rw [hK k hk]
  obtain ⟨s1, s2, s3, s4, s5⟩ := T.side hx hy
  obtain ⟨t1, t2, t3, t4, t5, t6, t7⟩ := T
  unfold rotR0
  cases hp : p x with
  | none =>
    have hR := t5 x hx hp
    constructor
    · rintro ⟨rt, h1, h2⟩
      rw [hR] at h1; cases h1
      exact ⟨y, rfl, by rw [hS', if_pos rfl]; exact h2⟩
    · rintro ⟨rt, h1, h2⟩
      cases h1
      rw [hS', if_pos rfl] at h2
      exact ⟨x, hR, h2⟩
  | some q =>
    have ne : ∀ rt, R = some rt → rt ≠ y ∧ rt ≠ x := fun rt h => by
      obtain ⟨a1, a2, -⟩ := t6 rt h
      exact ⟨fun e => (by subst e; rw [s5] at a2; cases a2), fun e => (by subst e; rw [hp] at a2; cases a2)⟩
    constructor
    · rintro ⟨rt, h1, h2⟩
      obtain ⟨n1, n2⟩ := ne rt h1
      exact ⟨rt, h1, by rw [hS', if_neg n1, if_neg n2]; exact h2⟩
    · rintro ⟨rt, h1, h2⟩
      obtain ⟨n1, n2⟩ := ne rt h1
      rw [hS', if_neg n1, if_neg n2] at h2
      exact ⟨rt, h1, h2⟩
/-- a tree that holds the keys K -/
def TOK (B : Nat) (N : Nat → Prop) (ky : Nat → Nat) (K : Nat → Prop) (R : Option Nat) (l r p : Nat → Option Nat) : Prop := ∃ lo hi S, TInv B N ky R l r p lo hi S ∧ RSem B K R S
theorem TOK.mirror {B : Nat} {N K : Nat → Prop} {ky : Nat → Nat} {R : Option Nat} {l r p : Nat → Option Nat} (T : TOK B N ky K R l r p) : TOK B N (fun n => B - 1 - ky n) (fun k => K (B - 1 - k)) R r l p := by
  obtain ⟨lo, hi, S, T, hK⟩ := T
  refine ⟨_, _, _, T.mirror, fun k hk => ?_⟩
  show K (B - 1 - k) ↔ _
  rw [hK (B - 1 - k) (by omega)]
  unfold SM
  constructor
  · rintro ⟨rt, h1, h2⟩; exact ⟨rt, h1, hk, h2⟩
  · rintro ⟨rt, h1, -, h2⟩; exact ⟨rt, h1, h2⟩
theorem TOK.rot {B : Nat} {N K : Nat → Prop} {ky : Nat → Nat} {R : Option Nat} {l r p : Nat → Option Nat} (T : TOK B N ky K R l r p) {x y : Nat} (hx : N x) (hy : r x = some y) : TOK B N ky K (rotR0 R (p x) y) (rotA l p x y) (rotB l r p x y (l y)) (rotP p x y (l y)) := by
  obtain ⟨lo, hi, S, T, hK⟩ := T
  exact ⟨_, _, _, TInv_rot T hx hy, RSem_rot T hK hx hy (fun n k => rfl)⟩
theorem TOK.key {B : Nat} {N K : Nat → Prop} {ky ky' : Nat → Nat} {K' : Nat → Prop} {R : Option Nat} {l r p : Nat → Option Nat} (T : TOK B N ky K R l r p) (hk : ∀ n, N n → ky' n = ky n) (hK : ∀ k, k < B → (K' k ↔ K k)) : TOK B N ky' K' R l r p := by
  obtain ⟨lo, hi, S, ⟨t1, t2, t3, t4, t5, t6, t7⟩, hR⟩ := T
  refine ⟨lo, hi, S, ⟨fun n hn => by rw [hk n hn]; exact t1 n hn, fun n c hn hc => by rw [hk n hn]; exact t2 n c hn hc, fun n c hn hc => by rw [hk n hn]; exact t3 n c hn hc, t4, t5, t6, fun n hn k => by rw [hk n hn]; exact t7 n hn k⟩, fun k h => (hK k h).trans (hR k h)⟩
theorem TOK.rotR {B : Nat} {N K : Nat → Prop} {ky : Nat → Nat} {R : Option Nat} {l r p : Nat → Option Nat} (T : TOK B N ky K R l r p) {x y : Nat} (hx : N x) (hy : l x = some y) : TOK B N ky K (rotR0 R (p x) y) (rotB r l p x y (r y)) (rotA r p x y) (rotP p x y (r y)) := by
  have hlt : ∀ n, N n → ky n < B := fun n hn => by
    obtain ⟨lo, hi, S, ⟨t1, -⟩, -⟩ := T
    have := t1 n hn; omega
  have h1 := (T.mirror.rot hx hy).mirror
  exact h1.key (fun n hn => by have := hlt n hn; omega) (fun k hk => by rw [show B - 1 - (B - 1 - k) = k by omega])
theorem TOK.par {B : Nat} {N K : Nat → Prop} {ky : Nat → Nat} {R : Option Nat} {l r p : Nat → Option Nat} (T : TOK B N ky K R l r p) : (∀ c q, N c → p c = some q → N q ∧ (l q = some c ∨ r q = some c)) ∧ (∀ c, N c → p c = none → R = some c) ∧ (∀ c, R = some c → N c ∧ p c = none) ∧ (∀ n c, N n → l n = some c → N c ∧ p c = some n) ∧ (∀ n c, N n → r n = some c → N c ∧ p c = some n) := by
  obtain ⟨lo, hi, S, ⟨t1, t2, t3, t4, t5, t6, t7⟩, -⟩ := T
  exact ⟨t4, t5, fun c hc => ⟨(t6 c hc).1, (t6 c hc).2.1⟩, fun n c hn hc => ⟨(t2 n c hn hc).1, (t2 n c hn hc).2.1⟩, fun n c hn hc => ⟨(t3 n c hn hc).1, (t3 n c hn hc).2.1⟩⟩
theorem TOK.sideR {B : Nat} {N K : Nat → Prop} {ky : Nat → Nat} {R : Option Nat} {l r p : Nat → Option Nat} (T : TOK B N ky K R l r p) {x y : Nat} (hx : N x) (hy : r x = some y) : N y ∧ x ≠ y ∧ (∀ b, l y = some b → N b ∧ b ≠ x ∧ b ≠ y) ∧ (∀ q, p x = some q → N q ∧ q ≠ x ∧ q ≠ y) ∧ p y = some x := by
  obtain ⟨lo, hi, S, T, -⟩ := T
  exact T.side hx hy
theorem TOK.sideL {B : Nat} {N K : Nat → Prop} {ky : Nat → Nat} {R : Option Nat} {l r p : Nat → Option Nat} (T : TOK B N ky K R l r p) {x y : Nat} (hx : N x) (hy : l x = some y) : N y ∧ x ≠ y ∧ (∀ b, r y = some b → N b ∧ b ≠ x ∧ b ≠ y) ∧ (∀ q, p x = some q → N q ∧ q ≠ x ∧ q ≠ y) ∧ p y = some x := T.mirror.sideR hx hy
theorem TOK.ne {B : Nat} {N K : Nat → Prop} {ky : Nat → Nat} {R : Option Nat} {l r p : Nat → Option Nat} (T : TOK B N ky K R l r p) {x q : Nat} (hx : N x) (hq : p x = some q) : x ≠ q ∧ ¬ (l q = some x ∧ r q = some x) := by
  obtain ⟨lo, hi, S, ⟨t1, t2, t3, t4, t5, t6, t7⟩, -⟩ := T
  obtain ⟨a1, a2⟩ := t4 x q hx hq
  have w := t1 q a1
  refine ⟨fun e => ?_, fun e => ?_⟩
  · subst e
    rcases a2 with a2 | a2
    · have := t2 x x hx a2; omega
    · have := t3 x x hx a2; omega
  · have h1 := t2 q x a1 e.1
    have h2 := t3 q x a1 e.2
    omega
def oP (p : Nat → Option Nat) (x : Option Nat) : Option Nat := match x with | none => none | some n => p n
def oC (c : Nat → Int32) (x : Option Nat) : Int32 := match x with | none => 1 | some n => c n
def oU (c : Nat → Int32) (x : Option Nat) (y : Int32) : Nat → Int32 := match x with | none => c | some n => uc c n y
section FIX
variable {B : Nat} {K : Nat → Prop} {ky : Nat → Nat} {h0 : PH} {t : Nat} {N : Nat → Bool} {cm : Option Nat} {kr : Nat → Nat} {sz md : Int32} {vr : Nat → Option Nat} {R : Option Nat} {l r p : Nat → Option Nat} {c : Nat → Int32}
theorem j_par {x : Option Nat} (ht : ∀ n, N n = true → n ≠ t) (hx : ∀ n, x = some n → N n = true) : f_J1_parentOf x (TT h0 t N cm kr sz md vr R l r p c) = some (oP p x, TT h0 t N cm kr sz md vr R l r p c) := by
  unfold f_J1_parentOf oP
  cases x with
  | none => rfl
  | some n => rw [if_neg (by simp), tt_p (hx n rfl) (ht n (hx n rfl)), Option.bind_some]
theorem j_left {x : Option Nat} (ht : ∀ n, N n = true → n ≠ t) (hx : ∀ n, x = some n → N n = true) : f_J1_leftOf x (TT h0 t N cm kr sz md vr R l r p c) = some (oP l x, TT h0 t N cm kr sz md vr R l r p c) := by
  unfold f_J1_leftOf oP
  cases x with
  | none => rfl
  | some n => rw [if_neg (by simp), tt_l (hx n rfl) (ht n (hx n rfl)), Option.bind_some]
theorem j_right {x : Option Nat} (ht : ∀ n, N n = true → n ≠ t) (hx : ∀ n, x = some n → N n = true) : f_J1_rightOf x (TT h0 t N cm kr sz md vr R l r p c) = some (oP r x, TT h0 t N cm kr sz md vr R l r p c) := by
  unfold f_J1_rightOf oP
  cases x with
  | none => rfl
  | some n => rw [if_neg (by simp), tt_r (hx n rfl) (ht n (hx n rfl)), Option.bind_some]
theorem gb01 {y : Int32} (h : y = 0 ∨ y = 1) : gb y = some () := by unfold gb; rw [if_pos h]
theorem j_col {x : Option Nat} (ht : ∀ n, N n = true → n ≠ t) (hx : ∀ n, x = some n → N n = true) (hc : ∀ n, N n = true → c n = 0 ∨ c n = 1) : f_J1_colorOf x (TT h0 t N cm kr sz md vr R l r p c) = some (oC c x, TT h0 t N cm kr sz md vr R l r p c) := by
  unfold f_J1_colorOf oC
  cases x with
  | none => rfl
  | some n => rw [if_neg (by simp), tt_c (hx n rfl) (ht n (hx n rfl)), Option.bind_some, gb01 (hc n (hx n rfl)), Option.bind_some]
theorem j_set {x : Option Nat} {y : Int32} (ht : ∀ n, N n = true → n ≠ t) (hx : ∀ n, x = some n → N n = true) (hy : y = 0 ∨ y = 1) : f_J1_setColor x y (TT h0 t N cm kr sz md vr R l r p c) = some (TT h0 t N cm kr sz md vr R l r p (oU c x y)) := by
  unfold f_J1_setColor oU
  cases x with
  | none => rfl
  | some n => rw [if_neg (by simp), gb01 hy, Option.bind_some, tt_pc (hx n rfl) (ht n (hx n rfl)), Option.bind_some]
theorem oU_01 {x : Option Nat} {y : Int32} (hy : y = 0 ∨ y = 1) (hc : ∀ n, N n = true → c n = 0 ∨ c n = 1) : ∀ n, N n = true → oU c x y n = 0 ∨ oU c x y n = 1 := fun n hn => by
  cases x with
  | none => exact hc n hn
  | some m =>
    show uc c m y n = 0 ∨ uc c m y n = 1
    unfold uc
    by_cases e : n = m
    · rw [if_pos e]; exact hy
    · rw [if_neg e]; exact hc n hn
/-- the root is black in the end -/
theorem fix_B258 (ht : ∀ n, N n = true → n ≠ t) (hc : ∀ n, N n = true → c n = 0 ∨ c n = 1) {rt : Nat} (hR : R = some rt) (hN : N rt = true) : ∃ c', f_J1_fixAfterInsertion_B258 (some t) (TT h0 t N cm kr sz md vr R l r p c) = some (TT h0 t N cm kr sz md vr R l r p c') ∧ ∀ n, N n = true → c' n = 0 ∨ c' n = 1 := by
  refine ⟨uc c rt 1, ?_, oU_01 (x := some rt) (Or.inr rfl) hc⟩
  unfold f_J1_fixAfterInsertion_B258
  rw [tt_R, Option.bind_some, gb01 (Or.inr rfl), Option.bind_some, hR, tt_pc hN (ht _ hN), Option.bind_some]
/-- a tree has a root -/
theorem TOK.root (T : TOK B (fun n => N n = true) ky K R l r p) : ∀ (d x : Nat), N x = true → (∃ lo hi S, TInv B (fun n => N n = true) ky R l r p lo hi S ∧ B - (hi x - lo x) ≤ d) → ∃ rt, R = some rt ∧ N rt = true := by
  intro d
  induction d with
  | zero =>
    intro x hx ⟨lo, hi, S, T, hd⟩
    obtain ⟨t1, t2, t3, t4, t5, t6, t7⟩ := T
    cases hp : p x with
    | none => exact ⟨x, t5 x hx hp, hx⟩
    | some q =>
      obtain ⟨a1, a2⟩ := t4 x q hx hp
      have w := t1 q a1
      have w2 := t1 x hx
      rcases a2 with a2 | a2
      · have := t2 q x a1 a2; omega
      · have := t3 q x a1 a2; omega
  | succ d ih =>
    intro x hx ⟨lo, hi, S, T, hd⟩
    obtain ⟨t1, t2, t3, t4, t5, t6, t7⟩ := id T
    cases hp : p x with
    | none => exact ⟨x, t5 x hx hp, hx⟩
    | some q =>
      obtain ⟨a1, a2⟩ := t4 x q hx hp
      have w := t1 q a1
      have w2 := t1 x hx
      refine ih q a1 ⟨lo, hi, S, T, ?_⟩
      rcases a2 with a2 | a2
      · have := t2 q x a1 a2; omega
      · have := t3 q x a1 a2; omega
theorem TOK.rt (T : TOK B (fun n => N n = true) ky K R l r p) {x : Nat} (hx : N x = true) : ∃ rt, R = some rt ∧ N rt = true := by
  obtain ⟨lo, hi, S, T', hK⟩ := id T
  exact T.root B x hx ⟨lo, hi, S, T', by omega⟩
/-- a black parent: the end -/
theorem fix_exit {k x P : Nat} (T : TOK B (fun n => N n = true) ky K R l r p) (ht : ∀ n, N n = true → n ≠ t) (hc : ∀ n, N n = true → c n = 0 ∨ c n = 1) (hx : N x = true) (hp : p x = some P) (hP : c P = 1) : ∃ c', f_J1_fixAfterInsertion_L5 (k + 1) (some t) (some x) (TT h0 t N cm kr sz md vr R l r p c) = some (TT h0 t N cm kr sz md vr R l r p c') ∧ ∀ n, N n = true → c' n = 0 ∨ c' n = 1 := by
  obtain ⟨rt, hR, hN⟩ := T.rt hx
  obtain ⟨c', e1, e2⟩ := fix_B258 (h0 := h0) (cm := cm) (kr := kr) (sz := sz) (md := md) (vr := vr) (l := l) (r := r) (p := p) ht hc hR hN
  refine ⟨c', ?_, e2⟩
  have hPN := (T.par.1 x P hx hp).1
  rw [f_J1_fixAfterInsertion_L5, if_neg (by simp), tt_R, Option.bind_some]
  by_cases hxr : some x = R
  · rw [if_pos hxr, e1]
  · rw [if_neg hxr, tt_p hx (ht x hx), Option.bind_some, hp, tt_c hPN (ht P hPN), Option.bind_some, hP, if_neg (by decide), e1]
end FIX
