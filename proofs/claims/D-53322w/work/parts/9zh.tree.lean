/-! PLAIN LAW: the class: search trees -/
set_option maxRecDepth 100000
def ou (f : Nat → Option Nat) (n : Nat) (x : Option Nat) : Nat → Option Nat := fun j => if j = n then x else f j
theorem ou_eq {f : Nat → Option Nat} {n : Nat} {x : Option Nat} : ou f n x n = x := by unfold ou; rw [if_pos rfl]
theorem ou_ne {f : Nat → Option Nat} {n j : Nat} {x : Option Nat} (h : j ≠ n) : ou f n x j = f j := by unfold ou; rw [if_neg h]
/-- what a subtree holds, locally -/
def SLoc (ky : Nat → Nat) (l r : Nat → Option Nat) (S : Nat → Nat → Prop) (n : Nat) : Prop := ∀ k, S n k ↔ (k = ky n ∨ (k < ky n ∧ ∃ c, l n = some c ∧ S c k) ∨ (ky n < k ∧ ∃ c, r n = some c ∧ S c k))
/-- a search tree: nodes, keys, bounds -/
def TInv (B : Nat) (N : Nat → Prop) (ky : Nat → Nat) (R : Option Nat) (l r p : Nat → Option Nat) (lo hi : Nat → Nat) (S : Nat → Nat → Prop) : Prop :=
  (∀ n, N n → lo n ≤ ky n ∧ ky n < hi n ∧ hi n ≤ B) ∧
  (∀ n c, N n → l n = some c → N c ∧ p c = some n ∧ lo c = lo n ∧ hi c = ky n) ∧
  (∀ n c, N n → r n = some c → N c ∧ p c = some n ∧ lo c = ky n + 1 ∧ hi c = hi n) ∧
  (∀ c q, N c → p c = some q → N q ∧ (l q = some c ∨ r q = some c)) ∧
  (∀ c, N c → p c = none → R = some c) ∧
  (∀ c, R = some c → N c ∧ p c = none ∧ lo c = 0 ∧ hi c = B) ∧
  (∀ n, N n → SLoc ky l r S n)
/-- seen in a mirror -/
def SM (B : Nat) (S : Nat → Nat → Prop) : Nat → Nat → Prop := fun n k => k < B ∧ S n (B - 1 - k)
theorem TInv.mirror {B : Nat} {N : Nat → Prop} {ky : Nat → Nat} {R : Option Nat} {l r p : Nat → Option Nat} {lo hi : Nat → Nat} {S : Nat → Nat → Prop} (T : TInv B N ky R l r p lo hi S) : TInv B N (fun n => B - 1 - ky n) R r l p (fun n => B - hi n) (fun n => B - lo n) (SM B S) := by
  obtain ⟨t1, t2, t3, t4, t5, t6, t7⟩ := T
  refine ⟨fun n hn => ?_, fun n c hn hc => ?_, fun n c hn hc => ?_, fun c q hc hq => ?_, t5, fun c hc => ?_, fun n hn k => ?_⟩
  · have := t1 n hn; dsimp only; omega
  · obtain ⟨a1, a2, a3, a4⟩ := t3 n c hn hc
    have := t1 n hn
    exact ⟨a1, a2, by dsimp only; omega, by dsimp only; omega⟩
  · obtain ⟨a1, a2, a3, a4⟩ := t2 n c hn hc
    have := t1 n hn
    exact ⟨a1, a2, by dsimp only; omega, by dsimp only; omega⟩
  · obtain ⟨a1, a2⟩ := t4 c q hc hq
    exact ⟨a1, a2.symm⟩
  · obtain ⟨a1, a2, a3, a4⟩ := t6 c hc
    exact ⟨a1, a2, by dsimp only; omega, by dsimp only; omega⟩
  · have h1 := t1 n hn
    have h7 := t7 n hn (B - 1 - k)
    show (k < B ∧ S n (B - 1 - k)) ↔ (k = B - 1 - ky n ∨ (k < B - 1 - ky n ∧ ∃ c, r n = some c ∧ (k < B ∧ S c (B - 1 - k))) ∨ (B - 1 - ky n < k ∧ ∃ c, l n = some c ∧ (k < B ∧ S c (B - 1 - k))))
    rw [h7]
    constructor
    · rintro ⟨hk, h⟩
      rcases h with h | ⟨h, c, h2, h3⟩ | ⟨h, c, h2, h3⟩
      · left; omega
      · right; right; exact ⟨by omega, c, h2, hk, h3⟩
      · right; left; exact ⟨by omega, c, h2, hk, h3⟩
    · rintro (h | ⟨h, c, h2, hk, h3⟩ | ⟨h, c, h2, hk, h3⟩)
      · exact ⟨by omega, Or.inl (by omega)⟩
      · exact ⟨hk, Or.inr (Or.inr ⟨by omega, c, h2, h3⟩)⟩
      · exact ⟨hk, Or.inr (Or.inl ⟨by omega, c, h2, h3⟩)⟩
/-- a rotation's new links: x goes down, y comes up, b changes its parent -/
def rotR0 (R p : Option Nat) (y : Nat) : Option Nat := match p with | none => some y | some _ => R
def rotP (p : Nat → Option Nat) (x y : Nat) (b : Option Nat) : Nat → Option Nat := ou (ou (match b with | none => p | some b => ou p b (some x)) y (p x)) x (some y)
/-- the links on the side of the rotation (l for left), and on the other -/
def rotA (l p : Nat → Option Nat) (x y : Nat) : Nat → Option Nat := ou (match p x with | none => l | some q => if l q = some x then ou l q (some y) else l) y (some x)
def rotB (l r p : Nat → Option Nat) (x y : Nat) (b : Option Nat) : Nat → Option Nat := match p x with | none => ou r x b | some q => if l q = some x then ou r x b else ou (ou r x b) q (some y)
section ROT
variable {B : Nat} {N : Nat → Prop} {ky : Nat → Nat} {R : Option Nat} {l r p : Nat → Option Nat} {lo hi : Nat → Nat} {S : Nat → Nat → Prop}
theorem TInv_rot (T : TInv B N ky R l r p lo hi S) {x y : Nat} (hx : N x) (hy : r x = some y) :
    TInv B N ky (rotR0 R (p x) y) (rotA l p x y) (rotB l r p x y (l y)) (rotP p x y (l y)) (fun n => if n = y then lo x else lo n) (fun n => if n = y then hi x else if n = x then ky y else hi n) (fun n k => if n = y then S x k else if n = x then (k = ky x ∨ (k < ky x ∧ ∃ c, l x = some c ∧ S c k) ∨ (ky x < k ∧ ∃ c, l y = some c ∧ S c k)) else S n k) := by
  obtain ⟨t1, t2, t3, t4, t5, t6, t7⟩ := T
  obtain ⟨y1, y2, y3, y4⟩ := t3 x y hx hy
  have x1 := t1 x hx
  have z1 := t1 y y1
  have hxy : x ≠ y := fun e => by subst e; omega
  -- what b is
  have hb : ∀ b, l y = some b → N b ∧ p b = some y ∧ lo b = ky x + 1 ∧ hi b = ky y ∧ b ≠ x ∧ b ≠ y := fun b e => by
    obtain ⟨a1, a2, a3, a4⟩ := t2 y b y1 e
    refine ⟨a1, a2, by omega, a4, fun e => ?_, fun e => ?_⟩
    · subst e; omega
    · subst e; omega
  -- what the parent is
  have hq : ∀ q, p x = some q → N q ∧ q ≠ x ∧ q ≠ y ∧ ((l q = some x ∧ lo x = lo q ∧ hi x = ky q) ∨ (l q ≠ some x ∧ r q = some x ∧ lo x = ky q + 1 ∧ hi x = hi q)) := fun q e => by
    obtain ⟨a1, a2⟩ := t4 x q hx e
    have w := t1 q a1
    have hne : q ≠ x ∧ q ≠ y := by
      refine ⟨fun e => ?_, fun e => ?_⟩
      · subst e
        rcases a2 with a2 | a2
        · have := t2 q q hx a2; omega
        · have := t3 q q hx a2; omega
      · subst e
        rcases a2 with a2 | a2
        · have := t2 q x a1 a2; omega
        · have := t3 q x a1 a2; omega
    refine ⟨a1, hne.1, hne.2, ?_⟩
    by_cases hl : l q = some x
    · left; have := t2 q x a1 hl; exact ⟨hl, this.2.2⟩
    · right
      have hr : r q = some x := by rcases a2 with a2 | a2; exact absurd a2 hl; exact a2
      have := t3 q x a1 hr
      exact ⟨hl, hr, this.2.2⟩
  -- the links, by node
  have Ay : rotA l p x y y = some x := by unfold rotA; exact ou_eq
  have Ax : rotA l p x y x = l x := by
    unfold rotA; rw [ou_ne hxy]
    cases hp : p x with
    | none => rfl
    | some q =>
      simp only
      obtain ⟨-, q2, -⟩ := hq q hp
      split
      · exact ou_ne (Ne.symm q2)
      · rfl
  have An : ∀ n, n ≠ y → n ≠ x → rotA l p x y n = if (p x = some n ∧ l n = some x) then some y else l n := fun n h1 h2 => by
    unfold rotA; rw [ou_ne h1]
    cases hp : p x with
    | none => simp
    | some q =>
      simp only
      by_cases hl : l q = some x
      · rw [if_pos hl]
        by_cases e : n = q
        · subst e; rw [ou_eq, if_pos ⟨rfl, hl⟩]
        · rw [ou_ne e, if_neg (fun z => e (Option.some.inj z.1).symm)]
      · rw [if_neg hl]
        rw [if_neg (fun z => hl (by rw [Option.some.inj z.1]; exact z.2))]
  have By : rotB l r p x y (l y) y = r y := by
    unfold rotB
    cases hp : p x with
    | none => simp only; exact ou_ne (Ne.symm hxy)
    | some q =>
      simp only
      obtain ⟨-, -, q3, -⟩ := hq q hp
      split
      · exact ou_ne (Ne.symm hxy)
      · rw [ou_ne (Ne.symm q3), ou_ne (Ne.symm hxy)]
  have Bx : rotB l r p x y (l y) x = l y := by
    unfold rotB
    cases hp : p x with
    | none => simp only; exact ou_eq
    | some q =>
      simp only
      obtain ⟨-, q2, -⟩ := hq q hp
      split
      · exact ou_eq
      · rw [ou_ne (Ne.symm q2), ou_eq]
  have Bn : ∀ n, n ≠ y → n ≠ x → rotB l r p x y (l y) n = if (p x = some n ∧ l n ≠ some x) then some y else r n := fun n h1 h2 => by
    unfold rotB
    cases hp : p x with
    | none => simp only; rw [ou_ne h2]; simp
    | some q =>
      simp only
      by_cases hl : l q = some x
      · rw [if_pos hl, ou_ne h2, if_neg (fun z => z.2 (by rw [← Option.some.inj z.1]; exact hl))]
      · rw [if_neg hl]
        by_cases e : n = q
        · subst e; rw [ou_eq, if_pos ⟨rfl, hl⟩]
        · rw [ou_ne e, ou_ne h2, if_neg (fun z => e (Option.some.inj z.1).symm)]
  have Px : rotP p x y (l y) x = some y := by unfold rotP; exact ou_eq
  have Py : rotP p x y (l y) y = p x := by unfold rotP; rw [ou_ne (Ne.symm hxy), ou_eq]
  have Pn : ∀ n, n ≠ y → n ≠ x → rotP p x y (l y) n = if l y = some n then some x else p n := fun n h1 h2 => by
    unfold rotP; rw [ou_ne h2, ou_ne h1]
    cases hl : l y with
    | none => simp
    | some b =>
      simp only
      by_cases e : n = b
      · subst e; rw [ou_eq, if_pos rfl]
      · rw [ou_ne e, if_neg (fun z => e (Option.some.inj z).symm)]
  refine ⟨fun n hn => ?_, fun n c hn hc => ?_, fun n c hn hc => ?_, fun c q hc hp => ?_, fun c hc hp => ?_, fun c hc => ?_, fun n hn k => ?_⟩
  · dsimp only
    by_cases e1 : n = y
    · subst e1; rw [if_pos rfl, if_pos rfl]; omega
    · rw [if_neg e1, if_neg e1]
      by_cases e2 : n = x
      · subst e2; rw [if_pos rfl]; omega
      · rw [if_neg e2]; exact t1 n hn
  · dsimp only
    by_cases e1 : n = y
    · subst e1
      rw [Ay] at hc; cases hc
      refine ⟨hx, Px, ?_, ?_⟩
      · rw [if_neg hxy, if_pos rfl]
      · rw [if_neg hxy, if_pos rfl]
    · by_cases e2 : n = x
      · subst e2
        rw [Ax] at hc
        obtain ⟨a1, a2, a3, a4⟩ := t2 n c hn hc
        have c1 : c ≠ y := fun e => by subst e; omega
        have c2 : c ≠ n := fun e => by subst e; omega
        refine ⟨a1, ?_, ?_, ?_⟩
        · rw [Pn c c1 c2, if_neg (fun z => by have := (hb c z).2.1; rw [a2] at this; exact hxy (Option.some.inj this))]; exact a2
        · rw [if_neg c1, if_neg hxy]; exact a3
        · rw [if_neg c1, if_neg c2]; exact a4
      · rw [An n e1 e2] at hc
        by_cases hc2 : p x = some n ∧ l n = some x
        · rw [if_pos hc2] at hc; cases hc
          obtain ⟨-, q2, q3, q4⟩ := hq n hc2.1
          rcases q4 with ⟨g1, g2, g3⟩ | ⟨g1, g2⟩
          · exact ⟨y1, by rw [Py]; exact hc2.1, by rw [if_pos rfl, if_neg e1]; exact g2, by rw [if_pos rfl]; exact g3⟩
          · exact absurd hc2.2 g1
        · rw [if_neg hc2] at hc
          obtain ⟨a1, a2, a3, a4⟩ := t2 n c hn hc
          have c1 : c ≠ y := fun e => by subst e; rw [y2] at a2; exact e2 (Option.some.inj a2).symm
          have c2 : c ≠ x := fun e => by subst e; exact hc2 ⟨a2, hc⟩
          refine ⟨a1, ?_, ?_, ?_⟩
          · rw [Pn c c1 c2, if_neg (fun z => by have := (hb c z).2.1; rw [a2] at this; exact e1 (Option.some.inj this))]; exact a2
          · rw [if_neg c1, if_neg e1]; exact a3
          · rw [if_neg c1, if_neg c2]; exact a4
  · dsimp only
    by_cases e1 : n = y
    · subst e1
      rw [By] at hc
      obtain ⟨a1, a2, a3, a4⟩ := t3 n c hn hc
      have c1 : c ≠ n := fun e => by subst e; omega
      have c2 : c ≠ x := fun e => by subst e; omega
      refine ⟨a1, ?_, ?_, ?_⟩
      · rw [Pn c c1 c2, if_neg (fun z => by obtain ⟨b1, b2, b3, b4, b5⟩ := hb c z; omega)]; exact a2
      · rw [if_neg c1]; exact a3
      · rw [if_neg c1, if_neg c2, if_pos rfl]; omega
    · by_cases e2 : n = x
      · subst e2
        rw [Bx] at hc
        obtain ⟨b1, b2, b3, b4, b5, b6⟩ := hb c hc
        refine ⟨b1, ?_, ?_, ?_⟩
        · rw [Pn c b6 b5, if_pos hc]
        · rw [if_neg b6]; exact b3
        · rw [if_neg b6, if_neg b5, if_neg hxy, if_pos rfl]; exact b4
      · rw [Bn n e1 e2] at hc
        by_cases hc2 : p x = some n ∧ l n ≠ some x
        · rw [if_pos hc2] at hc; cases hc
          obtain ⟨-, q2, q3, q4⟩ := hq n hc2.1
          rcases q4 with ⟨g1, g2⟩ | ⟨g1, g2, g3, g4⟩
          · exact absurd g1 hc2.2
          · exact ⟨y1, by rw [Py]; exact hc2.1, by rw [if_pos rfl]; exact g3, by rw [if_pos rfl, if_neg e1, if_neg e2]; exact g4⟩
        · rw [if_neg hc2] at hc
          obtain ⟨a1, a2, a3, a4⟩ := t3 n c hn hc
          have c1 : c ≠ y := fun e => by subst e; rw [y2] at a2; exact e2 (Option.some.inj a2).symm
          have c2 : c ≠ x := fun e => by
            subst e
            refine hc2 ⟨a2, fun hl => ?_⟩
            have := t2 n c hn hl
            have w := t1 n hn
            omega
          refine ⟨a1, ?_, ?_, ?_⟩
          · rw [Pn c c1 c2, if_neg (fun z => by have := (hb c z).2.1; rw [a2] at this; exact e1 (Option.some.inj this))]; exact a2
          · rw [if_neg c1]; exact a3
          · rw [if_neg c1, if_neg c2, if_neg e1, if_neg e2]; exact a4
  · by_cases e1 : c = y
    · subst e1
      rw [Py] at hp
      obtain ⟨q1, q2, q3, q4⟩ := hq q hp
      refine ⟨q1, ?_⟩
      rw [An q q3 q2, Bn q q3 q2]
      by_cases hl : l q = some x
      · left; rw [if_pos ⟨hp, hl⟩]
      · right; rw [if_pos ⟨hp, hl⟩]
    · by_cases e2 : c = x
      · subst e2
        rw [Px] at hp; cases hp
        exact ⟨y1, Or.inl Ay⟩
      · rw [Pn c e1 e2] at hp
        by_cases hl : l y = some c
        · rw [if_pos hl] at hp; cases hp
          exact ⟨hx, Or.inr (by rw [Bx]; exact hl)⟩
        · rw [if_neg hl] at hp
          obtain ⟨a1, a2⟩ := t4 c q hc hp
          refine ⟨a1, ?_⟩
          by_cases f1 : q = y
          · subst f1
            rw [Ay, By]
            rcases a2 with a2 | a2
            · exact absurd a2 hl
            · right; exact a2
          · by_cases f2 : q = x
            · subst f2
              rw [Ax, Bx]
              rcases a2 with a2 | a2
              · left; exact a2
              · rw [hy] at a2; cases a2; exact absurd rfl e1
            · rw [An q f1 f2, Bn q f1 f2]
              rcases a2 with a2 | a2
              · left
                rw [if_neg (fun z => by rw [a2] at z; exact e2 (Option.some.inj z.2))]; exact a2
              · right
                rw [if_neg (fun z => by
                  obtain ⟨-, -, -, q4⟩ := hq q z.1
                  rcases q4 with ⟨g1, -⟩ | ⟨-, g2, -⟩
                  · exact z.2 g1
                  · rw [a2] at g2; exact e2 (Option.some.inj g2))]; exact a2
  · by_cases e1 : c = y
    · subst e1
      rw [Py] at hp
      unfold rotR0; rw [hp]
    · by_cases e2 : c = x
      · subst e2; rw [Px] at hp; cases hp
      · rw [Pn c e1 e2] at hp
        by_cases hl : l y = some c
        · rw [if_pos hl] at hp; cases hp
        · rw [if_neg hl] at hp
          have hR := t5 c hc hp
          unfold rotR0
          cases hpx : p x with
          | none => have := t5 x hx hpx; rw [this] at hR; exact absurd (Option.some.inj hR).symm e2
          | some q => exact hR
  · unfold rotR0 at hc
    dsimp only
    cases hpx : p x with
    | none =>
      rw [hpx] at hc; cases hc
      have hR := t5 x hx hpx
      obtain ⟨a1, a2, a3, a4⟩ := t6 x hR
      exact ⟨y1, by rw [Py]; exact hpx, by rw [if_pos rfl]; exact a3, by rw [if_pos rfl]; exact a4⟩
    | some q =>
      rw [hpx] at hc
      obtain ⟨a1, a2, a3, a4⟩ := t6 c hc
      have c1 : c ≠ y := fun e => by subst e; rw [y2] at a2; cases a2
      have c2 : c ≠ x := fun e => by subst e; rw [hpx] at a2; cases a2
      refine ⟨a1, ?_, by rw [if_neg c1]; exact a3, by rw [if_neg c1, if_neg c2]; exact a4⟩
      rw [Pn c c1 c2, if_neg (fun z => by have := (hb c z).2.1; rw [a2] at this; cases this)]; exact a2
  · dsimp only
    have hSx := t7 x hx k
    have hSy := t7 y y1 k
    by_cases e1 : n = y
    · subst e1
      rw [if_pos rfl, Ay, By, hSx]
      have hbS : (∃ c, l n = some c ∧ (if c = n then S x k else if c = x then (k = ky x ∨ (k < ky x ∧ ∃ c, l x = some c ∧ S c k) ∨ (ky x < k ∧ ∃ c, l n = some c ∧ S c k)) else S c k)) ↔ ∃ c, l n = some c ∧ S c k := by
        constructor
        · rintro ⟨c, h1, h2⟩
          obtain ⟨-, -, -, -, b5, b6⟩ := hb c h1
          rw [if_neg b6, if_neg b5] at h2; exact ⟨c, h1, h2⟩
        · rintro ⟨c, h1, h2⟩
          obtain ⟨-, -, -, -, b5, b6⟩ := hb c h1
          exact ⟨c, h1, by rw [if_neg b6, if_neg b5]; exact h2⟩
      constructor
      · rintro (h | ⟨h, h2⟩ | ⟨h, c, h2, h3⟩)
        · right; left
          exact ⟨by omega, x, rfl, by rw [if_neg hxy, if_pos rfl]; exact Or.inl h⟩
        · right; left
          exact ⟨by omega, x, rfl, by rw [if_neg hxy, if_pos rfl]; exact Or.inr (Or.inl ⟨h, h2⟩)⟩
        · rw [hy] at h2; cases h2
          rw [hSy] at h3
          rcases h3 with h3 | ⟨h3, h4⟩ | ⟨h3, c, h4, h5⟩
          · left; exact h3
          · right; left
            exact ⟨h3, x, rfl, by rw [if_neg hxy, if_pos rfl]; exact Or.inr (Or.inr ⟨h, h4⟩)⟩
          · right; right
            obtain ⟨a1, a2, a3, a4⟩ := t3 n c hn h4
            have c1 : c ≠ n := fun e => by subst e; omega
            have c2 : c ≠ x := fun e => by subst e; omega
            exact ⟨h3, c, h4, by rw [if_neg c1, if_neg c2]; exact h5⟩
      · rintro (h | ⟨h, c, h2, h3⟩ | ⟨h, c, h2, h3⟩)
        · right; right; exact ⟨by omega, n, hy, hSy.mpr (Or.inl h)⟩
        · cases h2
          rw [if_neg hxy, if_pos rfl] at h3
          rcases h3 with h3 | h3 | ⟨h3, h4⟩
          · left; exact h3
          · right; left; exact h3
          · right; right; exact ⟨h3, n, hy, hSy.mpr (Or.inr (Or.inl ⟨h, h4⟩))⟩
        · obtain ⟨a1, a2, a3, a4⟩ := t3 n c hn h2
          have c1 : c ≠ n := fun e => by subst e; omega
          have c2 : c ≠ x := fun e => by subst e; omega
          rw [if_neg c1, if_neg c2] at h3
          right; right; exact ⟨by omega, n, hy, hSy.mpr (Or.inr (Or.inr ⟨h, c, h2, h3⟩))⟩
    · by_cases e2 : n = x
      · subst e2
        rw [if_neg e1, if_pos rfl, Ax, Bx]
        constructor
        · rintro (h | ⟨h, c, h2, h3⟩ | ⟨h, c, h2, h3⟩)
          · left; exact h
          · right; left
            obtain ⟨a1, a2, a3, a4⟩ := t2 n c hn h2
            have c1 : c ≠ y := fun e => by subst e; omega
            have c2 : c ≠ n := fun e => by subst e; omega
            exact ⟨h, c, h2, by rw [if_neg c1, if_neg c2]; exact h3⟩
          · right; right
            obtain ⟨-, -, -, -, b5, b6⟩ := hb c h2
            exact ⟨h, c, h2, by rw [if_neg b6, if_neg b5]; exact h3⟩
        · rintro (h | ⟨h, c, h2, h3⟩ | ⟨h, c, h2, h3⟩)
          · left; exact h
          · right; left
            obtain ⟨a1, a2, a3, a4⟩ := t2 n c hn h2
            have c1 : c ≠ y := fun e => by subst e; omega
            have c2 : c ≠ n := fun e => by subst e; omega
            rw [if_neg c1, if_neg c2] at h3
            exact ⟨h, c, h2, h3⟩
          · right; right
            obtain ⟨-, -, -, -, b5, b6⟩ := hb c h2
            rw [if_neg b6, if_neg b5] at h3
            exact ⟨h, c, h2, h3⟩
      · rw [if_neg e1, if_neg e2, An n e1 e2, Bn n e1 e2, t7 n hn k]
        -- children of other nodes
        have cl : ∀ c, l n = some c → c ≠ y ∧ (c = x → p x = some n ∧ l n = some x) := fun c h => by
          obtain ⟨a1, a2, -⟩ := t2 n c hn h
          exact ⟨fun e => by subst e; rw [y2] at a2; exact e2 (Option.some.inj a2).symm, fun e => by subst e; exact ⟨a2, h⟩⟩
        have cr : ∀ c, r n = some c → c ≠ y ∧ (c = x → p x = some n ∧ l n ≠ some x) := fun c h => by
          obtain ⟨a1, a2, a3, a4⟩ := t3 n c hn h
          refine ⟨fun e => by subst e; rw [y2] at a2; exact e2 (Option.some.inj a2).symm, fun e => ?_⟩
          subst e
          refine ⟨a2, fun hl => ?_⟩
          have := t2 n c hn hl
          have w := t1 n hn
          omega
        have hL : (∃ c, l n = some c ∧ S c k) ↔ ∃ c, (if p x = some n ∧ l n = some x then some y else l n) = some c ∧ (if c = y then S x k else if c = x then (k = ky x ∨ (k < ky x ∧ ∃ c, l x = some c ∧ S c k) ∨ (ky x < k ∧ ∃ c, l y = some c ∧ S c k)) else S c k) := by
          by_cases hc2 : p x = some n ∧ l n = some x
          · rw [if_pos hc2]
            constructor
            · rintro ⟨c, h1, h2⟩
              rw [hc2.2] at h1; cases h1
              exact ⟨y, rfl, by rw [if_pos rfl]; exact h2⟩
            · rintro ⟨c, h1, h2⟩
              cases h1
              rw [if_pos rfl] at h2
              exact ⟨x, hc2.2, h2⟩
          · rw [if_neg hc2]
            constructor
            · rintro ⟨c, h1, h2⟩
              exact ⟨c, h1, by rw [if_neg (cl c h1).1, if_neg (fun e => hc2 ((cl c h1).2 e))]; exact h2⟩
            · rintro ⟨c, h1, h2⟩
              rw [if_neg (cl c h1).1, if_neg (fun e => hc2 ((cl c h1).2 e))] at h2
              exact ⟨c, h1, h2⟩
        have hR : (∃ c, r n = some c ∧ S c k) ↔ ∃ c, (if p x = some n ∧ l n ≠ some x then some y else r n) = some c ∧ (if c = y then S x k else if c = x then (k = ky x ∨ (k < ky x ∧ ∃ c, l x = some c ∧ S c k) ∨ (ky x < k ∧ ∃ c, l y = some c ∧ S c k)) else S c k) := by
          by_cases hc2 : p x = some n ∧ l n ≠ some x
          · rw [if_pos hc2]
            obtain ⟨-, -, -, q4⟩ := hq n hc2.1
            have hr : r n = some x := by
              rcases q4 with ⟨g1, -⟩ | ⟨-, g2, -⟩
              · exact absurd g1 hc2.2
              · exact g2
            constructor
            · rintro ⟨c, h1, h2⟩
              rw [hr] at h1; cases h1
              exact ⟨y, rfl, by rw [if_pos rfl]; exact h2⟩
            · rintro ⟨c, h1, h2⟩
              cases h1
              rw [if_pos rfl] at h2
              exact ⟨x, hr, h2⟩
          · rw [if_neg hc2]
            constructor
            · rintro ⟨c, h1, h2⟩
              exact ⟨c, h1, by rw [if_neg (cr c h1).1, if_neg (fun e => hc2 ((cr c h1).2 e))]; exact h2⟩
            · rintro ⟨c, h1, h2⟩
              rw [if_neg (cr c h1).1, if_neg (fun e => hc2 ((cr c h1).2 e))] at h2
              exact ⟨c, h1, h2⟩
        rw [hL, hR]
end ROT
