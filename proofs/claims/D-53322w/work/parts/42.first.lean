/-! PLAIN LAW: the first index of a kind -/
set_option maxRecDepth 100000
/-- the first index below n, from i, with P -/
def firstFrom (P : Nat → Bool) : Nat → Nat → Option Nat
  | 0, _ => none
  | n + 1, i => if P i = true then some i else firstFrom P n (i + 1)
def firstI (P : Nat → Bool) (n : Nat) : Option Nat := firstFrom P n 0
theorem loop_first_up {α β : Type} (L : Nat → α → Option β) (st : Nat → α) (n : Nat) (P : Nat → Bool) (hit : Nat → Option β) (miss : Option β) (hs : ∀ k i, i < n → P i = false → L (k + 1) (st i) = L k (st (i + 1))) (hh : ∀ k i, i < n → P i = true → L (k + 1) (st i) = hit i) (he : ∀ k, L (k + 1) (st n) = miss) :
    ∀ d k i, i + d = n → d < k → L k (st i) = (match firstFrom P d i with | some j => hit j | none => miss) := by
  intro d
  induction d with
  | zero =>
    intro k i hi hk
    obtain ⟨k, rfl⟩ : ∃ k', k = k' + 1 := ⟨k - 1, by omega⟩
    have : i = n := by omega
    subst this
    exact he k
  | succ d ih =>
    intro k i hi hk
    obtain ⟨k, rfl⟩ : ∃ k', k = k' + 1 := ⟨k - 1, by omega⟩
    cases hp : P i with
    | true =>
      rw [hh k i (by omega) hp]
      simp [firstFrom, hp]
    | false =>
      rw [hs k i (by omega) hp, ih k (i + 1) (by omega) (by omega)]
      simp [firstFrom, hp]
theorem loop_first {α β : Type} (L : Nat → α → Option β) (st : Nat → α) (n : Nat) (P : Nat → Bool) (hit : Nat → Option β) (miss : Option β) (hn : n < 1000000) (hs : ∀ k i, i < n → P i = false → L (k + 1) (st i) = L k (st (i + 1))) (hh : ∀ k i, i < n → P i = true → L (k + 1) (st i) = hit i) (he : ∀ k, L (k + 1) (st n) = miss) :
    L FU (st 0) = (match firstI P n with | some j => hit j | none => miss) := loop_first_up L st n P hit miss hs hh he n FU 0 (by omega) (by rw [FU_eq]; exact hn)
