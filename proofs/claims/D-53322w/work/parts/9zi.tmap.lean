/-! PLAIN LAW: the class: the map's cells -/
set_option maxRecDepth 100000
def tmc (cm R : Option Nat) (sz md : Int32) : PC := .inr (24, [.null, .null, va_rf cm, va_rf R, .int sz, .int md, .null, .null, .null])
def tnc (k : Nat) (v l r p : Option Nat) (c : Int32) : PC := .inr (25, [.ref k, va_rf v, va_rf l, va_rf r, va_rf p, .int c])
/-- a heap with a map's cells laid over it -/
def TT (h0 : PH) (t : Nat) (N : Nat → Bool) (cm : Option Nat) (kr : Nat → Nat) (sz md : Int32) (vr : Nat → Option Nat) (R : Option Nat) (l r p : Nat → Option Nat) (c : Nat → Int32) : PH :=
  (fun a => if a = t then some (tmc cm R sz md) else if N a = true then some (tnc (kr a) (vr a) (l a) (r a) (p a) (c a)) else h0.1 a, h0.2)
section TT
variable {h0 : PH} {t : Nat} {N : Nat → Bool} {cm : Option Nat} {kr : Nat → Nat} {sz md : Int32} {vr : Nat → Option Nat} {R : Option Nat} {l r p : Nat → Option Nat} {c : Nat → Int32} {n : Nat} {x : Option Nat}
theorem tt_t : (TT h0 t N cm kr sz md vr R l r p c).1 t = some (tmc cm R sz md) := by simp [TT]
theorem tt_n (hn : N n = true) (ht : n ≠ t) : (TT h0 t N cm kr sz md vr R l r p c).1 n = some (tnc (kr n) (vr n) (l n) (r n) (p n) (c n)) := by simp [TT, hn, ht]
theorem tt_o {a : Nat} (hn : N a = false) (ht : a ≠ t) : (TT h0 t N cm kr sz md vr R l r p c).1 a = h0.1 a := by simp [TT, hn, ht]
theorem tt_k (hn : N n = true) (ht : n ≠ t) : gfr 25 0 (some n) (TT h0 t N cm kr sz md vr R l r p c) = some (some (kr n)) := gfr_at (x := some (kr n)) (tt_n hn ht) rfl
theorem tt_v (hn : N n = true) (ht : n ≠ t) : gfr 25 1 (some n) (TT h0 t N cm kr sz md vr R l r p c) = some (vr n) := gfr_at (x := vr n) (tt_n hn ht) rfl
theorem tt_l (hn : N n = true) (ht : n ≠ t) : gfr 25 2 (some n) (TT h0 t N cm kr sz md vr R l r p c) = some (l n) := gfr_at (x := l n) (tt_n hn ht) rfl
theorem tt_r (hn : N n = true) (ht : n ≠ t) : gfr 25 3 (some n) (TT h0 t N cm kr sz md vr R l r p c) = some (r n) := gfr_at (x := r n) (tt_n hn ht) rfl
theorem tt_p (hn : N n = true) (ht : n ≠ t) : gfr 25 4 (some n) (TT h0 t N cm kr sz md vr R l r p c) = some (p n) := gfr_at (x := p n) (tt_n hn ht) rfl
theorem tt_c (hn : N n = true) (ht : n ≠ t) : gfi 25 5 (some n) (TT h0 t N cm kr sz md vr R l r p c) = some (c n) := gfi_at (tt_n hn ht) rfl
theorem tt_rc : rcv 24 (some t) (TT h0 t N cm kr sz md vr R l r p c) = some () := rcv_at tt_t
theorem tt_R : gfr 24 3 (some t) (TT h0 t N cm kr sz md vr R l r p c) = some R := gfr_at (x := R) tt_t rfl
theorem tt_cm : gfr 24 2 (some t) (TT h0 t N cm kr sz md vr R l r p c) = some cm := gfr_at (x := cm) tt_t rfl
theorem tt_sz : gfi 24 4 (some t) (TT h0 t N cm kr sz md vr R l r p c) = some sz := gfi_at tt_t rfl
theorem tt_md : gfi 24 5 (some t) (TT h0 t N cm kr sz md vr R l r p c) = some md := gfi_at tt_t rfl
theorem tt_set {d : PC} {vr' : Nat → Option Nat} {l' r' p' : Nat → Option Nat} {c' : Nat → Int32} (hn : N n = true) (ht : n ≠ t) (hd : d = tnc (kr n) (vr' n) (l' n) (r' n) (p' n) (c' n)) (he : ∀ j, j ≠ n → vr' j = vr j ∧ l' j = l j ∧ r' j = r j ∧ p' j = p j ∧ c' j = c j) : hset (TT h0 t N cm kr sz md vr R l r p c) n d = TT h0 t N cm kr sz md vr' R l' r' p' c' := by
  subst hd
  unfold TT hset
  congr 1
  funext a
  by_cases e : a = n
  · subst e
    simp [ht, hn]
  · obtain ⟨e1, e2, e3, e4, e5⟩ := he a e
    by_cases e' : a = t
    · simp [e, e']
      intro h; exact absurd h.symm ht
    · simp [e, e', e1, e2, e3, e4, e5]
theorem tt_pl (hn : N n = true) (ht : n ≠ t) : pf 25 2 (some n) (va_rf x) (TT h0 t N cm kr sz md vr R l r p c) = some (TT h0 t N cm kr sz md vr R (ou l n x) r p c) := by
  rw [pf_at (tt_n hn ht) (by simp)]
  exact congrArg some (tt_set hn ht (by rw [ou_eq]; rfl) (fun j hj => ⟨rfl, ou_ne hj, rfl, rfl, rfl⟩))
theorem tt_pr (hn : N n = true) (ht : n ≠ t) : pf 25 3 (some n) (va_rf x) (TT h0 t N cm kr sz md vr R l r p c) = some (TT h0 t N cm kr sz md vr R l (ou r n x) p c) := by
  rw [pf_at (tt_n hn ht) (by simp)]
  exact congrArg some (tt_set hn ht (by rw [ou_eq]; rfl) (fun j hj => ⟨rfl, rfl, ou_ne hj, rfl, rfl⟩))
theorem tt_pp (hn : N n = true) (ht : n ≠ t) : pf 25 4 (some n) (va_rf x) (TT h0 t N cm kr sz md vr R l r p c) = some (TT h0 t N cm kr sz md vr R l r (ou p n x) c) := by
  rw [pf_at (tt_n hn ht) (by simp)]
  exact congrArg some (tt_set hn ht (by rw [ou_eq]; rfl) (fun j hj => ⟨rfl, rfl, rfl, ou_ne hj, rfl⟩))
theorem tt_pv (hn : N n = true) (ht : n ≠ t) : pf 25 1 (some n) (va_rf x) (TT h0 t N cm kr sz md vr R l r p c) = some (TT h0 t N cm kr sz md (ou vr n x) R l r p c) := by
  rw [pf_at (tt_n hn ht) (by simp)]
  exact congrArg some (tt_set hn ht (by rw [ou_eq]; rfl) (fun j hj => ⟨ou_ne hj, rfl, rfl, rfl, rfl⟩))
def uc (c : Nat → Int32) (n : Nat) (x : Int32) : Nat → Int32 := fun j => if j = n then x else c j
theorem tt_pc {y : Int32} (hn : N n = true) (ht : n ≠ t) : pf 25 5 (some n) (.int y) (TT h0 t N cm kr sz md vr R l r p c) = some (TT h0 t N cm kr sz md vr R l r p (uc c n y)) := by
  rw [pf_at (tt_n hn ht) (by simp)]
  exact congrArg some (tt_set hn ht (by unfold uc; rw [if_pos rfl]; rfl) (fun j hj => ⟨rfl, rfl, rfl, rfl, by unfold uc; rw [if_neg hj]⟩))
theorem tt_sett {cm' R' : Option Nat} {sz' md' : Int32} : hset (TT h0 t N cm kr sz md vr R l r p c) t (tmc cm' R' sz' md') = TT h0 t N cm' kr sz' md' vr R' l r p c := by
  unfold TT hset
  congr 1
  funext a
  by_cases e : a = t <;> simp [e]
theorem tt_pR : pf 24 3 (some t) (va_rf x) (TT h0 t N cm kr sz md vr R l r p c) = some (TT h0 t N cm kr sz md vr x l r p c) := by
  rw [pf_at tt_t (by simp)]
  exact congrArg some tt_sett
theorem tt_ps {y : Int32} : pf 24 4 (some t) (.int y) (TT h0 t N cm kr sz md vr R l r p c) = some (TT h0 t N cm kr y md vr R l r p c) := by
  rw [pf_at tt_t (by simp)]
  exact congrArg some tt_sett
theorem tt_pm {y : Int32} : pf 24 5 (some t) (.int y) (TT h0 t N cm kr sz md vr R l r p c) = some (TT h0 t N cm kr sz y vr R l r p c) := by
  rw [pf_at tt_t (by simp)]
  exact congrArg some tt_sett
/-! the rotations -/
theorem tt_rotL {x y : Nat} (ht : ∀ n, N n = true → n ≠ t) (hx : N x = true) (hy : r x = some y) (hyN : N y = true) (hxy : x ≠ y) (hb : ∀ b, l y = some b → N b = true ∧ b ≠ x ∧ b ≠ y) (hq : ∀ q, p x = some q → N q = true ∧ q ≠ x) :
    f_J1_rotateLeft (some t) (some x) (TT h0 t N cm kr sz md vr R l r p c) = some (TT h0 t N cm kr sz md vr (rotR0 R (p x) y) (rotA l p x y) (rotB l r p x y (l y)) (rotP p x y (l y)) c) := by
  have tx := ht x hx
  have ty := ht y hyN
  have b85 : ∀ (R : Option Nat) (l r p : Nat → Option Nat), f_J1_rotateLeft_B85 (some x) (some y) (TT h0 t N cm kr sz md vr R l r p c) = some (TT h0 t N cm kr sz md vr R (ou l y (some x)) r (ou p x (some y)) c) := fun R l r p => by
    unfold f_J1_rotateLeft_B85
    rw [tt_pl hyN ty, Option.bind_some, tt_pp hx tx, Option.bind_some]
  have b32 : ∀ (r p1 : Nat → Option Nat), p1 x = p x → f_J1_rotateLeft_B32 (some t) (some x) (some y) (TT h0 t N cm kr sz md vr R l r p1 c) = some (TT h0 t N cm kr sz md vr (rotR0 R (p x) y) (rotA l p x y) (match p x with | none => r | some q => if l q = some x then r else ou r q (some y)) (ou (ou p1 y (p x)) x (some y)) c) := fun r p1 hp1 => by
    unfold f_J1_rotateLeft_B32
    rw [tt_p hx tx, Option.bind_some, hp1, tt_pp hyN ty, Option.bind_some, tt_p hx tx, Option.bind_some, ou_ne hxy, hp1]
    cases hp : p x with
    | none =>
      rw [if_pos rfl, tt_pR, Option.bind_some, b85]
      unfold rotR0 rotA
      rw [hp]
    | some q =>
      obtain ⟨q1, q2⟩ := hq q hp
      rw [if_neg (by simp), Option.bind_some, tt_l q1 (ht q q1), Option.bind_some]
      unfold rotR0 rotA
      rw [hp]
      simp only
      by_cases hl : l q = some x
      · rw [if_pos hl, if_pos hl, if_pos hl, Option.bind_some, tt_pl q1 (ht q q1), Option.bind_some, b85]
      · rw [if_neg hl, if_neg hl, if_neg hl, Option.bind_some, tt_pr q1 (ht q q1), Option.bind_some, b85]
  have eB : ∀ b, (match p x with | none => ou r x b | some q => if l q = some x then ou r x b else ou (ou r x b) q (some y)) = rotB l r p x y b := fun b => by unfold rotB; rfl
  unfold f_J1_rotateLeft
  rw [if_neg (by simp), tt_r hx tx, Option.bind_some, hy, tt_l hyN ty, Option.bind_some, tt_pr hx tx, Option.bind_some, tt_l hyN ty, Option.bind_some]
  cases hl : l y with
  | none =>
    rw [if_pos rfl, b32 (ou r x none) p rfl, eB]
    unfold rotP
    rfl
  | some b =>
    obtain ⟨b1, b2, b3⟩ := hb b hl
    rw [if_neg (by simp), Option.bind_some, tt_pp b1 (ht b b1), Option.bind_some, b32 (ou r x (some b)) (ou p b (some x)) (ou_ne (Ne.symm b2)), eB]
    unfold rotP
    rfl
theorem tt_rotR {x y : Nat} (ht : ∀ n, N n = true → n ≠ t) (hx : N x = true) (hy : l x = some y) (hyN : N y = true) (hxy : x ≠ y) (hb : ∀ b, r y = some b → N b = true ∧ b ≠ x ∧ b ≠ y) (hq : ∀ q, p x = some q → N q = true ∧ q ≠ x) :
    f_J1_rotateRight (some t) (some x) (TT h0 t N cm kr sz md vr R l r p c) = some (TT h0 t N cm kr sz md vr (rotR0 R (p x) y) (rotB r l p x y (r y)) (rotA r p x y) (rotP p x y (r y)) c) := by
  have tx := ht x hx
  have ty := ht y hyN
  have b85 : ∀ (R : Option Nat) (l r p : Nat → Option Nat), f_J1_rotateRight_B85 (some x) (some y) (TT h0 t N cm kr sz md vr R l r p c) = some (TT h0 t N cm kr sz md vr R l (ou r y (some x)) (ou p x (some y)) c) := fun R l r p => by
    unfold f_J1_rotateRight_B85
    rw [tt_pr hyN ty, Option.bind_some, tt_pp hx tx, Option.bind_some]
  have b32 : ∀ (l p1 : Nat → Option Nat), p1 x = p x → f_J1_rotateRight_B32 (some t) (some x) (some y) (TT h0 t N cm kr sz md vr R l r p1 c) = some (TT h0 t N cm kr sz md vr (rotR0 R (p x) y) (match p x with | none => l | some q => if r q = some x then l else ou l q (some y)) (rotA r p x y) (ou (ou p1 y (p x)) x (some y)) c) := fun l p1 hp1 => by
    unfold f_J1_rotateRight_B32
    rw [tt_p hx tx, Option.bind_some, hp1, tt_pp hyN ty, Option.bind_some, tt_p hx tx, Option.bind_some, ou_ne hxy, hp1]
    cases hp : p x with
    | none =>
      rw [if_pos rfl, tt_pR, Option.bind_some, b85]
      unfold rotR0 rotA
      rw [hp]
    | some q =>
      obtain ⟨q1, q2⟩ := hq q hp
      rw [if_neg (by simp), Option.bind_some, tt_r q1 (ht q q1), Option.bind_some]
      unfold rotR0 rotA
      rw [hp]
      simp only
      by_cases hl : r q = some x
      · rw [if_pos hl, if_pos hl, if_pos hl, Option.bind_some, tt_pr q1 (ht q q1), Option.bind_some, b85]
      · rw [if_neg hl, if_neg hl, if_neg hl, Option.bind_some, tt_pl q1 (ht q q1), Option.bind_some, b85]
  have eB : ∀ b, (match p x with | none => ou l x b | some q => if r q = some x then ou l x b else ou (ou l x b) q (some y)) = rotB r l p x y b := fun b => by unfold rotB; rfl
  unfold f_J1_rotateRight
  rw [if_neg (by simp), tt_l hx tx, Option.bind_some, hy, tt_r hyN ty, Option.bind_some, tt_pl hx tx, Option.bind_some, tt_r hyN ty, Option.bind_some]
  cases hl : r y with
  | none =>
    rw [if_pos rfl, b32 (ou l x none) p rfl, eB]
    unfold rotP
    rfl
  | some b =>
    obtain ⟨b1, b2, b3⟩ := hb b hl
    rw [if_neg (by simp), Option.bind_some, tt_pp b1 (ht b b1), Option.bind_some, b32 (ou l x (some b)) (ou p b (some x)) (ou_ne (Ne.symm b2)), eB]
    unfold rotP
    rfl
end TT
