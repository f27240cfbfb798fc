/-! PLAIN LAW: the class: writes to cells of another kind -/
set_option maxRecDepth 100000
/-- the kind of a cell -/
def ki : PC → Nat
  | .inl o => 1000 + o.1
  | .inr o => o.1
theorem hset_at {h : PH} {a : Nat} {c : PC} : (hset h a c).1 a = some c := by simp [hset]
theorem hset_ne {h : PH} {a x : Nat} {c : PC} (hx : x ≠ a) : (hset h a c).1 x = h.1 x := by simp [hset, hx]
theorem hset_hset {h : PH} {a : Nat} {c d : PC} : hset (hset h a c) a d = hset h a d := by
  unfold hset
  congr 1
  funext q
  by_cases e : q = a <;> simp [e]
theorem hset_self {h : PH} {a : Nat} {c : PC} (hc : h.1 a = some c) : hset h a c = h := by
  unfold hset
  have : (fun q => if q = a then some c else h.1 q) = h.1 := by
    funext q
    by_cases e : q = a
    · subst e; rw [if_pos rfl, hc]
    · rw [if_neg e]
  rw [this]
theorem hset_comm {h : PH} {a b : Nat} {c d : PC} (hab : a ≠ b) : hset (hset h a c) b d = hset (hset h b d) a c := by
  unfold hset
  congr 1
  funext q
  by_cases e : q = a
  · subst e; simp [hab]
  · simp [e]
theorem lk_at {h : PH} {a : Nat} {c : PC} : lk (hset h a c) a = some c := by simp [lk, hset_at]
theorem lk_ne {h : PH} {a x : Nat} {c : PC} (hx : x ≠ a) : lk (hset h a c) x = lk h x := by
  simp only [lk, hset_ne hx]
  rfl
theorem lk_own {h : PH} {a : Nat} {c : PC} (hc : h.1 a = some c) : lk h a = some c := by simp [lk, hc]
section KI
variable {h : PH} {a : Nat} {c0 c : PC}
theorem ob_ki {ci : Nat} {x : Option Nat} (h0 : h.1 a = some c0) (k0 : ki c0 ≠ ci) (k1 : ki c ≠ ci) : ob ci x (hset h a c) = ob ci x h := by
  cases x with
  | none => rfl
  | some q =>
    by_cases e : q = a
    · subst e
      simp only [ob, lk_at, lk_own h0]
      have : ∀ d : PC, ki d ≠ ci → (match some d with | some (.inr o) => if o.1 = ci then some o.2 else none | _ => none) = (none : Option (List Value)) := by
        intro d hd
        cases d with
        | inl o => rfl
        | inr o => exact if_neg hd
      exact (this c k1).trans (this c0 k0).symm
    · simp only [ob, lk_ne e]
theorem ar_ki {t : Nat} {x : Option Nat} (h0 : h.1 a = some c0) (k0 : ki c0 ≠ 1000 + t) (k1 : ki c ≠ 1000 + t) : ar t x (hset h a c) = ar t x h := by
  cases x with
  | none => rfl
  | some q =>
    by_cases e : q = a
    · subst e
      simp only [ar, lk_at, lk_own h0]
      have : ∀ d : PC, ki d ≠ 1000 + t → (match some d with | some (.inl o) => if o.1 = t then some o.2 else none | _ => none) = (none : Option vp_A) := by
        intro d hd
        cases d with
        | inr o => rfl
        | inl o => exact if_neg (fun z => hd (by show 1000 + o.1 = 1000 + t; omega))
      exact (this c k1).trans (this c0 k0).symm
    · simp only [ar, lk_ne e]
theorem ar_ne {t : Nat} {x : Nat} (hx : x ≠ a) : ar t (some x) (hset h a c) = ar t (some x) h := by simp only [ar, lk_ne hx]
theorem ob_ne {ci : Nat} {x : Nat} (hx : x ≠ a) : ob ci (some x) (hset h a c) = ob ci (some x) h := by simp only [ob, lk_ne hx]
theorem clo_ki {x : Option Nat} {ci : Nat} (h0 : h.1 a = some c0) (k0 : ki c0 ≠ ci) (k1 : ki c ≠ ci) : (clo x (hset h a c) = some ci) = (clo x h = some ci) := by
  cases x with
  | none => rfl
  | some q =>
    by_cases e : q = a
    · subst e
      simp only [clo, lk_at, lk_own h0]
      have : ∀ d : PC, ki d ≠ ci → ¬ ((match some d with | some (.inr o) => some o.1 | _ => none) = some ci) := by
        intro d hd z
        cases d with
        | inl o => cases z
        | inr o => exact hd (Option.some.inj z)
      exact (eq_false (this c k1)).trans (eq_false (this c0 k0)).symm
    · simp only [clo, lk_ne e]
theorem rcv_ki {x : Option Nat} {ci : Nat} (h0 : h.1 a = some c0) (k0 : ki c0 ≠ ci) (k1 : ki c ≠ ci) : rcv ci x (hset h a c) = rcv ci x h := by
  simp only [rcv, clo_ki h0 k0 k1]
theorem clo_same {x : Option Nat} (h0 : h.1 a = some c0) (hk : ki c = ki c0) (ho : (∃ o, c0 = .inr o) ∧ ∃ o, c = .inr o) : clo x (hset h a c) = clo x h := by
  cases x with
  | none => rfl
  | some q =>
    by_cases e : q = a
    · subst e
      obtain ⟨⟨o0, rfl⟩, o, rfl⟩ := ho
      simp only [clo, lk_at, lk_own h0]
      exact congrArg some hk
    · simp only [clo, lk_ne e]
theorem gfi_ki {ci k : Nat} {x : Option Nat} (h0 : h.1 a = some c0) (k0 : ki c0 ≠ ci) (k1 : ki c ≠ ci) : gfi ci k x (hset h a c) = gfi ci k x h := by simp only [gfi, ob_ki h0 k0 k1]
theorem gfr_ki {ci k : Nat} {x : Option Nat} (h0 : h.1 a = some c0) (k0 : ki c0 ≠ ci) (k1 : ki c ≠ ci) : gfr ci k x (hset h a c) = gfr ci k x h := by simp only [gfr, ob_ki h0 k0 k1]
theorem aln_ki {t : Nat} {x : Option Nat} (h0 : h.1 a = some c0) (k0 : ki c0 ≠ 1000 + t) (k1 : ki c ≠ 1000 + t) : aln t x (hset h a c) = aln t x h := by simp only [aln, ar_ki h0 k0 k1]
theorem ald_ki {t : Nat} {x : Option Nat} {i : Int32} (h0 : h.1 a = some c0) (k0 : ki c0 ≠ 1000 + t) (k1 : ki c ≠ 1000 + t) : ald t x i (hset h a c) = ald t x i h := by simp only [ald, ar_ki h0 k0 k1]
theorem alr_ki {t : Nat} {x : Option Nat} {i : Int32} (h0 : h.1 a = some c0) (k0 : ki c0 ≠ 1000 + t) (k1 : ki c ≠ 1000 + t) : alr t x i (hset h a c) = alr t x i h := by simp only [alr, ar_ki h0 k0 k1]
theorem ald_ne {t x : Nat} {i : Int32} (hx : x ≠ a) : ald t (some x) i (hset h a c) = ald t (some x) i h := by simp only [ald, ar_ne hx]
theorem alr_ne {t x : Nat} {i : Int32} (hx : x ≠ a) : alr t (some x) i (hset h a c) = alr t (some x) i h := by simp only [alr, ar_ne hx]
theorem aln_ne {t x : Nat} (hx : x ≠ a) : aln t (some x) (hset h a c) = aln t (some x) h := by simp only [aln, ar_ne hx]
theorem gfi_ne {ci k x : Nat} (hx : x ≠ a) : gfi ci k (some x) (hset h a c) = gfi ci k (some x) h := by simp only [gfi, ob_ne hx]
theorem gfr_ne {ci k x : Nat} (hx : x ≠ a) : gfr ci k (some x) (hset h a c) = gfr ci k (some x) h := by simp only [gfr, ob_ne hx]
theorem clo_ne {x : Nat} (hx : x ≠ a) : clo (some x) (hset h a c) = clo (some x) h := by simp only [clo, lk_ne hx]
theorem rcv_ne {ci x : Nat} (hx : x ≠ a) : rcv ci (some x) (hset h a c) = rcv ci (some x) h := by unfold rcv; rw [clo_ne hx]
/-- a page is read as before, where a cell of a kind that no page has is written -/
theorem PgR_ki {p mm : Nat} {ms : Nat → Nat} {s : Nat → Nat} (h0 : h.1 a = some c0) (e0 : ki c0 ≠ 3 ∧ ki c0 ≠ 1000 ∧ ki c0 ≠ 1001 ∧ ki c0 ≠ 1003) (e1 : ki c ≠ 3 ∧ ki c ≠ 1000 ∧ ki c ≠ 1001 ∧ ki c ≠ 1003) (H : PgR h p mm ms s) : PgR (hset h a c) p mm ms s := by
  unfold PgR
  simp only [rcv_ki h0 e0.1 e1.1, gfi_ki h0 e0.1 e1.1, gfr_ki h0 e0.1 e1.1, aln_ki (t := 0) h0 e0.2.1 e1.2.1, ald_ki (t := 0) h0 e0.2.1 e1.2.1, ald_ki (t := 1) h0 e0.2.2.1 e1.2.2.1, aln_ki (t := 3) h0 e0.2.2.2 e1.2.2.2, alr_ki (t := 3) h0 e0.2.2.2 e1.2.2.2]
  exact H
theorem BdR_ki {b p : Nat} {s w : Nat → Nat} (h0 : h.1 a = some c0) (e0 : ki c0 ≠ 4 ∧ ki c0 ≠ 1000) (e1 : ki c ≠ 4 ∧ ki c ≠ 1000) (B : BdR h b p s w) : BdR (hset h a c) b p s w := by
  unfold BdR
  simp only [rcv_ki h0 e0.1 e1.1, gfr_ki h0 e0.1 e1.1, ald_ki (t := 0) h0 e0.2 e1.2]
  exact B
/-- an array of numbers, not of the page, is written -/
theorem PgR_ar {p mm : Nat} {ms : Nat → Nat} {s : Nat → Nat} (h0 : h.1 a = some c0) (e0 : ki c0 = 1000) (e1 : ki c = 1000) (ha : a ≠ p + 1 ∧ a ≠ p + 2 ∧ ∀ b, b < rkTo s (nc s) → a ≠ ms b) (H : PgR h p mm ms s) : PgR (hset h a c) p mm ms s := by
  have k3 : ki c0 ≠ 3 ∧ ki c ≠ 3 := by omega
  have k1 : ki c0 ≠ 1001 ∧ ki c ≠ 1001 := by omega
  have k4 : ki c0 ≠ 1003 ∧ ki c ≠ 1003 := by omega
  unfold PgR
  refine ⟨?_, ?_, ?_, ?_, ?_, ?_⟩
  · simp only [rcv_ki h0 k3.1 k3.2, gfi_ki h0 k3.1 k3.2]; exact H.1
  · simp only [gfr_ki h0 k3.1 k3.2]; exact H.2.1
  · intro c hc
    rw [ald_ne (Ne.symm ha.1), ald_ne (Ne.symm ha.2.1), ald_ki (t := 1) h0 k1.1 k1.2]
    exact H.2.2.1 c hc
  · intro i hi; rw [ald_ki (t := 1) h0 k1.1 k1.2]; exact H.2.2.2.1 i hi
  · rw [aln_ki (t := 3) h0 k4.1 k4.2]; exact H.2.2.2.2.1
  · intro b hb
    rw [alr_ki (t := 3) h0 k4.1 k4.2, aln_ne (Ne.symm (ha.2.2 b hb))]
    obtain ⟨g1, g2, g3⟩ := H.2.2.2.2.2 b hb
    refine ⟨g1, g2, fun k x hx => ?_⟩
    rw [ald_ne (Ne.symm (ha.2.2 b hb))]
    exact g3 k x hx
end KI
