/-! PLAIN LAW: the class: maps from numbers to numbers -/
set_option maxRecDepth 100000
/-- the Integers that are kept ready: ci v is the one for v; all lie below nb -/
def GC (h : PH) (ci : Nat → Nat) (nb : Nat) : Prop := ∃ (z : Nat) (f : Nat → Option Nat), hk h 0 = some z ∧ z < nb ∧ h.1 z = none ∧ (hg h).1 z = some (rar 7 256 f) ∧ ∀ v, v < 128 → f (v + 128) = some (ci v) ∧ ci v < nb ∧ h.1 (ci v) = none ∧ (hg h).1 (ci v) = some (.inr (31, [.int (I v)]))
theorem GC.low {h h' : PH} {ci : Nat → Nat} {nb : Nat} (G : GC h ci nb) (hgg : hg h' = hg h) (ha : ∀ a, a < nb → h'.1 a = h.1 a) : GC h' ci nb := by
  obtain ⟨z, f, g1, g2, g3, g4, g5⟩ := G
  refine ⟨z, f, by rw [← g1]; unfold hk; rw [hgg], g2, (ha z g2).trans g3, by rw [hgg]; exact g4, fun v hv => ?_⟩
  obtain ⟨a1, a2, a3, a4⟩ := g5 v hv
  exact ⟨a1, a2, (ha _ a2).trans a3, by rw [hgg]; exact a4⟩
theorem GC.keep {h h' : PH} {ci : Nat → Nat} {nb : Nat} (G : GC h ci nb) (hb : nb ≤ hn h) (K : Keep h h') : GC h' ci nb := by
  obtain ⟨z, f, g1, g2, g3, g4, g5⟩ := G
  refine ⟨z, f, by rw [← g1]; unfold hk; rw [K.2.1], g2, (K.2.2 z (by omega)).2 g3, by rw [K.2.1]; exact g4, fun v hv => ?_⟩
  obtain ⟨a1, a2, a3, a4⟩ := g5 v hv
  exact ⟨a1, a2, (K.2.2 _ (by omega)).2 a3, by rw [K.2.1]; exact a4⟩
section GC
variable {h : PH} {ci : Nat → Nat} {nb : Nat}
theorem gc_lk (G : GC h ci nb) {v : Nat} (hv : v < 128) : lk h (ci v) = some (.inr (31, [.int (I v)])) := by
  obtain ⟨z, f, g1, g2, g3, g4, g5⟩ := G
  obtain ⟨a1, a2, a3, a4⟩ := g5 v hv
  unfold lk; rw [a3]; exact a4
theorem gc_i (G : GC h ci nb) {v : Nat} (hv : v < 128) : gfi 31 0 (some (ci v)) h = some (I v) ∧ rcv 31 (some (ci v)) h = some () ∧ chk 31 (some (ci v)) h = some () ∧ f_J3_intValue (some (ci v)) h = some (I v, h) := by
  have e := gc_lk G hv
  have e1 : gfi 31 0 (some (ci v)) h = some (I v) := by
    simp only [gfi, ob, e, if_true]
    rfl
  have e2 : clo (some (ci v)) h = some 31 := by simp only [clo, e]
  refine ⟨e1, ?_, ?_, ?_⟩
  · unfold rcv; rw [if_pos e2]
  · unfold chk; rw [if_pos (Or.inr e2)]
  · unfold f_J3_intValue; rw [e1, Option.bind_some]
theorem gc_of (G : GC h ci nb) {v : Nat} (hv : v < 128) : f_J3_valueOf (I v) h = some (some (ci v), h) := by
  obtain ⟨z, f, g1, g2, g3, g4, g5⟩ := G
  obtain ⟨a1, a2, a3, a4⟩ := g5 v hv
  have e : lk h z = some (rar 7 256 f) := by unfold lk; rw [g3]; exact g4
  have e1 : alr 7 (hk h 0) (I v + 128) h = some (some (ci v)) := by
    rw [g1, show I v + 128 = I (v + 128) from I_add v 128]
    simp only [alr, ar, e, if_true]
    show (if inb (I (v + 128)) 256 then some (f (I (v + 128)).toNatClampNeg) else none) = _
    rw [if_pos (inbI (by omega) (by omega)), I_clamp (by omega), a1]
  unfold f_J3_valueOf
  rw [if_neg (by rw [Int32.lt_iff_toInt_lt, I_toInt (by omega)]; show ¬ (v : Int) < -128; omega), if_neg (by rw [show (127 : Int32) = I 127 from rfl, I_lt (by decide) (by omega)]; omega), e1, Option.bind_some]
theorem gc_cmp (G : GC h ci nb) {a b : Nat} (ha : a < 128) (hb : b < 128) : f_J3_compareTo (some (ci a)) (some (ci b)) h = some (sgn3 a b, h) := by
  obtain ⟨a1, a2, a3, a4⟩ := gc_i G ha
  obtain ⟨b1, b2, b3, b4⟩ := gc_i G hb
  unfold f_J3_compareTo f_J3_compareTo_2
  rw [b3, Option.bind_some, a2, Option.bind_some, a1, Option.bind_some, b1, Option.bind_some, J3cmp (by omega) (by omega), Option.bind_some, Option.bind_some]
end GC
/-- a map by natural order: its keys K, its values M, how many -/
def MN (h0 : PH) (nb t : Nat) (ci M : Nat → Nat) (K : Nat → Prop) (cnt : Nat) (N : Nat → Bool) (H : PH) : Prop :=
  ∃ (kr : Nat → Nat) (md : Int32) (vr : Nat → Option Nat) (R : Option Nat) (l r p : Nat → Option Nat) (c : Nat → Int32) (ky : Nat → Nat), H = TT h0 t N none kr (I cnt) md vr R l r p c ∧ TOK 200 (fun n => N n = true) ky K R l r p ∧ (∀ n, N n = true → nb ≤ n ∧ n ≠ t ∧ n < hn h0) ∧ (t < hn h0 ∧ nb ≤ t) ∧ (∀ n, N n = true → c n = 0 ∨ c n = 1) ∧ (∀ n, N n = true → kr n = ci (ky n) ∧ vr n = some (ci (M (ky n))) ∧ ky n < 128) ∧ (R = none → cnt = 0) ∧ GC h0 ci nb
section MN
variable {h0 H : PH} {nb t : Nat} {ci M : Nat → Nat} {K : Nat → Prop} {cnt : Nat} {N : Nat → Bool}
theorem MN.gc (P : MN h0 nb t ci M K cnt N H) : GC H ci nb := by
  obtain ⟨kr, md, vr, R, l, r, p, c, ky, rfl, T, hN, ⟨ht1, ht2⟩, hc, hv, hR, G⟩ := P
  refine G.low rfl (fun a ha => ?_)
  have : N a = false := by
    cases hh : N a with
    | false => rfl
    | true => have := hN a hh; omega
  exact tt_o this (by omega)
theorem MN.rc (P : MN h0 nb t ci M K cnt N H) : rcv 24 (some t) H = some () ∧ f_J1_size (some t) H = some (I cnt, H) := by
  obtain ⟨kr, md, vr, R, l, r, p, c, ky, rfl, -⟩ := P
  refine ⟨tt_rc, ?_⟩
  unfold f_J1_size; rw [tt_sz, Option.bind_some]
/-- another cell is written -/
theorem MN.set {a : Nat} {d : PC} (P : MN h0 nb t ci M K cnt N H) (ha : N a = false) (hat : a ≠ t) (hab : nb ≤ a) : MN (hset h0 a d) nb t ci M K cnt N (hset H a d) := by
  obtain ⟨kr, md, vr, R, l, r, p, c, ky, rfl, T, hN, ht, hc, hv, hR, G⟩ := P
  refine ⟨kr, md, vr, R, l, r, p, c, ky, ?_, T, hN, ht, hc, hv, hR, G.low rfl (fun x hx => hset_ne (by omega))⟩
  refine Prod.ext ?_ rfl
  funext x
  by_cases e : x = a
  · subst e; rw [hset_at, tt_o ha hat, hset_at]
  · rw [hset_ne e]
    by_cases e' : x = t
    · rw [e', tt_t, tt_t]
    · by_cases hNx : N x = true
      · rw [tt_n hNx e', tt_n hNx e']
      · have h1 : N x = false := by simpa using hNx
        rw [tt_o h1 e', tt_o h1 e', hset_ne e]
theorem MN.old (P : MN h0 nb t ci M K cnt N H) {a : Nat} (ha : N a = false) (hat : a ≠ t) : H.1 a = h0.1 a := by
  obtain ⟨kr, md, vr, R, l, r, p, c, ky, rfl, -⟩ := P
  exact tt_o ha hat
theorem MN.nn (P : MN h0 nb t ci M K cnt N H) : hn H = hn h0 ∧ hs H = hs h0 ∧ hg H = hg h0 ∧ (∀ n, N n = true → nb ≤ n ∧ n ≠ t ∧ n < hn h0) ∧ t < hn h0 := by
  obtain ⟨kr, md, vr, R, l, r, p, c, ky, rfl, T, hN, ht, -⟩ := P
  exact ⟨rfl, rfl, rfl, hN, ht.1⟩
/-- a subtree's keys lie in its bounds -/
theorem TInv.inB {B : Nat} {N : Nat → Prop} {ky : Nat → Nat} {R : Option Nat} {l r p : Nat → Option Nat} {lo hi : Nat → Nat} {S : Nat → Nat → Prop} (T : TInv B N ky R l r p lo hi S) : ∀ d n k, N n → hi n - lo n ≤ d → S n k → lo n ≤ k ∧ k < hi n := by
  obtain ⟨t1, t2, t3, t4, t5, t6, t7⟩ := T
  intro d
  induction d with
  | zero => intro n k hm hd _; have := t1 n hm; omega
  | succ d ih =>
    intro n k hm hd hS
    have w := t1 n hm
    rcases (t7 n hm k).mp hS with z | ⟨z, c, z1, z2⟩ | ⟨z, c, z1, z2⟩
    · omega
    · obtain ⟨b1, b2, b3, b4⟩ := t2 n c hm z1
      have := ih c k b1 (by omega) z2
      omega
    · obtain ⟨b1, b2, b3, b4⟩ := t3 n c hm z1
      have := ih c k b1 (by omega) z2
      omega
/-- an entry looked for -/
theorem get_L28 {B : Nat} {ky : Nat → Nat} {cm : Option Nat} {kr : Nat → Nat} {sz md : Int32} {vr : Nat → Option Nat} {R : Option Nat} {l r p : Nat → Option Nat} {c : Nat → Int32} {lo hi : Nat → Nat} {S : Nat → Nat → Prop} {k0 kx : Nat} (T : TInv B (fun n => N n = true) ky R l r p lo hi S) (ht : ∀ n, N n = true → n ≠ t)
    (hcmp : ∀ n, N n = true → rcv 31 (some kx) (TT h0 t N cm kr sz md vr R l r p c) = some () ∧ f_J3_compareTo (some kx) (some (kr n)) (TT h0 t N cm kr sz md vr R l r p c) = some (sgn3 k0 (ky n), TT h0 t N cm kr sz md vr R l r p c)) :
    ∀ (d cur k : Nat), N cur = true → hi cur - lo cur ≤ d → d < k →
    (S cur k0 → ∃ n, N n = true ∧ ky n = k0 ∧ f_J1_getEntry_L28 k (some kx) (some cur) (TT h0 t N cm kr sz md vr R l r p c) = some (some n, TT h0 t N cm kr sz md vr R l r p c)) ∧ (¬ S cur k0 → f_J1_getEntry_L28 k (some kx) (some cur) (TT h0 t N cm kr sz md vr R l r p c) = some (none, TT h0 t N cm kr sz md vr R l r p c)) := by
  obtain ⟨t1, t2, t3, t4, t5, t6, t7⟩ := id T
  intro d
  induction d with
  | zero => intro cur k hc hd; have := t1 cur hc; omega
  | succ d ih =>
    intro cur k hcN hd hk
    obtain ⟨k, rfl⟩ : ∃ k', k = k' + 1 := ⟨k - 1, by omega⟩
    obtain ⟨k, rfl⟩ : ∃ k', k = k' + 1 := ⟨k - 1, by omega⟩
    have hS7 := t7 cur hcN k0
    have wc := t1 cur hcN
    obtain ⟨m1, m2⟩ := hcmp cur hcN
    have step : f_J1_getEntry_L28 (k + 1 + 1) (some kx) (some cur) (TT h0 t N cm kr sz md vr R l r p c) = if 0 ≤ sgn3 k0 (ky cur) then (if sgn3 k0 (ky cur) ≤ 0 then some (some cur, TT h0 t N cm kr sz md vr R l r p c) else f_J1_getEntry_L28 (k + 1) (some kx) (r cur) (TT h0 t N cm kr sz md vr R l r p c)) else f_J1_getEntry_L28 (k + 1) (some kx) (l cur) (TT h0 t N cm kr sz md vr R l r p c) := by
      rw [f_J1_getEntry_L28, if_neg (by simp), tt_k hcN (ht cur hcN), Option.bind_some, m1, Option.bind_some, m2, Option.bind_some, tt_l hcN (ht cur hcN), Option.bind_some, tt_r hcN (ht cur hcN), Option.bind_some]
    rw [step]
    have nil : f_J1_getEntry_L28 (k + 1) (some kx) none (TT h0 t N cm kr sz md vr R l r p c) = some (none, TT h0 t N cm kr sz md vr R l r p c) := by
      rw [f_J1_getEntry_L28, if_pos rfl]
    rcases Nat.lt_trichotomy k0 (ky cur) with hlt | heq | hgt
    · rw [if_neg (by rw [sgn3_ge]; omega)]
      cases hl : l cur with
      | none =>
        refine ⟨fun hS => ?_, fun _ => nil⟩
        rcases hS7.mp hS with z | ⟨-, c', z, -⟩ | ⟨z, -⟩
        · omega
        · rw [hl] at z; cases z
        · omega
      | some ch =>
        obtain ⟨b1, b2, b3, b4⟩ := t2 cur ch hcN hl
        obtain ⟨i1, i2⟩ := ih ch (k + 1) b1 (by omega) (by omega)
        have e : S cur k0 ↔ S ch k0 := by
          rw [hS7]
          constructor
          · rintro (z | ⟨-, c', z, w⟩ | ⟨z, -⟩)
            · omega
            · rw [hl] at z; cases z; exact w
            · omega
          · intro z; exact Or.inr (Or.inl ⟨hlt, ch, hl, z⟩)
        exact ⟨fun hS => i1 (e.mp hS), fun hS => i2 (fun z => hS (e.mpr z))⟩
    · rw [if_pos (by rw [sgn3_ge]; omega), if_pos (by rw [sgn3_le]; omega)]
      exact ⟨fun _ => ⟨cur, hcN, heq.symm, rfl⟩, fun hS => absurd (hS7.mpr (Or.inl heq)) hS⟩
    · rw [if_pos (by rw [sgn3_ge]; omega), if_neg (by rw [sgn3_le]; omega)]
      cases hl : r cur with
      | none =>
        refine ⟨fun hS => ?_, fun _ => nil⟩
        rcases hS7.mp hS with z | ⟨z, -⟩ | ⟨-, c', z, -⟩
        · omega
        · omega
        · rw [hl] at z; cases z
      | some ch =>
        obtain ⟨b1, b2, b3, b4⟩ := t3 cur ch hcN hl
        obtain ⟨i1, i2⟩ := ih ch (k + 1) b1 (by omega) (by omega)
        have e : S cur k0 ↔ S ch k0 := by
          rw [hS7]
          constructor
          · rintro (z | ⟨z, -⟩ | ⟨-, c', z, w⟩)
            · omega
            · omega
            · rw [hl] at z; cases z; exact w
          · intro z; exact Or.inr (Or.inr ⟨hgt, ch, hl, z⟩)
        exact ⟨fun hS => i1 (e.mp hS), fun hS => i2 (fun z => hS (e.mpr z))⟩
theorem mn_entry {k0 : Nat} (P : MN h0 nb t ci M K cnt N H) (hk : k0 < 128) : (K k0 → ∃ n, f_J1_getEntry (some t) (some (ci k0)) H = some (some n, H) ∧ gfr 25 1 (some n) H = some (some (ci (M k0)))) ∧ (¬ K k0 → f_J1_getEntry (some t) (some (ci k0)) H = some (none, H)) := by
  have GH := P.gc
  obtain ⟨kr, md, vr, R, l, r, p, c, ky, rfl, T, hN, ⟨ht1, ht2⟩, hc, hv, hR, G⟩ := P
  obtain ⟨lo, hi, S, TI, hKS⟩ := T
  obtain ⟨i1, i2, i3, i4⟩ := gc_i GH hk
  have ht : ∀ n, N n = true → n ≠ t := fun n hn => (hN n hn).2.1
  have hcmp : ∀ n, N n = true → rcv 31 (some (ci k0)) (TT h0 t N none kr (I cnt) md vr R l r p c) = some () ∧ f_J3_compareTo (some (ci k0)) (some (kr n)) (TT h0 t N none kr (I cnt) md vr R l r p c) = some (sgn3 k0 (ky n), TT h0 t N none kr (I cnt) md vr R l r p c) := fun n hn => by
    obtain ⟨v1, v2, v3⟩ := hv n hn
    rw [v1]
    exact ⟨i2, gc_cmp GH hk v3⟩
  have pre : ∀ o, f_J1_getEntry_L28 FU (some (ci k0)) R (TT h0 t N none kr (I cnt) md vr R l r p c) = o → f_J1_getEntry (some t) (some (ci k0)) (TT h0 t N none kr (I cnt) md vr R l r p c) = o := fun o ho => by
    unfold f_J1_getEntry f_J4_requireNonNull
    rw [tt_cm, Option.bind_some, if_pos rfl, if_neg (by simp), Option.bind_some, i3, Option.bind_some, tt_R, Option.bind_some]
    exact ho
  have hK := hKS k0 (by omega)
  cases hRR : R with
  | none =>
    subst hRR
    refine ⟨fun hk' => ?_, fun _ => pre _ ?_⟩
    · obtain ⟨rt, z, -⟩ := hK.mp hk'; cases z
    · obtain ⟨f0, hF⟩ : ∃ f, FU = f + 1 := ⟨999999, FU_eq⟩
      rw [hF, f_J1_getEntry_L28, if_pos rfl]
  | some rt =>
    subst hRR
    obtain ⟨rN, -⟩ := TI.2.2.2.2.2.1 rt rfl
    have w := TI.1 rt rN
    obtain ⟨g1, g2⟩ := get_L28 TI ht hcmp 200 rt FU rN (by omega) (by rw [FU_eq]; omega)
    refine ⟨fun hk' => ?_, fun hk' => pre _ (g2 (fun z => hk' (hK.mpr ⟨rt, rfl, z⟩)))⟩
    obtain ⟨rt', z, w⟩ := hK.mp hk'
    cases z
    obtain ⟨n, n1, n2, n3⟩ := g1 w
    obtain ⟨v1, v2, v3⟩ := hv n n1
    refine ⟨n, pre _ n3, ?_⟩
    rw [tt_v n1 (ht n n1), v2, n2]
/-- a new key -/
theorem mn_put {k0 v0 : Nat} (P : MN h0 nb t ci M K cnt N H) (hk : k0 < 128) (hv0 : v0 < 128) (hnK : ¬ K k0) : ∃ H', f_J1_put (some t) (some (ci k0)) (some (ci v0)) H = some (none, H') ∧ MN (grow h0 6) nb t ci (nqs M k0 v0) (fun k => K k ∨ k = k0) (cnt + 1) (addN N (hn h0)) H' ∧ hn H' = hn H + 1 ∧ hs H' = hs H + 6 := by
  have GH := P.gc
  obtain ⟨kr, md, vr, R, l, r, p, c, ky, rfl, T, hN, ⟨ht1, ht2⟩, hc, hv, hR, G⟩ := P
  obtain ⟨lo, hi, S, TI, hKS⟩ := T
  obtain ⟨i1, i2, i3, i4⟩ := gc_i GH hk
  have ht : ∀ n, N n = true → n ≠ t := fun n hn => (hN n hn).2.1
  have hNl : ∀ n, N n = true → n < hn h0 := fun n hn => (hN n hn).2.2
  have hcmp : ∀ n, N n = true → rcv 31 (some (ci k0)) (TT h0 t N none kr (I cnt) md vr R l r p c) = some () ∧ f_J3_compareTo (some (ci k0)) (some (kr n)) (TT h0 t N none kr (I cnt) md vr R l r p c) = some (sgn3 k0 (ky n), TT h0 t N none kr (I cnt) md vr R l r p c) := fun n hn => by
    obtain ⟨v1, v2, v3⟩ := hv n hn
    rw [v1]
    exact ⟨i2, gc_cmp GH hk v3⟩
  have hK := hKS k0 (by omega)
  have Ggrow : GC (grow h0 6) ci nb := G.low rfl (fun a _ => rfl)
  -- the entries of the greater map
  have hv' : ∀ n, N n = true → ky n ≠ k0 → nqs kr (hn h0) (ci k0) n = ci (if n = hn h0 then k0 else ky n) ∧ ou vr (hn h0) (some (ci v0)) n = some (ci (nqs M k0 v0 (if n = hn h0 then k0 else ky n))) ∧ (if n = hn h0 then k0 else ky n) < 128 := fun n hm hne => by
    have h1 : n ≠ hn h0 := by have := hNl n hm; omega
    obtain ⟨v1, v2, v3⟩ := hv n hm
    rw [if_neg h1, ou_ne h1]
    unfold nqs
    rw [if_neg h1, if_neg hne]
    exact ⟨v1, v2, v3⟩
  have hve : nqs kr (hn h0) (ci k0) (hn h0) = ci (if hn h0 = hn h0 then k0 else ky (hn h0)) ∧ ou vr (hn h0) (some (ci v0)) (hn h0) = some (ci (nqs M k0 v0 (if hn h0 = hn h0 then k0 else ky (hn h0)))) ∧ (if hn h0 = hn h0 then k0 else ky (hn h0)) < 128 := by
    rw [if_pos rfl, ou_eq]
    unfold nqs
    rw [if_pos rfl, if_pos rfl]
    exact ⟨rfl, rfl, hk⟩
  have hN' : ∀ n, addN N (hn h0) n = true → nb ≤ n ∧ n ≠ t ∧ n < hn (grow h0 6) := fun n hn' => by
    rcases addN_iff.mp hn' with z | z
    · have := hN n z; exact ⟨this.1, this.2.1, by show n < hn h0 + 1; omega⟩
    · rw [z]; exact ⟨by omega, by omega, by show hn h0 < hn h0 + 1; omega⟩
  cases hRR : R with
  | some rt =>
    subst hRR
    obtain ⟨rN, rp, rlo, rhi⟩ := TI.2.2.2.2.2.1 rt rfl
    have hSr : ¬ S rt k0 := fun z => hnK (hK.mpr ⟨rt, rfl, z⟩)
    have hkne : ∀ n, N n = true → ky n ≠ k0 := by
      -- every node's key is in the tree
      have up : ∀ d n k, N n = true → S n k → 200 - (hi n - lo n) ≤ d → S rt k := by
        intro d
        obtain ⟨t1, t2, t3, t4, t5, t6, t7⟩ := id TI
        induction d with
        | zero =>
          intro n k hn' hS hd
          have w := t1 n hn'
          cases hp : p n with
          | none => have := t5 n hn' hp; cases this; exact hS
          | some q =>
            obtain ⟨b1, b2⟩ := t4 n q hn' hp
            have w2 := t1 q b1
            rcases b2 with b2 | b2
            · have := t2 q n b1 b2; omega
            · have := t3 q n b1 b2; omega
        | succ d ih =>
          intro n k hn' hS hd
          have w := t1 n hn'
          cases hp : p n with
          | none => have := t5 n hn' hp; cases this; exact hS
          | some q =>
            obtain ⟨b1, b2⟩ := t4 n q hn' hp
            have w2 := t1 q b1
            have hb := TI.inB _ n k hn' (Nat.le_refl _) hS
            rcases b2 with b2 | b2
            · have w3 := t2 q n b1 b2
              exact ih q k b1 ((t7 q b1 k).mpr (Or.inr (Or.inl ⟨by omega, n, b2, hS⟩))) (by omega)
            · have w3 := t3 q n b1 b2
              exact ih q k b1 ((t7 q b1 k).mpr (Or.inr (Or.inr ⟨by omega, n, b2, hS⟩))) (by omega)
      intro n hn' e
      exact hSr (up 200 n k0 hn' ((TI.2.2.2.2.2.2 n hn' k0).mpr (Or.inl e.symm)) (by omega))
    have hA : Seen (fun n => N n = true) ky (some rt) l r p k0 rt (fun n => n = rt) := ⟨rfl, fun n e => by rw [e]; exact rN, fun n e => Or.inl (by rw [e]; exact rp), fun n e hne => absurd e hne, fun x e => by cases e; rfl⟩
    obtain ⟨q, A', s1, s2, s3⟩ := put_L123 (x2 := some (ci v0)) TI ht hcmp 200 rt FU _ hA (by omega) hSr (by omega) (by rw [FU_eq]; omega)
    have fin : ∀ d, ((d = 1 ∧ k0 < ky q ∧ l q = none) ∨ (d = 0 ∧ ky q < k0 ∧ r q = none)) → f_J1_put_2_L123 FU (some t) (some (ci k0)) (some (ci v0)) 1 (some rt) (some (ci k0)) (TT h0 t N none kr (I cnt) md vr (some rt) l r p c) = f_J1_put_2_B216 (some t) (some (ci k0)) (some (ci v0)) (some q) (I d) (TT h0 t N none kr (I cnt) md vr (some rt) l r p c) → ∃ H', f_J1_put (some t) (some (ci k0)) (some (ci v0)) (TT h0 t N none kr (I cnt) md vr (some rt) l r p c) = some (none, H') ∧ MN (grow h0 6) nb t ci (nqs M k0 v0) (fun k => K k ∨ k = k0) (cnt + 1) (addN N (hn h0)) H' ∧ hn H' = hn h0 + 1 ∧ hs H' = hs h0 + 6 := fun d hd he => by
      obtain ⟨R', l', r', p', c', e1, e2, e3⟩ := put_entry (kx := ci k0) (x2 := some (ci v0)) (cm := none) (kr := kr) (sz := I cnt) (md := md) (vr := vr) TI hKS (by decide) ht ht1 hNl hc s1 s2 hd
      refine ⟨TT (grow h0 6) t (addN N (hn h0)) none (nqs kr (hn h0) (ci k0)) (I (cnt + 1)) (md + 1) (ou vr (hn h0) (some (ci v0))) R' l' r' p' c', ?_, ⟨nqs kr (hn h0) (ci k0), md + 1, ou vr (hn h0) (some (ci v0)), R', l', r', p', c', (fun n => if n = hn h0 then k0 else ky n), rfl, e2, hN', ⟨by show t < hn h0 + 1; omega, ht2⟩, e3, fun n hn' => ?_, fun hR' => ?_, Ggrow⟩, rfl, rfl⟩
      · unfold f_J1_put f_J1_put_2 f_J4_requireNonNull
        rw [tt_rc, Option.bind_some, tt_R, Option.bind_some, if_neg (by simp), tt_cm, Option.bind_some, if_pos rfl, if_neg (by simp), Option.bind_some, i3, Option.bind_some, he, e1, Option.bind_some, show I cnt + 1 = I (cnt + 1) from I_add _ 1]
      · rcases addN_iff.mp hn' with z | z
        · exact hv' n z (hkne n z)
        · rw [z]; exact hve
      · exfalso
        obtain ⟨lo', hi', S', TI', hKS'⟩ := e2
        obtain ⟨x, hx, -⟩ := (hKS' k0 (by omega)).mp (Or.inr rfl)
        rw [hR'] at hx; cases hx
    rcases s3 with ⟨h1, h2, h3⟩ | ⟨h1, h2, h3⟩
    · exact fin 1 (Or.inl ⟨rfl, h1, h2⟩) h3
    · exact fin 0 (Or.inr ⟨rfl, h1, h2⟩) h3
  | none =>
    subst hRR
    have hcnt := hR rfl
    subst hcnt
    have hempty : ∀ n, ¬ N n = true := fun n hn' => by
      obtain ⟨rt, z, -⟩ := TOK.rt ⟨lo, hi, S, TI, hKS⟩ hn'
      cases z
    have hnode := tt_node (N := N) (cm := none) (kr := kr) (sz := I 0) (md := md) (vr := vr) (R := none) (l := l) (r := r) (p := p) (c := c) (key := ci k0) (val := some (ci v0)) (par := none) ht1 hNl
    have heN' : addN N (hn h0) (hn h0) = true := addN_iff.mpr (Or.inr rfl)
    have only : ∀ n, addN N (hn h0) n = true → n = hn h0 := fun n hn' => (addN_iff.mp hn').resolve_left (hempty n)
    have T' : TOK 200 (fun n => addN N (hn h0) n = true) (fun n => if n = hn h0 then k0 else ky n) (fun k => K k ∨ k = k0) (some (hn h0)) (ou l (hn h0) none) (ou r (hn h0) none) (ou p (hn h0) none) := by
      refine ⟨fun _ => 0, fun _ => 200, fun n k => k = k0, ⟨fun n hn' => ?_, fun n c' hn' hc' => ?_, fun n c' hn' hc' => ?_, fun c' q hc' hq => ?_, fun c' hc' _ => ?_, fun c' hc' => ?_, fun n hn' k => ?_⟩, fun k hkB => ?_⟩
      · rw [only n hn']; dsimp only; rw [if_pos rfl]; omega
      · rw [only n hn', ou_eq] at hc'; cases hc'
      · rw [only n hn', ou_eq] at hc'; cases hc'
      · rw [only c' hc', ou_eq] at hq; cases hq
      · rw [only c' hc']
      · cases hc'; exact ⟨heN', ou_eq, rfl, rfl⟩
      · dsimp only
        rw [only n hn', if_pos rfl, ou_eq, ou_eq]
        constructor
        · intro z; exact Or.inl z
        · rintro (z | ⟨-, c', z, -⟩ | ⟨-, c', z, -⟩)
          · exact z
          · cases z
          · cases z
      · have hk2 := hKS k hkB
        constructor
        · rintro (z | z)
          · obtain ⟨rt, w, -⟩ := hk2.mp z; cases w
          · exact ⟨_, rfl, z⟩
        · rintro ⟨rt, -, z⟩; exact Or.inr z
    have e0 : nwO 25 6 [.null, .null, .null, .null, .null, .int 0] (TT h0 t N none kr (I 0) md vr none l r p c) = some (some (hn h0), hnew (TT h0 t N none kr (I 0) md vr none l r p c) (.inr (25, [.null, .null, .null, .null, .null, .int 0])) 6) := rfl
    have ecmp : f_J1_compare (some t) (some (ci k0)) (some (ci k0)) (TT h0 t N none kr (I 0) md vr none l r p c) = some (sgn3 k0 k0, TT h0 t N none kr (I 0) md vr none l r p c) := by
      unfold f_J1_compare
      rw [tt_cm, Option.bind_some, if_pos rfl, i3, Option.bind_some, i2, Option.bind_some, gc_cmp GH hk hk, Option.bind_some]
    refine ⟨TT (grow h0 6) t (addN N (hn h0)) none (nqs kr (hn h0) (ci k0)) (I (0 + 1)) (md + 1) (ou vr (hn h0) (some (ci v0))) (some (hn h0)) (ou l (hn h0) none) (ou r (hn h0) none) (ou p (hn h0) none) (uc c (hn h0) 1), ?_, ⟨nqs kr (hn h0) (ci k0), md + 1, ou vr (hn h0) (some (ci v0)), some (hn h0), ou l (hn h0) none, ou r (hn h0) none, ou p (hn h0) none, uc c (hn h0) 1, (fun n => if n = hn h0 then k0 else ky n), rfl, T', hN', ⟨by show t < hn h0 + 1; omega, ht2⟩, fun n hn' => ?_, fun n hn' => ?_, fun hR' => (by cases hR'), Ggrow⟩, rfl, rfl⟩
    · unfold f_J1_put f_J1_put_2 f_J1_addEntryToEmptyMap
      rw [tt_rc, Option.bind_some, tt_R, Option.bind_some, if_pos rfl, Option.bind_some, Option.bind_some, ecmp, Option.bind_some, e0, Option.bind_some, nn, Option.bind_some, hnode, Option.bind_some, tt_pR, Option.bind_some, tt_ps, Option.bind_some, tt_md, Option.bind_some, tt_pm, Option.bind_some, Option.bind_some, Option.bind_some]
      rfl
    · rw [only n hn']
      right; unfold uc; rw [if_pos rfl]
    · rw [only n hn']; exact hve
end MN
