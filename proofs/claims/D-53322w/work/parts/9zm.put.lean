/-! PLAIN LAW: the class: put -/
set_option maxRecDepth 100000
theorem sgn3_ge {a b : Nat} : (0 ≤ sgn3 a b) = (b ≤ a) := by
  have := sgn3_lt (a := a) (b := b)
  rw [← Int32.not_lt, this]; simp
theorem ou_comm {f : Nat → Option Nat} {a b : Nat} {x y : Option Nat} (h : a ≠ b) : ou (ou f a x) b y = ou (ou f b y) a x := by
  funext j
  by_cases e : j = a
  · subst e; rw [ou_ne h, ou_eq, ou_eq]
  · by_cases e' : j = b
    · subst e'; rw [ou_eq, ou_ne e, ou_eq]
    · rw [ou_ne e', ou_ne e, ou_ne e, ou_ne e']
def addN (N : Nat → Bool) (e : Nat) : Nat → Bool := fun n => N n || decide (n = e)
theorem addN_iff {N : Nat → Bool} {e n : Nat} : addN N e n = true ↔ (N n = true ∨ n = e) := by simp [addN]
def grow (h : PH) (k : Nat) : PH := (h.1, h.2.1 + 1, h.2.2.1 + k, h.2.2.2)
section PUT
variable {B : Nat} {K : Nat → Prop} {ky : Nat → Nat} {h0 : PH} {t : Nat} {N : Nat → Bool} {cm : Option Nat} {kr : Nat → Nat} {sz md : Int32} {vr : Nat → Option Nat} {R : Option Nat} {l r p : Nat → Option Nat} {c : Nat → Int32}
/-- a new node -/
theorem tt_node {key : Nat} {val par : Option Nat} (ht : t < hn h0) (hN : ∀ n, N n = true → n < hn h0) : f_J13_init (some (hn h0)) (some key) val par (hnew (TT h0 t N cm kr sz md vr R l r p c) (.inr (25, [.null, .null, .null, .null, .null, .int 0])) 6) = some (TT (grow h0 6) t (addN N (hn h0)) cm (nqs kr (hn h0) key) sz md (ou vr (hn h0) val) R (ou l (hn h0) none) (ou r (hn h0) none) (ou p (hn h0) par) (uc c (hn h0) 1)) := by
  have e0 : hn (TT h0 t N cm kr sz md vr R l r p c) = hn h0 := rfl
  have c0 : (hnew (TT h0 t N cm kr sz md vr R l r p c) (.inr (25, [.null, .null, .null, .null, .null, .int 0])) 6).1 (hn h0) = some (.inr (25, [.null, .null, .null, .null, .null, .int 0])) := hnew_at
  have f1 : pf 25 5 (some (hn h0)) (.int 1) (hnew (TT h0 t N cm kr sz md vr R l r p c) (.inr (25, [.null, .null, .null, .null, .null, .int 0])) 6) = some (hset (hnew (TT h0 t N cm kr sz md vr R l r p c) (.inr (25, [.null, .null, .null, .null, .null, .int 0])) 6) (hn h0) (.inr (25, [.null, .null, .null, .null, .null, .int 1]))) := pf_at c0 (by simp)
  have f2 : pf 25 0 (some (hn h0)) (va_rf (some key)) (hset (hnew (TT h0 t N cm kr sz md vr R l r p c) (.inr (25, [.null, .null, .null, .null, .null, .int 0])) 6) (hn h0) (.inr (25, [.null, .null, .null, .null, .null, .int 1]))) = some (hset (hnew (TT h0 t N cm kr sz md vr R l r p c) (.inr (25, [.null, .null, .null, .null, .null, .int 0])) 6) (hn h0) (.inr (25, [va_rf (some key), .null, .null, .null, .null, .int 1]))) := by
    rw [pf_at hset_at (by simp), hset_hset]; rfl
  have f3 : pf 25 1 (some (hn h0)) (va_rf val) (hset (hnew (TT h0 t N cm kr sz md vr R l r p c) (.inr (25, [.null, .null, .null, .null, .null, .int 0])) 6) (hn h0) (.inr (25, [va_rf (some key), .null, .null, .null, .null, .int 1]))) = some (hset (hnew (TT h0 t N cm kr sz md vr R l r p c) (.inr (25, [.null, .null, .null, .null, .null, .int 0])) 6) (hn h0) (.inr (25, [va_rf (some key), va_rf val, .null, .null, .null, .int 1]))) := by
    rw [pf_at hset_at (by simp), hset_hset]; rfl
  have f4 : pf 25 4 (some (hn h0)) (va_rf par) (hset (hnew (TT h0 t N cm kr sz md vr R l r p c) (.inr (25, [.null, .null, .null, .null, .null, .int 0])) 6) (hn h0) (.inr (25, [va_rf (some key), va_rf val, .null, .null, .null, .int 1]))) = some (hset (hnew (TT h0 t N cm kr sz md vr R l r p c) (.inr (25, [.null, .null, .null, .null, .null, .int 0])) 6) (hn h0) (.inr (25, [va_rf (some key), va_rf val, .null, .null, va_rf par, .int 1]))) := by
    rw [pf_at hset_at (by simp), hset_hset]; rfl
  have fin : hset (hnew (TT h0 t N cm kr sz md vr R l r p c) (.inr (25, [.null, .null, .null, .null, .null, .int 0])) 6) (hn h0) (.inr (25, [va_rf (some key), va_rf val, .null, .null, va_rf par, .int 1])) = TT (grow h0 6) t (addN N (hn h0)) cm (nqs kr (hn h0) key) sz md (ou vr (hn h0) val) R (ou l (hn h0) none) (ou r (hn h0) none) (ou p (hn h0) par) (uc c (hn h0) 1) := by
    refine Prod.ext ?_ rfl
    funext a
    by_cases e : a = hn h0
    · subst e
      have hte : hn h0 ≠ t := by omega
      rw [hset_at, tt_n (addN_iff.mpr (Or.inr rfl)) hte]
      unfold tnc nqs ou uc
      rw [if_pos rfl, if_pos rfl, if_pos rfl, if_pos rfl, if_pos rfl, if_pos rfl]
      rfl
    · rw [hset_ne e, hnew_ne (h := TT h0 t N cm kr sz md vr R l r p c) (show a ≠ hn (TT h0 t N cm kr sz md vr R l r p c) from e)]
      by_cases e' : a = t
      · rw [e', tt_t, tt_t]
      · by_cases hNa : N a = true
        · rw [tt_n hNa e', tt_n (addN_iff.mpr (Or.inl hNa)) e']
          unfold nqs uc
          rw [ou_ne e, ou_ne e, ou_ne e, ou_ne e, if_neg e, if_neg e]
        · have h1 : N a = false := by simpa using hNa
          have h2 : addN N (hn h0) a = false := by
            cases hh : addN N (hn h0) a with
            | false => rfl
            | true => rcases addN_iff.mp hh with z | z; exact absurd z hNa; exact absurd z e
          rw [tt_o h1 e', tt_o h2 e']; rfl
  unfold f_J13_init
  rw [nn, Option.bind_some, gb01 (Or.inr rfl), Option.bind_some, f1, Option.bind_some, f2, Option.bind_some, f3, Option.bind_some, f4, Option.bind_some, fin]
/-- a search for a key that is not there -/
theorem put_L123 {lo hi : Nat → Nat} {S : Nat → Nat → Prop} {k0 kx : Nat} {x2 : Option Nat} (T : TInv B (fun n => N n = true) ky R l r p lo hi S) (ht : ∀ n, N n = true → n ≠ t)
    (hcmp : ∀ n, N n = true → rcv 31 (some kx) (TT h0 t N cm kr sz md vr R l r p c) = some () ∧ f_J3_compareTo (some kx) (some (kr n)) (TT h0 t N cm kr sz md vr R l r p c) = some (sgn3 k0 (ky n), TT h0 t N cm kr sz md vr R l r p c)) :
    ∀ (d cur k : Nat) (A : Nat → Prop), Seen (fun n => N n = true) ky R l r p k0 cur A → lo cur ≤ k0 ∧ k0 < hi cur → ¬ S cur k0 → hi cur - lo cur ≤ d → d < k →
    ∃ q A', Seen (fun n => N n = true) ky R l r p k0 q A' ∧ (lo q ≤ k0 ∧ k0 < hi q) ∧ ((k0 < ky q ∧ l q = none ∧ f_J1_put_2_L123 k (some t) (some kx) x2 1 (some cur) (some kx) (TT h0 t N cm kr sz md vr R l r p c) = f_J1_put_2_B216 (some t) (some kx) x2 (some q) 1 (TT h0 t N cm kr sz md vr R l r p c)) ∨ (ky q < k0 ∧ r q = none ∧ f_J1_put_2_L123 k (some t) (some kx) x2 1 (some cur) (some kx) (TT h0 t N cm kr sz md vr R l r p c) = f_J1_put_2_B216 (some t) (some kx) x2 (some q) 0 (TT h0 t N cm kr sz md vr R l r p c))) := by
  obtain ⟨t1, t2, t3, t4, t5, t6, t7⟩ := id T
  intro d
  induction d with
  | zero => intro cur k A hA hlh; omega
  | succ d ih =>
    intro cur k A hA hlh hS hd hk
    obtain ⟨k, rfl⟩ : ∃ k', k = k' + 1 := ⟨k - 1, by omega⟩
    obtain ⟨a1, a2, a3, a4, a5⟩ := id hA
    have hcN := a2 cur a1
    have hS7 := t7 cur hcN k0
    have hne : k0 ≠ ky cur := fun e => hS (hS7.mpr (Or.inl e))
    have wc := t1 cur hcN
    obtain ⟨m1, m2⟩ := hcmp cur hcN
    have next : ∀ ch, N ch = true → p ch = some cur → ((k0 < ky cur ∧ l cur = some ch) ∨ (ky cur < k0 ∧ r cur = some ch)) → Seen (fun n => N n = true) ky R l r p k0 ch (fun n => A n ∨ n = ch) := fun ch hch hp hdir => by
      refine ⟨Or.inr rfl, fun n hn => hn.elim (a2 n) (fun e => by rw [e]; exact hch), fun n hn => ?_, fun n hn hnc => ?_, fun rt h => Or.inl (a5 rt h)⟩
      · rcases hn with hn | hn
        · rcases a3 n hn with z | ⟨q', z1, z2⟩
          · exact Or.inl z
          · exact Or.inr ⟨q', Or.inl z1, z2⟩
        · rw [hn]; exact Or.inr ⟨cur, Or.inl a1, hp⟩
      · have hnA : A n := hn.resolve_right hnc
        by_cases z : n = cur
        · subst z
          refine ⟨fun e => hne e.symm, fun h => ?_, fun h => ?_⟩
          · rcases hdir with ⟨h1, h2⟩ | ⟨h1, h2⟩
            · exact ⟨ch, Or.inr rfl, h2⟩
            · omega
          · rcases hdir with ⟨h1, h2⟩ | ⟨h1, h2⟩
            · omega
            · exact ⟨ch, Or.inr rfl, h2⟩
        · obtain ⟨b1, b2, b3⟩ := a4 n hnA z
          exact ⟨b1, fun h => by obtain ⟨c', c1, c2⟩ := b2 h; exact ⟨c', Or.inl c1, c2⟩, fun h => by obtain ⟨c', c1, c2⟩ := b3 h; exact ⟨c', Or.inl c1, c2⟩⟩
    rw [f_J1_put_2_L123, tt_k hcN (ht cur hcN), Option.bind_some, m1, Option.bind_some, m2, Option.bind_some]
    by_cases hlt : k0 < ky cur
    · rw [if_neg (by rw [sgn3_ge]; omega), tt_l hcN (ht cur hcN), Option.bind_some]
      cases hl : l cur with
      | none =>
        refine ⟨cur, A, hA, hlh, Or.inl ⟨hlt, hl, ?_⟩⟩
        unfold f_J1_put_2_B196 f_J1_put_2_B201
        rw [if_pos rfl, if_neg (by rw [sgn3_ge]; omega)]
      | some ch =>
        obtain ⟨b1, b2, b3, b4⟩ := t2 cur ch hcN hl
        have key := ih ch k (fun n => A n ∨ n = ch) (next ch b1 b2 (Or.inl ⟨hlt, hl⟩)) (by omega) (fun z => hS (hS7.mpr (Or.inr (Or.inl ⟨hlt, ch, hl, z⟩)))) (by omega) (by omega)
        unfold f_J1_put_2_B196
        rw [if_neg (by simp)]
        exact key
    · rw [if_pos (by rw [sgn3_ge]; omega), if_neg (by rw [sgn3_le]; omega), tt_r hcN (ht cur hcN), Option.bind_some]
      cases hl : r cur with
      | none =>
        refine ⟨cur, A, hA, hlh, Or.inr ⟨by omega, hl, ?_⟩⟩
        unfold f_J1_put_2_B196 f_J1_put_2_B201
        rw [if_pos rfl, if_pos (by rw [sgn3_ge]; omega)]
      | some ch =>
        obtain ⟨b1, b2, b3, b4⟩ := t3 cur ch hcN hl
        have key := ih ch k (fun n => A n ∨ n = ch) (next ch b1 b2 (Or.inr ⟨by omega, hl⟩)) (by omega) (fun z => hS (hS7.mpr (Or.inr (Or.inr ⟨by omega, ch, hl, z⟩)))) (by omega) (by omega)
        unfold f_J1_put_2_B196
        rw [if_neg (by simp)]
        exact key
/-- a node put under its parent, and the map mended -/
theorem put_entry {lo hi : Nat → Nat} {S : Nat → Nat → Prop} {k0 kx q d : Nat} {A : Nat → Prop} {x2 : Option Nat} (T : TInv B (fun n => N n = true) ky R l r p lo hi S) (hK : RSem B K R S) (hB : B < 900000) (ht : ∀ n, N n = true → n ≠ t) (htl : t < hn h0) (hNl : ∀ n, N n = true → n < hn h0) (hc : ∀ n, N n = true → c n = 0 ∨ c n = 1) (hA : Seen (fun n => N n = true) ky R l r p k0 q A) (hlh : lo q ≤ k0 ∧ k0 < hi q) (hd : (d = 1 ∧ k0 < ky q ∧ l q = none) ∨ (d = 0 ∧ ky q < k0 ∧ r q = none)) :
    ∃ R' l' r' p' c', f_J1_put_2_B216 (some t) (some kx) x2 (some q) (I d) (TT h0 t N cm kr sz md vr R l r p c) = some (none, TT (grow h0 6) t (addN N (hn h0)) cm (nqs kr (hn h0) kx) (sz + 1) (md + 1) (ou vr (hn h0) x2) R' l' r' p' c') ∧ TOK B (fun n => addN N (hn h0) n = true) (fun n => if n = hn h0 then k0 else ky n) (fun k => K k ∨ k = k0) R' l' r' p' ∧ ∀ n, addN N (hn h0) n = true → c' n = 0 ∨ c' n = 1 := by
  have hqN : N q = true := hA.2.1 q hA.1
  have he : ¬ N (hn h0) = true := fun z => by have := hNl _ z; omega
  have hqe : q ≠ hn h0 := by have := hNl q hqN; omega
  have ht' : ∀ n, addN N (hn h0) n = true → n ≠ t := fun n hn => by
    rcases addN_iff.mp hn with z | z
    · exact ht n z
    · rw [z]; omega
  have hqN' : addN N (hn h0) q = true := addN_iff.mpr (Or.inl hqN)
  have heN' : addN N (hn h0) (hn h0) = true := addN_iff.mpr (Or.inr rfl)
  have hc1 : ∀ n, addN N (hn h0) n = true → uc (uc c (hn h0) 1) (hn h0) 0 n = 0 ∨ uc (uc c (hn h0) 1) (hn h0) 0 n = 1 := fun n hn' => by
    unfold uc
    by_cases z : n = hn h0
    · left; rw [if_pos z]
    · rw [if_neg z, if_neg z]
      exact hc n ((addN_iff.mp hn').resolve_right z)
  have hnode := tt_node (N := N) (cm := cm) (kr := kr) (sz := sz) (md := md) (vr := vr) (R := R) (l := l) (r := r) (p := p) (c := c) (key := kx) (val := x2) (par := some q) htl hNl
  -- after the link
  have fin : ∀ (l1 r1 : Nat → Option Nat) (lo' hi' : Nat → Nat) (S' : Nat → Nat → Prop), TInv B (fun n => N n = true ∨ n = hn h0) (fun n => if n = hn h0 then k0 else ky n) R l1 r1 (ou p (hn h0) (some q)) lo' hi' S' → RSem B (fun k => K k ∨ k = k0) R S' → ∃ R' l' r' p' c', f_J1_addEntry_B32 (some t) (some (hn h0)) (TT (grow h0 6) t (addN N (hn h0)) cm (nqs kr (hn h0) kx) sz md (ou vr (hn h0) x2) R l1 r1 (ou p (hn h0) (some q)) (uc c (hn h0) 1)) = some (TT (grow h0 6) t (addN N (hn h0)) cm (nqs kr (hn h0) kx) (sz + 1) (md + 1) (ou vr (hn h0) x2) R' l' r' p' c') ∧ TOK B (fun n => addN N (hn h0) n = true) (fun n => if n = hn h0 then k0 else ky n) (fun k => K k ∨ k = k0) R' l' r' p' ∧ ∀ n, addN N (hn h0) n = true → c' n = 0 ∨ c' n = 1 := fun l1 r1 lo' hi' S' T' K' => by
    have eN : (fun n => addN N (hn h0) n = true) = (fun n => N n = true ∨ n = hn h0) := by funext n; exact propext addN_iff
    rw [← eN] at T'
    obtain ⟨R', l', r', p', c', g1, g2, g3⟩ := fix_L5 (h0 := grow h0 6) (cm := cm) (kr := nqs kr (hn h0) kx) (sz := sz) (md := md) (vr := ou vr (hn h0) x2) ht' T' K' FU (hn h0) (uc (uc c (hn h0) 1) (hn h0) 0) heN' hc1 (by rw [FU_eq]; omega)
    refine ⟨R', l', r', p', c', ?_, g2, g3⟩
    unfold f_J1_addEntry_B32 f_J1_fixAfterInsertion
    rw [tt_rc, Option.bind_some, gb01 (Or.inl rfl), Option.bind_some, tt_pc heN' (ht' _ heN'), Option.bind_some, g1, Option.bind_some, tt_sz, Option.bind_some, tt_ps, Option.bind_some, tt_md, Option.bind_some, tt_pm, Option.bind_some]
  have e0 : nwO 25 6 [.null, .null, .null, .null, .null, .int 0] (TT h0 t N cm kr sz md vr R l r p c) = some (some (hn h0), hnew (TT h0 t N cm kr sz md vr R l r p c) (.inr (25, [.null, .null, .null, .null, .null, .int 0])) 6) := rfl
  rcases hd with ⟨rfl, h1, h2⟩ | ⟨rfl, h1, h2⟩
  · obtain ⟨lo', hi', S', T', K'⟩ := TIns_left (e := hn h0) T hK hA he hlh h1 h2
    rw [← ou_comm (Ne.symm hqe)] at T'
    obtain ⟨R', l', r', p', c', g1, g2, g3⟩ := fin _ _ lo' hi' S' T' K'
    refine ⟨R', l', r', p', c', ?_, g2, g3⟩
    unfold f_J1_put_2_B216 f_J1_addEntry
    rw [tt_rc, Option.bind_some, e0, Option.bind_some, nn, Option.bind_some, hnode, Option.bind_some, if_neg (show ¬ I 1 = 0 by decide), tt_pl hqN' (ht' q hqN'), Option.bind_some, g1, Option.bind_some]
  · obtain ⟨lo', hi', S', T', K'⟩ := TIns_right (e := hn h0) T hK hA he hlh h1 h2
    rw [← ou_comm (Ne.symm hqe)] at T'
    obtain ⟨R', l', r', p', c', g1, g2, g3⟩ := fin _ _ lo' hi' S' T' K'
    refine ⟨R', l', r', p', c', ?_, g2, g3⟩
    unfold f_J1_put_2_B216 f_J1_addEntry
    rw [tt_rc, Option.bind_some, e0, Option.bind_some, nn, Option.bind_some, hnode, Option.bind_some, if_pos (show I 0 = 0 from rfl), tt_pr hqN' (ht' q hqN'), Option.bind_some, g1, Option.bind_some]
end PUT
