/-! PLAIN LAW: the class: a key put into a search tree -/
set_option maxRecDepth 100000
/-- the nodes that a search for k0 has seen, q the last -/
def Seen (N : Nat → Prop) (ky : Nat → Nat) (R : Option Nat) (l r p : Nat → Option Nat) (k0 q : Nat) (A : Nat → Prop) : Prop :=
  A q ∧ (∀ n, A n → N n) ∧ (∀ n, A n → p n = none ∨ ∃ q', A q' ∧ p n = some q') ∧ (∀ n, A n → n ≠ q → ky n ≠ k0 ∧ (k0 < ky n → ∃ c, A c ∧ l n = some c) ∧ (ky n < k0 → ∃ c, A c ∧ r n = some c)) ∧ (∀ rt, R = some rt → A rt)
theorem TIns_right {B : Nat} {N K : Nat → Prop} {ky : Nat → Nat} {R : Option Nat} {l r p : Nat → Option Nat} {lo hi : Nat → Nat} {S : Nat → Nat → Prop} {k0 q e : Nat} {A : Nat → Prop} (T : TInv B N ky R l r p lo hi S) (hK : RSem B K R S) (hA : Seen N ky R l r p k0 q A) (he : ¬ N e) (hk : lo q ≤ k0 ∧ k0 < hi q) (hd : ky q < k0) (hr : r q = none) :
    ∃ lo' hi' S', TInv B (fun n => N n ∨ n = e) (fun n => if n = e then k0 else ky n) R (ou l e none) (ou (ou r q (some e)) e none) (ou p e (some q)) lo' hi' S' ∧ RSem B (fun k => K k ∨ k = k0) R S' := by
  obtain ⟨t1, t2, t3, t4, t5, t6, t7⟩ := T
  obtain ⟨a1, a2, a3, a4, a5⟩ := hA
  have hqN := a2 q a1
  have hqe : q ≠ e := fun z => he (by rw [← z]; exact hqN)
  have ne : ∀ n, N n → n ≠ e := fun n hn z => he (by rw [← z]; exact hn)
  have wq := t1 q hqN
  have Ln : ∀ n, N n → ou l e none n = l n := fun n hn => ou_ne (ne n hn)
  have Pn : ∀ n, N n → ou p e (some q) n = p n := fun n hn => ou_ne (ne n hn)
  have Rn : ∀ n, N n → n ≠ q → ou (ou r q (some e)) e none n = r n := fun n hn h => by rw [ou_ne (ne n hn), ou_ne h]
  have Rq : ou (ou r q (some e)) e none q = some e := by rw [ou_ne hqe, ou_eq]
  refine ⟨fun n => if n = e then ky q + 1 else lo n, fun n => if n = e then hi q else hi n, fun n k => if n = e then k = k0 else (S n k ∨ (k = k0 ∧ A n)), ⟨fun n hn => ?_, fun n c hn hc => ?_, fun n c hn hc => ?_, fun c q' hc hp => ?_, fun c hc hp => ?_, fun c hc => ?_, fun n hn k => ?_⟩, fun k hkB => ?_⟩
  · dsimp only
    rcases hn with hn | hn
    · rw [if_neg (ne n hn), if_neg (ne n hn), if_neg (ne n hn)]; exact t1 n hn
    · subst hn; rw [if_pos rfl, if_pos rfl, if_pos rfl]; omega
  · dsimp only
    rcases hn with hn | hn
    · rw [Ln n hn] at hc
      obtain ⟨b1, b2, b3, b4⟩ := t2 n c hn hc
      exact ⟨Or.inl b1, by rw [Pn c b1]; exact b2, by rw [if_neg (ne c b1), if_neg (ne n hn)]; exact b3, by rw [if_neg (ne c b1), if_neg (ne n hn)]; exact b4⟩
    · subst hn; rw [ou_eq] at hc; cases hc
  · dsimp only
    rcases hn with hn | hn
    · by_cases z : n = q
      · subst z
        rw [Rq] at hc; cases hc
        exact ⟨Or.inr rfl, ou_eq, by rw [if_pos rfl, if_neg hqe], by rw [if_pos rfl, if_neg hqe]⟩
      · rw [Rn n hn z] at hc
        obtain ⟨b1, b2, b3, b4⟩ := t3 n c hn hc
        exact ⟨Or.inl b1, by rw [Pn c b1]; exact b2, by rw [if_neg (ne c b1), if_neg (ne n hn)]; exact b3, by rw [if_neg (ne c b1), if_neg (ne n hn)]; exact b4⟩
    · subst hn; rw [ou_eq] at hc; cases hc
  · rcases hc with hc | hc
    · rw [Pn c hc] at hp
      obtain ⟨b1, b2⟩ := t4 c q' hc hp
      refine ⟨Or.inl b1, ?_⟩
      rw [Ln q' b1]
      rcases b2 with b2 | b2
      · exact Or.inl b2
      · right
        rw [Rn q' b1 (fun z => by subst z; rw [hr] at b2; cases b2)]; exact b2
    · subst hc
      rw [ou_eq] at hp; cases hp
      exact ⟨Or.inl hqN, Or.inr Rq⟩
  · rcases hc with hc | hc
    · rw [Pn c hc] at hp; exact t5 c hc hp
    · subst hc; rw [ou_eq] at hp; cases hp
  · obtain ⟨b1, b2, b3, b4⟩ := t6 c hc
    dsimp only
    exact ⟨Or.inl b1, by rw [Pn c b1]; exact b2, by rw [if_neg (ne c b1)]; exact b3, by rw [if_neg (ne c b1)]; exact b4⟩
  · dsimp only
    rcases hn with hn | hn
    · rw [if_neg (ne n hn), if_neg (ne n hn), Ln n hn, t7 n hn k]
      have cA : ∀ c, N c → p c = some n → ¬ A n → ¬ A c := fun c hc hp hnA hcA => by
        rcases a3 c hcA with z | ⟨q', z1, z2⟩
        · rw [hp] at z; cases z
        · rw [hp] at z2; cases z2; exact hnA z1
      by_cases hkk : k = k0 ∧ A n
      · obtain ⟨hk0, hnA⟩ := hkk
        subst hk0
        refine iff_of_true (Or.inr ⟨rfl, hnA⟩) ?_
        by_cases z : n = q
        · subst z
          right; right
          exact ⟨hd, e, Rq, by rw [if_pos rfl]⟩
        · obtain ⟨b1, b2, b3⟩ := a4 n hnA z
          rcases Nat.lt_or_gt_of_ne b1 with h | h
          · obtain ⟨c, c1, c2⟩ := b3 h
            right; right
            exact ⟨h, c, by rw [Rn n hn z]; exact c2, by rw [if_neg (ne c (a2 c c1))]; exact Or.inr ⟨rfl, c1⟩⟩
          · obtain ⟨c, c1, c2⟩ := b2 h
            right; left
            exact ⟨h, c, c2, by rw [if_neg (ne c (a2 c c1))]; exact Or.inr ⟨rfl, c1⟩⟩
      · have hSn : ((k = ky n ∨ (k < ky n ∧ ∃ c, l n = some c ∧ S c k) ∨ (ky n < k ∧ ∃ c, r n = some c ∧ S c k)) ∨ (k = k0 ∧ A n)) ↔ (k = ky n ∨ (k < ky n ∧ ∃ c, l n = some c ∧ S c k) ∨ (ky n < k ∧ ∃ c, r n = some c ∧ S c k)) := ⟨fun h => h.resolve_right hkk, Or.inl⟩
        rw [hSn]
        have hc0 : ∀ c, N c → p c = some n → ((if c = e then k = k0 else (S c k ∨ (k = k0 ∧ A c))) ↔ S c k) := fun c hc hp => by
          rw [if_neg (ne c hc)]
          exact ⟨fun h => h.resolve_right (fun z => hkk ⟨z.1, Classical.byContradiction (fun w => cA c hc hp w z.2)⟩), Or.inl⟩
        have hLL : (∃ c, l n = some c ∧ S c k) ↔ ∃ c, l n = some c ∧ (if c = e then k = k0 else (S c k ∨ (k = k0 ∧ A c))) :=
          ⟨fun ⟨c, h1, h2⟩ => ⟨c, h1, (hc0 c (t2 n c hn h1).1 (t2 n c hn h1).2.1).mpr h2⟩, fun ⟨c, h1, h2⟩ => ⟨c, h1, (hc0 c (t2 n c hn h1).1 (t2 n c hn h1).2.1).mp h2⟩⟩
        rw [hLL]
        by_cases z : n = q
        · subst z
          have hk0 : k ≠ k0 := fun w => hkk ⟨w, a1⟩
          have hRR : (∃ c, r n = some c ∧ S c k) ↔ ∃ c, ou (ou r n (some e)) e none n = some c ∧ (if c = e then k = k0 else (S c k ∨ (k = k0 ∧ A c))) := by
            rw [hr, Rq]
            constructor
            · rintro ⟨c, h1, -⟩; cases h1
            · rintro ⟨c, h1, h2⟩
              cases h1
              rw [if_pos rfl] at h2; exact absurd h2 hk0
          rw [hRR]
        · have hRR : (∃ c, r n = some c ∧ S c k) ↔ ∃ c, ou (ou r q (some e)) e none n = some c ∧ (if c = e then k = k0 else (S c k ∨ (k = k0 ∧ A c))) := by
            rw [Rn n hn z]
            exact ⟨fun ⟨c, h1, h2⟩ => ⟨c, h1, (hc0 c (t3 n c hn h1).1 (t3 n c hn h1).2.1).mpr h2⟩, fun ⟨c, h1, h2⟩ => ⟨c, h1, (hc0 c (t3 n c hn h1).1 (t3 n c hn h1).2.1).mp h2⟩⟩
          rw [hRR]
    · subst hn
      rw [if_pos rfl, if_pos rfl]
      constructor
      · intro h; exact Or.inl h
      · rintro (h | ⟨-, c, h, -⟩ | ⟨-, c, h, -⟩)
        · exact h
        · rw [ou_eq] at h; cases h
        · rw [ou_eq] at h; cases h
  · dsimp only
    have h1 := hK k hkB
    constructor
    · rintro (h | h)
      · obtain ⟨rt, w1, w2⟩ := h1.mp h
        exact ⟨rt, w1, by rw [if_neg (ne rt (t6 rt w1).1)]; exact Or.inl w2⟩
      · subst h
        have : ∃ rt, R = some rt := by
          cases hR : R with
          | some rt => exact ⟨rt, rfl⟩
          | none =>
            exfalso
            -- a node without a root: go up
            have up : ∀ d n, N n → B - (hi n - lo n) ≤ d → False := by
              intro d
              induction d with
              | zero =>
                intro n hn hd'
                have w := t1 n hn
                cases hp : p n with
                | none => have := t5 n hn hp; rw [hR] at this; cases this
                | some q' =>
                  obtain ⟨b1, b2⟩ := t4 n q' hn hp
                  have w2 := t1 q' b1
                  rcases b2 with b2 | b2
                  · have := t2 q' n b1 b2; omega
                  · have := t3 q' n b1 b2; omega
              | succ d ih =>
                intro n hn hd'
                have w := t1 n hn
                cases hp : p n with
                | none => have := t5 n hn hp; rw [hR] at this; cases this
                | some q' =>
                  obtain ⟨b1, b2⟩ := t4 n q' hn hp
                  have w2 := t1 q' b1
                  refine ih q' b1 ?_
                  rcases b2 with b2 | b2
                  · have := t2 q' n b1 b2; omega
                  · have := t3 q' n b1 b2; omega
            exact up B q hqN (by omega)
        obtain ⟨rt, w1⟩ := this
        exact ⟨rt, w1, by rw [if_neg (ne rt (t6 rt w1).1)]; exact Or.inr ⟨rfl, a5 rt w1⟩⟩
    · rintro ⟨rt, w1, w2⟩
      rw [if_neg (ne rt (t6 rt w1).1)] at w2
      rcases w2 with w2 | w2
      · exact Or.inl (h1.mpr ⟨rt, w1, w2⟩)
      · exact Or.inr w2.1
theorem Seen.mirror {B : Nat} {N : Nat → Prop} {ky : Nat → Nat} {R : Option Nat} {l r p : Nat → Option Nat} {k0 q : Nat} {A : Nat → Prop} (h : Seen N ky R l r p k0 q A) (hlt : ∀ n, N n → ky n < B) (hk : k0 < B) : Seen N (fun n => B - 1 - ky n) R r l p (B - 1 - k0) q A := by
  obtain ⟨a1, a2, a3, a4, a5⟩ := h
  refine ⟨a1, a2, a3, fun n hn hq => ?_, a5⟩
  obtain ⟨b1, b2, b3⟩ := a4 n hn hq
  have := hlt n (a2 n hn)
  exact ⟨by dsimp only; omega, fun h => b3 (by dsimp only at h; omega), fun h => b2 (by dsimp only at h; omega)⟩
theorem TIns_left {B : Nat} {N K : Nat → Prop} {ky : Nat → Nat} {R : Option Nat} {l r p : Nat → Option Nat} {lo hi : Nat → Nat} {S : Nat → Nat → Prop} {k0 q e : Nat} {A : Nat → Prop} (T : TInv B N ky R l r p lo hi S) (hK : RSem B K R S) (hA : Seen N ky R l r p k0 q A) (he : ¬ N e) (hk : lo q ≤ k0 ∧ k0 < hi q) (hd : k0 < ky q) (hr : l q = none) :
    ∃ lo' hi' S', TInv B (fun n => N n ∨ n = e) (fun n => if n = e then k0 else ky n) R (ou (ou l q (some e)) e none) (ou r e none) (ou p e (some q)) lo' hi' S' ∧ RSem B (fun k => K k ∨ k = k0) R S' := by
  have hlt : ∀ n, N n → ky n < B := fun n hn => by have := T.1 n hn; omega
  have wq := T.1 q (hA.2.1 q hA.1)
  have hkB : k0 < B := by omega
  have TM := T.mirror
  have KM : RSem B (fun k => K (B - 1 - k)) R (SM B S) := fun k h => by
    show K (B - 1 - k) ↔ _
    rw [hK (B - 1 - k) (by omega)]
    unfold SM
    constructor
    · rintro ⟨rt, h1, h2⟩; exact ⟨rt, h1, h, h2⟩
    · rintro ⟨rt, h1, -, h2⟩; exact ⟨rt, h1, h2⟩
  obtain ⟨lo', hi', S', T', K'⟩ := TIns_right (e := e) TM KM (hA.mirror (B := B) hlt hkB) he (by omega) (by omega) hr
  have T2 := TOK.mirror ⟨lo', hi', S', T', K'⟩
  have T3 := T2.key (ky' := fun n => if n = e then k0 else ky n) (K' := fun k => K k ∨ k = k0) (fun n hn => by
    by_cases z : n = e
    · rw [if_pos z, if_pos z]; omega
    · rw [if_neg z, if_neg z]
      have := hlt n (hn.resolve_right z)
      omega) (fun k h => by
    rw [show B - 1 - (B - 1 - k) = k by omega]
    constructor
    · rintro (z | z)
      · exact Or.inl z
      · right; omega
    · rintro (z | z)
      · exact Or.inl z
      · right; omega)
  exact T3
