/-! PLAIN LAW: the class: what a run answers -/
set_option maxRecDepth 100000
theorem sumTo_rev {f : Nat → Nat} : ∀ n, sumTo (fun k => f (n - 1 - k)) n = sumTo f n := by
  intro n
  have key : ∀ j, j ≤ n → sumTo (fun k => f (n - 1 - k)) j + sumTo f (n - j) = sumTo f n := by
    intro j
    induction j with
    | zero => intro _; simp [sumTo]
    | succ j ih =>
      intro hj
      have h1 := ih (by omega)
      have e : n - j = (n - (j + 1)) + 1 := by omega
      rw [e] at h1
      have e2 : sumTo f (n - (j + 1) + 1) = sumTo f (n - (j + 1)) + f (n - (j + 1)) := rfl
      rw [e2] at h1
      have e3 : sumTo (fun k => f (n - 1 - k)) (j + 1) = sumTo (fun k => f (n - 1 - k)) j + f (n - 1 - j) := rfl
      rw [e3, show n - 1 - j = n - (j + 1) by omega]
      omega
  have := key n (Nat.le_refl _)
  simpa [sumTo] using this
def wrkF (s : Nat → Nat) (l : List SP4) (k : Nat) : Nat := match l[k]? with | some t => s (3 + t.1) | none => 0
theorem wrk_eq {s : Nat → Nat} {l : List SP4} : wrk s l l.length = sumTo (wrkF s l) l.length := by
  rw [← sumTo_rev l.length]; rfl
/-- the hardest so far -/
def hrdF (l : List SP4) (k : Nat) : Nat := match l[k]? with | some t => t.1 + 1 | none => 0
def hrd (l : List SP4) : Nat → Option Nat
  | 0 => none
  | n + 1 => match hrd l n with
    | none => some n
    | some b => if hrdF l n ≤ hrdF l b then some b else some n
theorem hrd_spec {l : List SP4} : ∀ n, n ≤ l.length → (n = 0 → hrd l n = none) ∧ (0 < n → ∃ b, hrd l n = some b ∧ b < n ∧ hrdF l b = gmx l n ∧ ∀ j, j < b → hrdF l j < gmx l n) := by
  intro n
  induction n with
  | zero => intro _; exact ⟨fun _ => rfl, fun h => by omega⟩
  | succ n ih =>
    intro hn
    refine ⟨fun h => by omega, fun _ => ?_⟩
    obtain ⟨i1, i2⟩ := ih (by omega)
    have eg : gmx l (n + 1) = max (gmx l n) (hrdF l n) := rfl
    by_cases h0 : n = 0
    · subst h0
      refine ⟨0, by simp [hrd], by omega, ?_, fun j hj => by omega⟩
      rw [eg]
      have : gmx l 0 = 0 := rfl
      omega
    · obtain ⟨b, b1, b2, b3, b4⟩ := i2 (by omega)
      by_cases hle : hrdF l n ≤ hrdF l b
      · refine ⟨b, by simp only [hrd, b1, if_pos hle], by omega, by rw [eg]; omega, fun j hj => by have := b4 j hj; rw [eg]; omega⟩
      · refine ⟨n, by simp only [hrd, b1, if_neg hle], by omega, by rw [eg]; omega, fun j hj => ?_⟩
        have : hrdF l j ≤ gmx l n := maxTo_ge (f := hrdF l) hj
        rw [eg]; omega
theorem hrd_first {l : List SP4} : hrd l l.length = firstI (fstG l) l.length := by
  obtain ⟨i1, i2⟩ := hrd_spec (l := l) l.length (Nat.le_refl _)
  by_cases h0 : l.length = 0
  · rw [i1 h0, h0]; rfl
  · obtain ⟨b, b1, b2, b3, b4⟩ := i2 (by omega)
    rw [b1]
    have ef : ∀ k, k < l.length → fstG l k = (hrdF l k == gmx l l.length) := fun k hk => by
      unfold fstG hrdF
      rw [List.getElem?_eq_getElem hk]
    refine (firstI_some.mpr ⟨b2, by rw [ef b b2]; simpa using b3, fun j hj => ?_⟩).symm
    rw [ef j (by omega)]
    have := b4 j hj
    simp; omega
section RUN9ze
variable {h0 h : PH} {m n r x a1 e1 c1 a2 e2 c2 b p : Nat} {w : Nat → Nat} {S : List SP4} {R : List (Nat × Nat)} {g : GS} {sh pb co mm v ra : Nat} {ms ru : Nat → Nat}
theorem run_hardest (P : RunP h0 h n r x a1 e1 c1 a2 e2 c2 b p w S R) (hS : ∀ t, t ∈ S → t.1 < 5) (hl : S.length ≤ 150) : f_X22_hardest (some r) h = some (cz (firstI (fstG S) S.length), h) := by
  obtain ⟨p1, p2, p3, p4, p5, F0⟩ := P.rd
  obtain ⟨q1, q2⟩ := P.lst
  rw [← hrd_first]
  unfold f_X22_hardest
  refine loop_FU (fun k (q : Int32 × Nat) => f_X22_hardest_L5 k (some r) q.1 (I q.2) h) (fun i => (cz (hrd S i), i)) S.length _ (by omega) (fun k i hi => ?_) (fun k => ?_)
  · show f_X22_hardest_L5 (k + 1) _ (cz (hrd S i)) (I i) h = f_X22_hardest_L5 k _ (cz (hrd S (i + 1))) (I (i + 1)) h
    have hle : ¬ I S.length ≤ I i := by rw [I_le (by omega) (by omega)]; omega
    have ht : S[i]? = some (S[i]'hi) := List.getElem?_eq_getElem hi
    have e2 : hrd S (i + 1) = match hrd S i with | none => some i | some b => if hrdF S i ≤ hrdF S b then some b else some i := rfl
    rw [f_X22_hardest_L5, p2, Option.bind_some, q1, Option.bind_some, q2, Option.bind_some, if_neg hle]
    cases hh : hrd S i with
    | none =>
      rw [e2, hh]
      rw [if_pos (show cz none = -99 from rfl), show I i + 1 = I (i + 1) from I_add _ 1]; rfl
    | some bb =>
      have hb : bb < i := by
        obtain ⟨i1, i2⟩ := hrd_spec (l := S) i (by omega)
        by_cases z : i = 0
        · rw [i1 z] at hh; cases hh
        · obtain ⟨b', b1, b2, -⟩ := i2 (by omega)
          rw [b1] at hh; cases hh; exact b2
      have hbl : bb < S.length := by omega
      have ht2 : S[bb]? = some (S[bb]'hbl) := List.getElem?_eq_getElem hbl
      obtain ⟨y, z, g1, g2, g3, g4, g5⟩ := P.get ht
      obtain ⟨y', z', g1', g2', g3', g4', g5'⟩ := P.get ht2
      obtain ⟨x1, x2, x3⟩ := x25_rule g3 g5
      obtain ⟨x1', x2', x3'⟩ := x25_rule g3' g5'
      have s1 := hS _ (List.mem_of_getElem? ht)
      have s2 := hS _ (List.mem_of_getElem? ht2)
      have hcz : cz (some bb) = I bb := rfl
      have hf1 : hrdF S i = (S[i]'hi).1 + 1 := by unfold hrdF; rw [ht]
      have hf2 : hrdF S bb = (S[bb]'hbl).1 + 1 := by unfold hrdF; rw [ht2]
      rw [e2, hh, hcz, if_neg (show ¬ I bb = -99 from I_neg_ne (b := 99) (by omega) (by decide) (by decide))]
      simp only [p2, q1, Option.bind_some, g1, g1', x1, x2, x3, x1', x2', x3', show I i + 1 = I (i + 1) from I_add _ 1]
      by_cases hc : (S[i]'hi).1 ≤ (S[bb]'hbl).1
      · rw [if_pos (by rw [I_le (by omega) (by omega)]; exact hc), if_pos (by omega)]; rfl
      · rw [if_neg (by rw [I_le (by omega) (by omega)]; exact hc), if_neg (by omega)]; rfl
  · show f_X22_hardest_L5 (k + 1) _ (cz (hrd S S.length)) (I S.length) h = _
    rw [f_X22_hardest_L5, p2, Option.bind_some, q1, Option.bind_some, q2, Option.bind_some, if_pos (by rw [I_le (by omega) (by omega)]; exact Nat.le_refl _)]
theorem run_work (P : RunP h0 h n r x a1 e1 c1 a2 e2 c2 b p w S R) (LK : ∀ h', Fr h0 h' → LKX m x g h' sh p pb co mm ms v ra ru) (hS : ∀ t, t ∈ S → t.1 < 5) : ∃ h', f_X22_work (some r) h = some (I (wrk g.1 S S.length), h') ∧ Fr h h' ∧ hn h' = hn h + 1 ∧ hs h' = hs h + 4 := by
  obtain ⟨p1, p2, p3, p4, p5, F0⟩ := P.rd
  obtain ⟨l1, l2, κ, fw, q1, ⟨q2, q3, q4⟩, -, -, ⟨q11, q12⟩, -⟩ := id P
  obtain ⟨mc, h1, i1, i2, O1, n1, s1, hm⟩ := al_iter q2
  have A1 := q2.frF O1.fr
  obtain ⟨fe, mc', b1, b2, b3, b4, b5, b6, b7, b8⟩ := id q2
  have hm1 : gfi 29 0 (some a1) h1 = some mc := by
    have e1 : gfi 29 0 (some a1) h = some mc' := gfi_at b1 rfl
    rw [hm] at e1; cases e1
    exact gfi_at ((O1.2.2 _ b7).trans b1) rfl
  have hia : hn h ≠ a1 := by omega
  have hie : 0 < c1 → hn h ≠ e1 := fun hc => by have := b8 hc; omega
  have nx := fun i y => al_next (i := i) (y := y) A1 hm1 hia hie
  rw [wrk_eq]
  refine ⟨hset h1 (hn h) (itc a1 mc S.length), ?_, O1.fr.set (Nat.le_refl _), n1, s1⟩
  unfold f_X22_work
  rw [p2, Option.bind_some, al_rc q2, Option.bind_some, i1, Option.bind_some]
  have e9 : f_X22_work_L12 FU (some r) 0 (some (hn h)) h1 = f_X22_work_L12 FU (some r) 0 (some (hn h)) (hset h1 (hn h) (itc a1 mc 0)) := congrArg _ i2
  show f_X22_work_L12 FU (some r) 0 (some (hn h)) h1 = _
  rw [e9]
  refine loop_FU (fun k (q : Nat × Nat) => f_X22_work_L12 k (some r) (I q.1) (some (hn h)) (hset h1 (hn h) (itc a1 mc q.2))) (fun i => (sumTo (wrkF g.1 S) i, i)) S.length _ (by omega) (fun k i hi => ?_) (fun k => ?_)
  · have hy : l1[i]? = some (l1[i]'(by omega)) := List.getElem?_eq_getElem (by omega)
    have ht : S[i]? = some (S[i]'hi) := List.getElem?_eq_getElem hi
    obtain ⟨n1', -, n3⟩ := nx i (l1[i]'(by omega))
    obtain ⟨z, z1, z2, z3, z4⟩ := q4 i _ _ hy ht
    have hyl := (b6 _ (List.mem_of_getElem? hy)).1
    have o1 : ∀ c a, a < hn h → (hset h1 (hn h) c).1 a = h.1 a := fun c a ha => (hset_ne (by omega)).trans (O1.2.2 a ha)
    obtain ⟨x1, x2, x3⟩ := x25_rule (h := hset h1 (hn h) (itc a1 mc (i + 1))) ((o1 _ _ hyl).trans z3) ((o1 _ _ z1).trans z4)
    have rc : rcv 30 (some (hn h)) (hset h1 (hn h) (itc a1 mc i)) = some () := rcv_at hset_at
    have r3 : gfr 19 3 (some r) (hset h1 (hn h) (itc a1 mc (i + 1))) = some (some x) := gfr_at (x := some x) ((o1 _ _ q11).trans q1) rfl
    obtain ⟨⟨y1, y2, y3, y4⟩, ⟨y5, y6, y7, y8, y9⟩, -⟩ := LK (hset h1 (hn h) (itc a1 mc (i + 1))) (F0.trans (O1.fr.set (Nat.le_refl _)))
    have h5 := hS _ (List.mem_of_getElem? ht)
    have ew : wrkF g.1 S i = g.1 (3 + (S[i]'hi).1) := by unfold wrkF; rw [ht]
    show f_X22_work_L12 (k + 1) _ (I _) _ (hset h1 (hn h) (itc a1 mc i)) = f_X22_work_L12 k _ (I (sumTo (wrkF g.1 S) i + wrkF g.1 S i)) _ (hset h1 (hn h) (itc a1 mc (i + 1)))
    rw [f_X22_work_L12, rc, Option.bind_some, n1' (by omega), Option.bind_some, if_neg (show ¬ I 1 = 0 by decide), rc, Option.bind_some, n3 hy, Option.bind_some, x2, Option.bind_some, r3, Option.bind_some, y1, Option.bind_some, y4, Option.bind_some, y7, Option.bind_some, x3, Option.bind_some, x1, Option.bind_some, y9 _ h5, Option.bind_some, I_add, ew]
  · obtain ⟨-, n2, -⟩ := nx S.length 0
    have rc : rcv 30 (some (hn h)) (hset h1 (hn h) (itc a1 mc S.length)) = some () := rcv_at hset_at
    show f_X22_work_L12 (k + 1) _ (I _) _ (hset h1 (hn h) (itc a1 mc S.length)) = _
    rw [f_X22_work_L12, rc, Option.bind_some, n2 (by omega), Option.bind_some, if_pos (show I 0 = 0 from rfl)]
end RUN9ze
