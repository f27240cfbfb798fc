/-! PLAIN LAW: the class: the queue -/
set_option maxRecDepth 100000
theorem copyOf6 {h : PH} {ea cap N : Nat} {fe : Nat → Option Nat} (he : h.1 ea = some (rar 6 cap fe)) (hea : ea < hn h) (hN : cap ≤ N) (hN2 : N ≤ 100000) (hf : ∀ j, j < cap → ∀ b, fe j = some b → b < hn h ∧ eok 6 h (some b) = true) :
    f_J18_copyOf (some ea) (I N) h = some (some (hn h), hset (hnew h (rar 6 N (fun _ => none)) N) (hn h) (rar 6 N (cutr cap fe))) := by
  have e0 : gcl (some ea) h = some (hk h 200) := by simp only [gcl, he]; rfl
  have hne : ea ≠ hn h := by omega
  have e1 : aln 6 (some ea) (hnew h (rar 6 N (fun _ => none)) N) = some (I cap) := aln_at ((hnew_ne hne).trans he)
  have e2 : imin (I cap) (I N) = I cap := by
    unfold imin; rw [if_neg (by rw [I_lt (by omega) (by omega)]; omega)]
  have hf' : ∀ j, j < cap → eok 6 (hnew h (rar 6 N (fun _ => none)) N) (fe j) = true := fun j hj => by
    cases hfe : fe j with
    | none => rfl
    | some b =>
      obtain ⟨h1, h2⟩ := hf j hj b hfe
      simp only [eok, cno] at h2 ⊢
      rw [hnew_ne (by omega)]; exact h2
  have e3 := acr_at (t := 6) (src := some ea) (h := hnew h (rar 6 N (fun _ => none)) N) (a := hn h) (k := cap) (ar_at ((hnew_ne hne).trans he)) hnew_at (Nat.le_refl _) hN (by omega) hf'
  rw [cpy_cutr] at e3
  unfold f_J18_copyOf f_J18_copyOf_2
  rw [e0, Option.bind_some, if_pos rfl, nwr_at hN2, Option.bind_some, e1, Option.bind_some, e2, show (0 : Int32) = I 0 from rfl, e3]
  rfl

/-- the queue: object, array, room, what is in it -/
def PQX (kd : Nat) (h : PH) (κ : Nat → Nat) (a ea cap : Nat) (l : List Nat) : Prop := ∃ (fe : Nat → Option Nat) (cm : Nat) (mc : Int32) (q : Nat → Nat), h.1 a = some (.inr (28, [.ref ea, .int (I l.length), .ref cm, .int mc])) ∧ h.1 ea = some (rar 6 cap fe) ∧ h.1 cm = some (.inr (kd, [])) ∧ l.length ≤ cap ∧ 1 ≤ cap ∧ cap ≤ 300 ∧ (∀ i, i < l.length → fe i = some (q i)) ∧ (∀ i, l.length ≤ i → i < cap → fe i = none) ∧ (∀ i, i < l.length → ELX kd h κ (q i) ∧ q i < hn h) ∧ HP κ q l.length ∧ (∀ y, cnt q l.length y = l.count y) ∧ a < hn h ∧ ea < hn h ∧ cm < hn h
/-- only these two cells changed -/
def Fq (h h' : PH) (a ea ea' : Nat) : Prop := hn h ≤ hn h' ∧ hg h' = hg h ∧ (∀ b, b < hn h → b ≠ a → b ≠ ea → h'.1 b = h.1 b) ∧ (ea' = ea ∨ hn h ≤ ea') ∧ ea' < hn h'
theorem ELX_ne {kd e : Nat} {h h' : PH} {κ : Nat → Nat} (E : ELX kd h κ e) (he : h'.1 e = h.1 e) : ELX kd h' κ e := by
  obtain ⟨c, v, a1, a2⟩ := E
  exact ⟨c, v, he.trans a1, a2⟩
theorem ELX_k {kd e : Nat} {h : PH} {κ : Nat → Nat} (E : ELX kd h κ e) : ∃ c, h.1 e = some c ∧ (ki c = 15 ∨ ki c = 21) := by
  obtain ⟨c, v, a1, a2⟩ := E
  refine ⟨_, a1, ?_⟩
  unfold elC; split
  · right; rfl
  · left; rfl
theorem PQX.fr {kd : Nat} {h h' : PH} {κ : Nat → Nat} {a ea cap : Nat} {l : List Nat} (P : PQX kd h κ a ea cap l) (hl : hn h ≤ hn h') (hk : kdOK kd) (hf : ∀ b c, b < hn h → h.1 b = some c → (b = a ∨ b = ea ∨ ki c = 12 ∨ ki c = 13 ∨ ki c = 14 ∨ ki c = 20 ∨ ki c = 15 ∨ ki c = 21) → h'.1 b = some c) : PQX kd h' κ a ea cap l := by
  obtain ⟨fe, cm, mc, q, a1, a2, a3, a4, a5, a6, a7, a8, a9, a10, a11, a12, a13, a14⟩ := P
  refine ⟨fe, cm, mc, q, hf _ _ a12 a1 (Or.inl rfl), hf _ _ a13 a2 (Or.inr (Or.inl rfl)), hf _ _ a14 a3 ?_, a4, a5, a6, a7, a8, fun i hi => ?_, a10, a11, by omega, by omega, by omega⟩
  · rcases hk with rfl | rfl | rfl | rfl <;> simp [ki]
  · obtain ⟨E, g⟩ := a9 i hi
    obtain ⟨c, e1, e2⟩ := ELX_k E
    exact ⟨ELX_ne E ((hf _ _ g e1 (by rcases e2 with e | e <;> simp [e])).trans e1.symm), by omega⟩
section PQ9w
variable {kd : Nat} {h : PH} {κ : Nat → Nat} {a ea cap : Nat} {l : List Nat}
theorem pq_grow (P : PQX kd h κ a ea cap l) (hk : kdOK kd) (hc : cap = l.length) (h64 : cap < 64) : ∃ h', f_J20_grow (some a) (I (l.length + 1)) h = some h' ∧ PQX kd h' κ a (hn h) (2 * cap + 2) l ∧ Fq h h' a ea (hn h) ∧ hn h' = hn h + 1 ∧ hs h' = hs h + (2 * cap + 2) := by
  obtain ⟨fe, cm, mc, q, a1, a2, a3, a4, a5, a6, a7, a8, a9, a10, a11, a12, a13, a14⟩ := P
  have hane : a ≠ ea := fun e => by subst e; rw [a1] at a2; cases a2
  have r0 : gfr 28 0 (some a) h = some (some ea) := gfr_at (x := some ea) a1 rfl
  have r1 : aln 6 (some ea) h = some (I cap) := aln_at a2
  have hcp := copyOf6 (N := 2 * cap + 2) a2 a13 (by omega) (by omega) (fun j hj b hb => by
    rw [a7 j (by omega)] at hb; cases hb
    obtain ⟨E, g⟩ := a9 j (by omega)
    refine ⟨g, ?_⟩
    obtain ⟨c, v, e1, -⟩ := E
    simp only [eok, cno, e1]
    unfold elC; split <;> rfl)
  have hnl : f_J8_newLength (I cap) (I (l.length + 1) - I cap) (I cap + 2) h = some (I (2 * cap + 2), h) := by
    have e1 : I (l.length + 1) - I cap = I 1 := by rw [I_sub (by omega)]; exact congrArg I (by omega)
    have e2 : imax (I 1) (I (cap + 2)) = I (cap + 2) := by
      unfold imax; rw [if_pos (by rw [I_lt (by omega) (by omega)]; omega)]
    have w1 : ¬ I (2 * cap + 2) ≤ (0 : Int32) := by rw [show (0 : Int32) = I 0 from rfl, I_le (by omega) (by omega)]; omega
    have w2 : ¬ (2147483639 : Int32) < I (2 * cap + 2) := by rw [show (2147483639 : Int32) = I 2147483639 from rfl, I_lt (by omega) (by omega)]; omega
    unfold f_J8_newLength
    rw [e1, show (2 : Int32) = I 2 from rfl, I_add, e2, I_add, show cap + (cap + 2) = 2 * cap + 2 by omega, if_neg w1, if_neg w2]
  generalize hg1 : hset (hnew h (rar 6 (2 * cap + 2) (fun _ => none)) (2 * cap + 2)) (hn h) (rar 6 (2 * cap + 2) (cutr cap fe)) = h1 at hcp
  have u1 : ∀ b, b < hn h → h1.1 b = h.1 b := fun b hb => by rw [← hg1, hset_ne (by omega), hnew_ne (by omega)]
  have u2 : h1.1 (hn h) = some (rar 6 (2 * cap + 2) (cutr cap fe)) := by rw [← hg1]; exact hset_at
  have e4 : pf 28 0 (some a) (.ref (hn h)) h1 = some (hset h1 a (.inr (28, [.ref (hn h), .int (I l.length), .ref cm, .int mc]))) := pf_at ((u1 a a12).trans a1) (by simp)
  have hn1 : hn h1 = hn h + 1 := by rw [← hg1]; rfl
  have hs1 : hs h1 = hs h + (2 * cap + 2) := by rw [← hg1]; rfl
  have hg2 : hg h1 = hg h := by rw [← hg1]; rfl
  have hne : ∀ b (c : PC), h.1 b = some c → b < hn h → ki c ≠ 28 → (hset h1 a (.inr (28, [.ref (hn h), .int (I l.length), .ref cm, .int mc]))).1 b = some c := fun b c q1 q2 q3 => by
    rw [hset_ne (fun e => by subst e; rw [a1] at q1; cases q1; exact q3 rfl), u1 b q2]; exact q1
  refine ⟨_, ?_, ⟨cutr cap fe, cm, mc, q, hset_at, by rw [hset_ne (by omega)]; exact u2, hne _ _ a3 a14 (by rcases hk with rfl | rfl | rfl | rfl <;> simp [ki]), by omega, by omega, by omega, fun i hi => ?_, fun i hi _ => ?_, fun i hi => ?_, a10, a11, ?_, ?_, ?_⟩, ⟨?_, hg2, fun b hb q1 q2 => ?_, Or.inr (Nat.le_refl _), ?_⟩, hn1, hs1⟩
  · unfold f_J20_grow f_J20_grow_B25
    rw [r0, Option.bind_some, r1, Option.bind_some, if_neg (by rw [show (64 : Int32) = I 64 from rfl, I_le (by omega) (by omega)]; omega), hnl, Option.bind_some, r0, Option.bind_some, hcp, Option.bind_some]
    show (pf 28 0 (some a) (.ref (hn h)) h1).bind _ = _
    rw [e4, Option.bind_some]
  · unfold cutr; rw [if_pos (by omega)]; exact a7 i hi
  · unfold cutr; rw [if_neg (by omega)]
  · obtain ⟨E, g⟩ := a9 i hi
    obtain ⟨c, e1, e2⟩ := ELX_k E
    exact ⟨ELX_ne E ((hne _ _ e1 g (by omega)).trans e1.symm), by show q i < hn h1; omega⟩
  · show a < hn h1; omega
  · show hn h < hn h1; omega
  · show cm < hn h1; omega
  · show hn h ≤ hn h1; omega
  · rw [hset_ne q1, u1 b hb]
  · show hn h < hn h1; omega
theorem cnt_snoc {q : Nat → Nat} {n x y : Nat} : cnt (nqs q n x) (n + 1) y = cnt q n y + (if x = y then 1 else 0) := by
  have e : cnt (nqs q n x) (n + 1) y = cnt (nqs q n x) n y + (if nqs q n x n = y then 1 else 0) := rfl
  rw [e, cnt_congr (q := nqs q n x) (q' := q) (fun i hi => by unfold nqs; rw [if_neg (by omega)])]
  simp [nqs]
theorem count_snoc {l : List Nat} {x y : Nat} : (l ++ [x]).count y = l.count y + (if x = y then 1 else 0) := by
  rw [List.count_append, List.count_singleton]
  congr 1
  by_cases h : x = y <;> simp [h]
/-- the sifting in of one more -/
theorem pq_offB {y : Nat} (P : PQX kd h κ a ea cap l) (hk : kdOK kd) (hl : l.length < cap) (E : ELX kd h κ y) (hy : y < hn h) : ∃ h', f_J20_offer_B43 (some a) (some y) (I l.length) h = some (1, h') ∧ PQX kd h' κ a ea cap (l ++ [y]) ∧ Fq h h' a ea ea ∧ hn h' = hn h ∧ hs h' = hs h := by
  obtain ⟨fe, cm, mc, q, a1, a2, a3, a4, a5, a6, a7, a8, a9, a10, a11, a12, a13, a14⟩ := P
  have hane : a ≠ ea := fun e => by subst e; rw [a1] at a2; cases a2
  have hce : cm ≠ ea := fun e => by subst e; rw [a3] at a2; cases a2
  have hEQ : ∀ e, ELX kd h κ e → e ≠ ea := fun e E z => by
    obtain ⟨c, v, e1, -⟩ := E
    subst z; rw [a2] at e1; cases e1
  have rc : rcv 28 (some a) h = some () := rcv_at a1
  have r0 : gfr 28 0 (some a) h = some (some ea) := gfr_at (x := some ea) a1 rfl
  have r2 : gfr 28 2 (some a) h = some (some cm) := gfr_at (x := some cm) a1 rfl
  have q1 : ∀ i, i ≠ l.length → nqs q l.length y i = q i := fun i hi => by unfold nqs; rw [if_neg hi]
  have q2 : nqs q l.length y l.length = y := by unfold nqs; rw [if_pos rfl]
  obtain ⟨fe', q', g1, g2, g3, g4, g5⟩ := pq_up (h0 := h) (κ := κ) (n := l.length) (cap := cap) (x := y) hk a3 hce (by omega) hl FU l.length (nqs q l.length y) fe (by rw [FU_eq]; omega) (Nat.le_refl _) (fun i hi => by
    by_cases z : i = l.length
    · rw [z, q2]; exact ⟨E, hEQ _ E⟩
    · rw [q1 i z]; exact ⟨(a9 i (by omega)).1, hEQ _ (a9 i (by omega)).1⟩) (fun i hi hne => by rw [q1 i hne]; exact a7 i (by omega)) q2 (fun i h3 h4 h5 => by
    rw [q1 i h5, q1 (par i) (by unfold par; omega)]; exact a10 i h3 (by omega)) (fun i h3 h4 h5 h6 => by unfold par at h5; omega)
  rw [hset_self a2] at g1
  have u1 : (hset h ea (rar 6 cap fe')).1 a = some (.inr (28, [.ref ea, .int (I l.length), .ref cm, .int mc])) := (hset_ne hane).trans a1
  have e4 : pf 28 1 (some a) (.int (I (l.length + 1))) (hset h ea (rar 6 cap fe')) = some (hset (hset h ea (rar 6 cap fe')) a (.inr (28, [.ref ea, .int (I (l.length + 1)), .ref cm, .int mc]))) := pf_at u1 (by simp)
  have hlen : (l ++ [y]).length = l.length + 1 := by simp
  have hne : ∀ b (c : PC), h.1 b = some c → ki c ≠ 28 → ki c ≠ 1006 → (hset (hset h ea (rar 6 cap fe')) a (.inr (28, [.ref ea, .int (I (l.length + 1)), .ref cm, .int mc]))).1 b = some c := fun b c z1 z2 z3 => by
    rw [hset_ne (fun e => by subst e; rw [a1] at z1; cases z1; exact z2 rfl), hset_ne (fun e => by subst e; rw [a2] at z1; cases z1; exact z3 rfl)]; exact z1
  refine ⟨_, ?_, ⟨fe', cm, mc, q', by rw [hlen]; exact hset_at, (hset_ne hane.symm).trans hset_at, hne _ _ a3 ?_ ?_, by omega, a5, a6, fun i hi => g2 i (by omega), fun i hi h3 => ?_, fun i hi => ?_, by rw [hlen]; exact g3, fun z => ?_, a12, a13, a14⟩, ⟨Nat.le_refl _, rfl, fun b hb z1 z2 => ?_, Or.inl rfl, a13⟩, rfl, rfl⟩
  · unfold f_J20_offer_B43 f_J20_siftUp
    rw [rc, Option.bind_some, r2, Option.bind_some, if_neg (by simp), r0, Option.bind_some, Option.bind_some]
    unfold f_J20_siftUpUsingComparator
    rw [g1, Option.bind_some, Option.bind_some, show I l.length + 1 = I (l.length + 1) from I_add _ 1, e4, Option.bind_some]
  · rcases hk with rfl | rfl | rfl | rfl <;> simp [ki]
  · rcases hk with rfl | rfl | rfl | rfl <;> simp [ki]
  · rw [g5 i (by omega)]; exact a8 i (by omega) h3
  · rw [hlen] at hi
    have hp : 0 < cnt q' (l.length + 1) (q' i) := (cnt_pos _).mpr ⟨i, hi, rfl⟩
    rw [g4] at hp
    obtain ⟨j, j1, j2⟩ := (cnt_pos _).mp hp
    have hEL : ELX kd h κ (q' i) ∧ q' i < hn h := by
      by_cases z : j = l.length
      · rw [z, q2] at j2; rw [← j2]; exact ⟨E, hy⟩
      · rw [q1 j z] at j2; rw [← j2]; exact a9 j (by omega)
    obtain ⟨c, e1, e2⟩ := ELX_k hEL.1
    exact ⟨ELX_ne hEL.1 ((hne _ _ e1 (by omega) (by omega)).trans e1.symm), hEL.2⟩
  · rw [hlen, g4, cnt_snoc, count_snoc, a11]
  · rw [hset_ne z1, hset_ne z2]
/-- one more -/
theorem pq_add {y : Nat} (P : PQX kd h κ a ea cap l) (hk : kdOK kd) (hl : l.length < 60) (E : ELX kd h κ y) (hy : y < hn h) : ∃ h' ea' cap', f_J20_add (some a) (some y) h = some (1, h') ∧ PQX kd h' κ a ea' cap' (l ++ [y]) ∧ Fq h h' a ea ea' ∧ hn h' ≤ hn h + 1 ∧ hs h' + 2 * cap ≤ hs h + 2 * cap' := by
  obtain ⟨fe, cm, mc, q, a1, a2, a3, a4, a5, a6, a7, a8, a9, a10, a11, a12, a13, a14⟩ := id P
  have hane : a ≠ ea := fun e => by subst e; rw [a1] at a2; cases a2
  have rc : rcv 28 (some a) h = some () := rcv_at a1
  have r3 : gfi 28 3 (some a) h = some mc := gfi_at a1 rfl
  have e1 : pf 28 3 (some a) (.int (mc + 1)) h = some (hset h a (.inr (28, [.ref ea, .int (I l.length), .ref cm, .int (mc + 1)]))) := pf_at a1 (by simp)
  have hne : ∀ b (c : PC), h.1 b = some c → ki c ≠ 28 → (hset h a (.inr (28, [.ref ea, .int (I l.length), .ref cm, .int (mc + 1)]))).1 b = some c := fun b c z1 z2 => by
    rw [hset_ne (fun e => by subst e; rw [a1] at z1; cases z1; exact z2 rfl)]; exact z1
  have hEL : ∀ e, ELX kd h κ e → ELX kd (hset h a (.inr (28, [.ref ea, .int (I l.length), .ref cm, .int (mc + 1)]))) κ e := fun e E => by
    obtain ⟨c, z1, z2⟩ := ELX_k E
    exact ELX_ne E ((hne _ _ z1 (by omega)).trans z1.symm)
  have P1 : PQX kd (hset h a (.inr (28, [.ref ea, .int (I l.length), .ref cm, .int (mc + 1)]))) κ a ea cap l := ⟨fe, cm, mc + 1, q, hset_at, (hset_ne hane.symm).trans a2, hne _ _ a3 (by rcases hk with rfl | rfl | rfl | rfl <;> simp [ki]), a4, a5, a6, a7, a8, fun i hi => ⟨hEL _ (a9 i hi).1, (a9 i hi).2⟩, a10, a11, a12, a13, a14⟩
  have F1 : Fq h (hset h a (.inr (28, [.ref ea, .int (I l.length), .ref cm, .int (mc + 1)]))) a ea ea := ⟨Nat.le_refl _, rfl, fun b hb z1 z2 => hset_ne z1, Or.inl rfl, a13⟩
  generalize hgg : hset h a (.inr (28, [.ref ea, .int (I l.length), .ref cm, .int (mc + 1)])) = h1 at *
  have hn1 : hn h1 = hn h := by rw [← hgg]; rfl
  have hs1 : hs h1 = hs h := by rw [← hgg]; rfl
  obtain ⟨fe1, cm1, mc1, q', b1, b2, -⟩ := id P1
  have r1 : gfi 28 1 (some a) h1 = some (I l.length) := gfi_at b1 rfl
  have r0 : gfr 28 0 (some a) h1 = some (some ea) := gfr_at (x := some ea) b1 rfl
  have rl : aln 6 (some ea) h1 = some (I cap) := aln_at b2
  have rc1 : rcv 28 (some a) h1 = some () := rcv_at b1
  have g1 : gb 1 = some () := rfl
  by_cases hlt : l.length < cap
  · obtain ⟨h', w1, w2, w3, w4, w5⟩ := pq_offB P1 hk hlt (hEL _ E) (by omega)
    refine ⟨h', ea, cap, ?_, w2, ⟨by omega, w3.2.1.trans F1.2.1, fun b hb z1 z2 => (w3.2.2.1 b (by omega) z1 z2).trans (F1.2.2.1 b hb z1 z2), Or.inl rfl, by omega⟩, by omega, by omega⟩
    unfold f_J20_add f_J20_offer
    rw [rc, Option.bind_some, if_neg (by simp), r3, Option.bind_some, e1, Option.bind_some, r1, Option.bind_some, r0, Option.bind_some, rl, Option.bind_some, if_pos (by rw [I_lt (by omega) (by omega)]; exact hlt), w1, Option.bind_some, g1, Option.bind_some]
  · obtain ⟨h2, v1, v2, v3, v4, v5⟩ := pq_grow P1 hk (by omega) (by omega)
    have E2 : ELX kd h2 κ y := by
      obtain ⟨c, z1, z2⟩ := ELX_k E
      obtain ⟨c', z3, z4⟩ := ELX_k (hEL _ E)
      refine ELX_ne (hEL _ E) (v3.2.2.1 y (by omega) (fun e => ?_) (fun e => ?_))
      · subst e; rw [b1] at z3; cases z3; simp [ki] at z4
      · subst e; rw [b2] at z3; cases z3; simp [ki] at z4
    obtain ⟨h', w1, w2, w3, w4, w5⟩ := pq_offB v2 hk (by omega) E2 (by omega)
    refine ⟨h', hn h1, 2 * cap + 2, ?_, w2, ⟨by omega, w3.2.1.trans (v3.2.1.trans F1.2.1), fun b hb z1 z2 => ?_, Or.inr (by omega), by omega⟩, by omega, by omega⟩
    · unfold f_J20_add f_J20_offer
      rw [rc, Option.bind_some, if_neg (by simp), r3, Option.bind_some, e1, Option.bind_some, r1, Option.bind_some, r0, Option.bind_some, rl, Option.bind_some, if_neg (by rw [I_lt (by omega) (by omega)]; exact hlt), rc1, Option.bind_some, show I l.length + 1 = I (l.length + 1) from I_add _ 1, v1, Option.bind_some, w1, Option.bind_some, g1, Option.bind_some]
    · rw [w3.2.2.1 b (by omega) z1 (by omega), v3.2.2.1 b (by omega) z1 z2, F1.2.2.1 b hb z1 z2]
theorem pq_empty (P : PQX kd h κ a ea cap l) : f_J14_isEmpty (some a) h = some (I (bit (l = [])), h) := by
  obtain ⟨fe, cm, mc, q, a1, a2, a3, a4, a5, a6, -⟩ := P
  have r1 : gfi 28 1 (some a) h = some (I l.length) := gfi_at a1 rfl
  unfold f_J14_isEmpty f_J20_size
  rw [if_neg (by rw [clo_at a1]; simp), if_pos (clo_at a1), r1, Option.bind_some, Option.bind_some]
  cases l with
  | nil => rfl
  | cons x t =>
    rw [if_neg (by show ¬ I (t.length + 1) = (0 : Int32); rw [show (0 : Int32) = I 0 from rfl, I_eq (by simp at a4; omega) (by decide)]; omega)]
    simp [bit]; rfl
theorem pq_rc (P : PQX kd h κ a ea cap l) : rcv 28 (some a) h = some () := by
  obtain ⟨fe, cm, mc, q, a1, -⟩ := P
  exact rcv_at a1
/-- the least is taken -/
theorem pq_poll (P : PQX kd h κ a ea cap l) (hk : kdOK kd) (hl : l ≠ []) : ∃ h' r, f_J20_poll (some a) h = some (some r, h') ∧ r ∈ l ∧ (∀ y, y ∈ l → κ r ≤ κ y) ∧ PQX kd h' κ a ea cap (l.erase r) ∧ Fq h h' a ea ea ∧ hn h' = hn h ∧ hs h' = hs h ∧ ELX kd h κ r ∧ r < hn h := by
  obtain ⟨fe, cm, mc, q, a1, a2, a3, a4, a5, a6, a7, a8, a9, a10, a11, a12, a13, a14⟩ := P
  have hpos : 0 < l.length := List.length_pos_iff.mpr hl
  have hane : a ≠ ea := fun e => by subst e; rw [a1] at a2; cases a2
  have hce : cm ≠ ea := fun e => by subst e; rw [a3] at a2; cases a2
  have hac : cm ≠ a := fun e => by subst e; rw [a3] at a1; rcases hk with rfl | rfl | rfl | rfl <;> cases a1
  have hEQ : ∀ e, ELX kd h κ e → e ≠ ea ∧ e ≠ a := fun e E => by
    obtain ⟨c, e1, e2⟩ := ELX_k E
    exact ⟨fun z => by subst z; rw [a2] at e1; cases e1; simp [ki] at e2, fun z => by subst z; rw [a1] at e1; cases e1; simp [ki] at e2⟩
  have r0 : gfr 28 0 (some a) h = some (some ea) := gfr_at (x := some ea) a1 rfl
  have r3 : gfi 28 3 (some a) h = some mc := gfi_at a1 rfl
  have e0 : alr 6 (some ea) (I 0) h = some (some (q 0)) := by rw [alr_at a2 (by omega) (by omega), a7 0 hpos]
  have e1 : pf 28 3 (some a) (.int (mc + 1)) h = some (hset h a (.inr (28, [.ref ea, .int (I l.length), .ref cm, .int (mc + 1)]))) := pf_at a1 (by simp)
  have r1 : gfi 28 1 (some a) (hset h a (.inr (28, [.ref ea, .int (I l.length), .ref cm, .int (mc + 1)]))) = some (I l.length) := gfi_at hset_at rfl
  have e2 : pf 28 1 (some a) (.int (I (l.length - 1))) (hset h a (.inr (28, [.ref ea, .int (I l.length), .ref cm, .int (mc + 1)]))) = some (hset h a (.inr (28, [.ref ea, .int (I (l.length - 1)), .ref cm, .int (mc + 1)]))) := by
    rw [pf_at hset_at (by simp), hset_hset]; rfl
  generalize hgg : hset h a (.inr (28, [.ref ea, .int (I (l.length - 1)), .ref cm, .int (mc + 1)])) = h1 at *
  have b1 : h1.1 a = some (.inr (28, [.ref ea, .int (I (l.length - 1)), .ref cm, .int (mc + 1)])) := by rw [← hgg]; exact hset_at
  have bo : ∀ b, b ≠ a → h1.1 b = h.1 b := fun b hb => by rw [← hgg]; exact hset_ne hb
  have b2 : h1.1 ea = some (rar 6 cap fe) := (bo _ hane.symm).trans a2
  have b3 : h1.1 cm = some (.inr (kd, [])) := (bo _ hac).trans a3
  have hn1 : hn h1 = hn h := by rw [← hgg]; rfl
  have hs1 : hs h1 = hs h := by rw [← hgg]; rfl
  have hg1 : hg h1 = hg h := by rw [← hgg]; rfl
  have e3 : alr 6 (some ea) (I (l.length - 1)) h1 = some (some (q (l.length - 1))) := by rw [alr_at b2 (by omega) (by omega), a7 _ (by omega)]
  have e4 : asr 6 (some ea) (I (l.length - 1)) none h1 = some (hset h1 ea (rar 6 cap (va_up fe (l.length - 1) none))) := asr_at b2 (by omega) (by omega) rfl
  have c1 : (hset h1 ea (rar 6 cap (va_up fe (l.length - 1) none))).1 a = some (.inr (28, [.ref ea, .int (I (l.length - 1)), .ref cm, .int (mc + 1)])) := (hset_ne hane).trans b1
  have r2 : gfr 28 2 (some a) (hset h1 ea (rar 6 cap (va_up fe (l.length - 1) none))) = some (some cm) := gfr_at (x := some cm) c1 rfl
  have hmem : ∀ y, y ∈ l ↔ ∃ i, i < l.length ∧ q i = y := fun y => by rw [← cnt_pos, a11, List.count_pos_iff]
  have hroot := HP_root a10
  have hr : q 0 ∈ l := (hmem _).mpr ⟨0, hpos, rfl⟩
  have hmin : ∀ y, y ∈ l → κ (q 0) ≤ κ y := fun y hy => by
    obtain ⟨i, i1, i2⟩ := (hmem y).mp hy
    rw [← i2]; exact hroot i i1
  have hlen : (l.erase (q 0)).length = l.length - 1 := List.length_erase_of_mem hr
  have hcnt : ∀ y, (l.erase (q 0)).count y + (if q 0 = y then 1 else 0) = l.count y := fun y => by
    by_cases z : q 0 = y
    · subst z; rw [if_pos rfl, List.count_erase_self]
      have := List.count_pos_iff.mpr hr
      omega
    · rw [if_neg z, List.count_erase_of_ne (Ne.symm z)]; rfl
  have pre : ∀ o, (if I (l.length - 1) ≤ 0 then some (some (q 0), hset h1 ea (rar 6 cap (va_up fe (l.length - 1) none))) else (gfr 28 2 (some a) (hset h1 ea (rar 6 cap (va_up fe (l.length - 1) none)))).bind (fun t9 => if t9 = none then ((f_J20_siftDownComparable 0 (some (q (l.length - 1))) (some ea) (I (l.length - 1)) (hset h1 ea (rar 6 cap (va_up fe (l.length - 1) none)))).bind (fun h10 => some (some (q 0), h10))) else ((f_J20_siftDownUsingComparator 0 (some (q (l.length - 1))) (some ea) (I (l.length - 1)) t9 (hset h1 ea (rar 6 cap (va_up fe (l.length - 1) none)))).bind (fun h11 => some (some (q 0), h11))))) = o → f_J20_poll (some a) h = o := fun o ho => by
    unfold f_J20_poll
    rw [r0, Option.bind_some, show (0 : Int32) = I 0 from rfl, e0, Option.bind_some, if_neg (by simp), r3, Option.bind_some, e1, Option.bind_some, r1, Option.bind_some, show I l.length - 1 = I (l.length - 1) from I_sub (b := 1) (by omega), e2, Option.bind_some, e3, Option.bind_some, e4, Option.bind_some]
    exact ho
  by_cases h1l : l.length = 1
  · refine ⟨_, q 0, pre _ (if_pos (by rw [h1l]; decide)), hr, hmin, ⟨va_up fe (l.length - 1) none, cm, mc + 1, q, by rw [hlen]; exact c1, hset_at, (hset_ne hce).trans b3, by omega, a5, a6, fun i hi => by omega, fun i hi h3 => ?_, fun i hi => by omega, fun i h3 h4 => by omega, fun y => ?_, by show a < hn h1; omega, by show ea < hn h1; omega, by show cm < hn h1; omega⟩, ⟨by show hn h ≤ hn h1; omega, hg1, fun b hb z1 z2 => (hset_ne z2).trans (bo b z1), Or.inl rfl, by show ea < hn h1; omega⟩, hn1, hs1, (a9 0 hpos).1, (a9 0 hpos).2⟩
    · by_cases z : i = l.length - 1
      · subst z; exact va_up_self _ _ _
      · rw [va_up_ne _ _ z]; exact a8 i (by omega) h3
    · have : l.erase (q 0) = [] := List.length_eq_zero_iff.mp (by omega)
      rw [this]; rfl
  · have q1 : ∀ i, i ≠ 0 → nqs q 0 (q (l.length - 1)) i = q i := fun i hi => by unfold nqs; rw [if_neg hi]
    have q2 : nqs q 0 (q (l.length - 1)) 0 = q (l.length - 1) := by unfold nqs; rw [if_pos rfl]
    have hEQ1 : ∀ i, i < l.length → EQ kd h1 κ ea (q i) := fun i hi => ⟨ELX_ne (a9 i hi).1 (bo _ (hEQ _ (a9 i hi).1).2), (hEQ _ (a9 i hi).1).1⟩
    obtain ⟨fe', q', g1, g2, g3, g4, g5⟩ := pq_down (h0 := h1) (κ := κ) (n := l.length - 1) (cap := cap) (x := q (l.length - 1)) hk b3 hce (by omega) (by omega) FU 0 (nqs q 0 (q (l.length - 1))) (va_up fe (l.length - 1) none) (by rw [FU_eq]; omega) (by omega) (fun i hi => by
      by_cases z : i = 0
      · rw [z, q2]; exact hEQ1 _ (by omega)
      · rw [q1 i z]; exact hEQ1 i (by omega)) (fun i hi hne => by rw [q1 i hne, va_up_ne _ _ (by omega)]; exact a7 i (by omega)) q2 (fun i h3 h4 h5 => by
      rw [q1 i (by omega), q1 (par i) h5]; exact a10 i h3 (by omega)) (fun i h3 h4 h5 h6 => by omega)
    have hd : f_J20_siftDownUsingComparator 0 (some (q (l.length - 1))) (some ea) (I (l.length - 1)) (some cm) (hset h1 ea (rar 6 cap (va_up fe (l.length - 1) none))) = some (hset h1 ea (rar 6 cap fe')) := by
      unfold f_J20_siftDownUsingComparator
      rw [I_half (by omega)]
      exact g1
    have hcq : ∀ y, cnt q' (l.length - 1) y + (if q 0 = y then 1 else 0) = l.count y := fun y => by
      rw [g4, ← a11]
      have h5 := cnt_set (q := q) (n := l.length - 1) (i := 0) (x := q (l.length - 1)) (y := y) (by omega)
      have h6 : cnt q l.length y = cnt q (l.length - 1) y + (if q (l.length - 1) = y then 1 else 0) := by
        have : cnt q (l.length - 1 + 1) y = cnt q (l.length - 1) y + (if q (l.length - 1) = y then 1 else 0) := rfl
        rw [show l.length - 1 + 1 = l.length by omega] at this; exact this
      omega
    refine ⟨_, q 0, pre _ ?_, hr, hmin, ⟨fe', cm, mc + 1, q', by rw [hlen]; exact (hset_ne hane).trans b1, hset_at, (hset_ne hce).trans b3, by omega, a5, a6, fun i hi => g2 i (by omega), fun i hi h3 => ?_, fun i hi => ?_, by rw [hlen]; exact g3, fun y => ?_, by show a < hn h1; omega, by show ea < hn h1; omega, by show cm < hn h1; omega⟩, ⟨by show hn h ≤ hn h1; omega, hg1, fun b hb z1 z2 => (hset_ne z2).trans (bo b z1), Or.inl rfl, by show ea < hn h1; omega⟩, hn1, hs1, (a9 0 hpos).1, (a9 0 hpos).2⟩
    · rw [if_neg (by rw [show (0 : Int32) = I 0 from rfl, I_le (by omega) (by decide)]; omega), r2, Option.bind_some, if_neg (by simp), hd, Option.bind_some]
    · rw [g5 i (by omega)]
      by_cases z : i = l.length - 1
      · subst z; exact va_up_self _ _ _
      · rw [va_up_ne _ _ z]; exact a8 i (by omega) h3
    · rw [hlen] at hi
      have hp : 0 < cnt q' (l.length - 1) (q' i) := (cnt_pos _).mpr ⟨i, hi, rfl⟩
      have := hcq (q' i)
      have hm : q' i ∈ l := List.count_pos_iff.mp (by omega)
      obtain ⟨j, j1, j2⟩ := (hmem _).mp hm
      have hE := hEQ1 j j1
      rw [j2] at hE
      refine ⟨ELX_ne hE.1 (hset_ne hE.2), ?_⟩
      have := (a9 j j1).2
      rw [j2] at this
      show q' i < hn h1; omega
    · have h5 := hcq y
      have h6 := hcnt y
      rw [hlen]; omega
end PQ9w
