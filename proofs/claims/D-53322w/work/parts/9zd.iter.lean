/-! PLAIN LAW: the class: a run read -/
set_option maxRecDepth 100000
/-- an iterator on its way -/
def itc (a : Nat) (mc : Int32) (i : Nat) : PC := .inr (30, [.int (I i), .int (if i = 0 then -1 else I (i - 1)), .int mc, .ref a])
section IT9zd
variable {h : PH} {a ea cap : Nat} {l : List Nat}
theorem al_iter (A : ALX h a ea cap l) : ∃ (mc : Int32) (h1 : PH), f_J24_iterator (some a) h = some (some (hn h), h1) ∧ h1 = hset h1 (hn h) (itc a mc 0) ∧ Old h h1 ∧ hn h1 = hn h + 1 ∧ hs h1 = hs h + 4 ∧ gfi 29 0 (some a) h = some mc := by
  obtain ⟨fe, mc, a1, a2, a3, a4, a5, a6, a7, a8⟩ := A
  have r0 : ∀ l, gfi 29 0 (some a) (ov h l) = some mc := fun l => by rw [ov_gfi_o a7]; exact gfi_at a1 rfl
  have O : Old h (ov h [(itc a mc 0, 4)]) := Old.ov
  refine ⟨mc, ov h [(itc a mc 0, 4)], ?_, (hset_self (ov_at (i := 0) (n := 4) rfl)).symm, O, rfl, rfl, gfi_at a1 rfl⟩
  have e0 : f_J24_iterator (some a) h = f_J24_iterator (some a) (ov h []) := by rw [ov_nil]
  rw [e0]
  unfold f_J24_iterator f_J25_init
  simp (disch := first | omega | assumption) only [ov_nwO, ov_nwi, ov_nwr, ov_pfC, ovpf, ov_gfiC, ov_gfrC, ov_rcvC, ovob, List.length_cons, List.length_nil, Nat.reduceAdd, Nat.zero_add, List.nil_append, List.cons_append, List.getElem?_cons_zero, List.getElem?_cons_succ, List.getElem?_nil, List.set_cons_zero, List.set_cons_succ, Option.bind_some, Option.map_some, lit_I, va_rf, vI, vR, true_and, Nat.reduceLT, Nat.reduceLeDiff, Nat.reduceEqDiff, if_true, if_false, nn, ov_ov, ov_asiC, ovasi, inb_I, I_clamp, r0]
  rfl
theorem al_next {it i y : Nat} {mc : Int32} (A : ALX h a ea cap l) (hm : gfi 29 0 (some a) h = some mc) (hit : it ≠ a) (hie : 0 < cap → it ≠ ea) :
    (i < l.length → f_J25_hasNext (some it) (hset h it (itc a mc i)) = some (I 1, hset h it (itc a mc i))) ∧ (i = l.length → f_J25_hasNext (some it) (hset h it (itc a mc i)) = some (I 0, hset h it (itc a mc i))) ∧ (l[i]? = some y → f_J25_next (some it) (hset h it (itc a mc i)) = some (some y, hset h it (itc a mc (i + 1)))) := by
  obtain ⟨fe, mc', a1, a2, a3, a4, a5, a6, a7, a8⟩ := A
  have hmc : mc' = mc := by
    have : gfi 29 0 (some a) h = some mc' := gfi_at a1 rfl
    rw [hm] at this; cases this; rfl
  subst hmc
  have u1 : (hset h it (itc a mc' i)).1 it = some (itc a mc' i) := hset_at
  have u2 : (hset h it (itc a mc' i)).1 a = some (.inr (29, [.int mc', .ref ea, .int (I l.length)])) := (hset_ne (Ne.symm hit)).trans a1
  have r0 : gfi 30 0 (some it) (hset h it (itc a mc' i)) = some (I i) := gfi_at u1 rfl
  have r2 : gfi 30 2 (some it) (hset h it (itc a mc' i)) = some mc' := gfi_at u1 rfl
  have r3 : gfr 30 3 (some it) (hset h it (itc a mc' i)) = some (some a) := gfr_at (x := some a) u1 rfl
  have rc : rcv 30 (some it) (hset h it (itc a mc' i)) = some () := rcv_at u1
  have s0 : gfi 29 0 (some a) (hset h it (itc a mc' i)) = some mc' := gfi_at u2 rfl
  have s1 : gfr 29 1 (some a) (hset h it (itc a mc' i)) = some (some ea) := gfr_at (x := some ea) u2 rfl
  have s2 : gfi 29 2 (some a) (hset h it (itc a mc' i)) = some (I l.length) := gfi_at u2 rfl
  refine ⟨fun hi => ?_, fun hi => ?_, fun hy => ?_⟩
  · unfold f_J25_hasNext
    rw [r0, Option.bind_some, r3, Option.bind_some, s2, Option.bind_some, if_neg (by rw [I_eq (by omega) (by omega)]; omega)]; rfl
  · unfold f_J25_hasNext
    rw [r0, Option.bind_some, r3, Option.bind_some, s2, Option.bind_some, if_pos (by rw [hi])]; rfl
  · have hi : i < l.length := (List.getElem?_eq_some_iff.mp hy).1
    have e1 : pf 30 0 (some it) (.int (I (i + 1))) (hset h it (itc a mc' i)) = some (hset h it (.inr (30, [.int (I (i + 1)), .int (if i = 0 then -1 else I (i - 1)), .int mc', .ref a]))) := by
      rw [pf_at u1 (by simp), hset_hset]; rfl
    have e2 : pf 30 1 (some it) (.int (I i)) (hset h it (.inr (30, [.int (I (i + 1)), .int (if i = 0 then -1 else I (i - 1)), .int mc', .ref a]))) = some (hset h it (itc a mc' (i + 1))) := by
      rw [pf_at hset_at (by simp), hset_hset]
      have e : (if i + 1 = 0 then (-1 : Int32) else I (i + 1 - 1)) = I i := by rw [if_neg (by omega)]; rfl
      unfold itc
      rw [e]; rfl
    rcases a2 with ⟨q1, q2⟩ | ⟨q1, q2⟩
    · omega
    · have w : ∀ c, (hset h it c).1 ea = some (rar 6 cap fe) := fun c => (hset_ne (Ne.symm (hie (by omega)))).trans q2
      have e3 : aln 6 (some ea) (hset h it (itc a mc' i)) = some (I cap) := aln_at (w _)
      have e4 : alr 6 (some ea) (I i) (hset h it (itc a mc' (i + 1))) = some (some y) := by rw [alr_at (w _) (by omega) (by omega), a5 i y hy]
      have e5 : f_J25_checkForComodification (some it) (hset h it (itc a mc' i)) = some (hset h it (itc a mc' i)) := by
        unfold f_J25_checkForComodification
        rw [r3, Option.bind_some, s0, Option.bind_some, r2, Option.bind_some, if_pos rfl]
      unfold f_J25_next
      rw [rc, Option.bind_some, e5, Option.bind_some, r0, Option.bind_some, r3, Option.bind_some, s2, Option.bind_some, if_pos (by rw [I_lt (by omega) (by omega)]; exact hi), Option.bind_some, s1, Option.bind_some, e3, Option.bind_some, if_pos (by rw [I_lt (by omega) (by omega)]; omega), show I i + 1 = I (i + 1) from I_add _ 1, e1, Option.bind_some, e2, Option.bind_some, e4, Option.bind_some]
end IT9zd
section RUN9zd
variable {h0 h : PH} {m n r x a1 e1 c1 a2 e2 c2 b p : Nat} {w : Nat → Nat} {S : List SP4} {R : List (Nat × Nat)} {g : GS} {sh pb co mm v ra : Nat} {ms ru : Nat → Nat}
/-- a step of the list -/
theorem RunP.get (P : RunP h0 h n r x a1 e1 c1 a2 e2 c2 b p w S R) {i : Nat} {t : SP4} (ht : S[i]? = some t) : ∃ y z, f_J24_get (some a1) (I i) h = some (some y, h) ∧ y < hn h ∧ h.1 y = some (.inr (22, [.ref z])) ∧ z < hn h ∧ h.1 z = some (nar 0 4 (stp4 (qS t))) := by
  obtain ⟨l1, l2, κ, fw, q1, ⟨q2, q3, q4⟩, -⟩ := P
  have hi : i < S.length := (List.getElem?_eq_some_iff.mp ht).1
  have hy : l1[i]? = some (l1[i]'(by omega)) := List.getElem?_eq_getElem (by omega)
  obtain ⟨z, z1, z2, z3, z4⟩ := q4 i _ t hy ht
  obtain ⟨fe, mc, a1, a2, a3, a4, a5, a6, a7⟩ := id q2
  exact ⟨_, z, al_get q2 hy, (a6 _ (List.mem_of_getElem? hy)).1, z3, z1, z4⟩
theorem x25_rule {y z : Nat} {t : SP4} (hy : h.1 y = some (.inr (22, [.ref z]))) (hz : h.1 z = some (nar 0 4 (stp4 (qS t)))) : f_X25_rule (some y) h = some (I t.1, h) ∧ chk 22 (some y) h = some () ∧ rcv 22 (some y) h = some () := by
  have r0 : gfr 22 0 (some y) h = some (some z) := gfr_at (x := some z) hy rfl
  have e0 : ald 0 (some z) (I 0) h = some (I t.1) := by rw [ald_at hz (by decide) (by decide)]; rfl
  refine ⟨?_, ?_, rcv_at hy⟩
  · unfold f_X25_rule
    rw [r0, Option.bind_some, show (0 : Int32) = I 0 from rfl, e0, Option.bind_some]
  · unfold chk; rw [if_pos (Or.inr (clo_at hy))]
/-- a fold over the steps by an iterator: what a look at a step is -/
theorem run_stepsBy {rr : Nat} (P : RunP h0 h n r x a1 e1 c1 a2 e2 c2 b p w S R) (hrr : rr < 5) (hS : ∀ t, t ∈ S → t.1 < 5) : ∃ h', f_X22_stepsBy (some r) (I rr) h = some (I (ctR rr S S.length), h') ∧ Fr h h' ∧ hn h' = hn h + 1 ∧ hs h' = hs h + 4 := by
  obtain ⟨p1, p2, p3, p4, p5, F0⟩ := P.rd
  obtain ⟨l1, l2, κ, fw, q1, ⟨q2, q3, q4⟩, -⟩ := id P
  obtain ⟨mc, h1, i1, i2, O1, n1, s1, hm⟩ := al_iter q2
  have A1 := q2.frF O1.fr
  have hm1 : gfi 29 0 (some a1) h1 = some mc := by
    obtain ⟨fe, mc', b1, b2, b3, b4, b5, b6, b7, b8⟩ := id q2
    have e1 : gfi 29 0 (some a1) h = some mc' := gfi_at b1 rfl
    rw [hm] at e1; cases e1
    exact gfi_at ((O1.2.2 _ b7).trans b1) rfl
  obtain ⟨fe, mc', b1, b2, b3, b4, b5, b6, b7, b8⟩ := id q2
  have hia : hn h ≠ a1 := by omega
  have hie : 0 < c1 → hn h ≠ e1 := fun hc => by have := b8 hc; omega
  have nx := fun i y => al_next (i := i) (y := y) A1 hm1 hia hie
  refine ⟨hset h1 (hn h) (itc a1 mc S.length), ?_, O1.fr.set (Nat.le_refl _), n1, s1⟩
  · unfold f_X22_stepsBy
    rw [p2, Option.bind_some, al_rc q2, Option.bind_some, i1, Option.bind_some]
    have e9 : f_X22_stepsBy_L12 FU (I rr) 0 (some (hn h)) h1 = f_X22_stepsBy_L12 FU (I rr) 0 (some (hn h)) (hset h1 (hn h) (itc a1 mc 0)) := congrArg _ i2
    show f_X22_stepsBy_L12 FU (I rr) 0 (some (hn h)) h1 = _
    rw [e9]
    refine loop_FU (fun k (q : Nat × Nat) => f_X22_stepsBy_L12 k (I rr) (I q.1) (some (hn h)) (hset h1 (hn h) (itc a1 mc q.2))) (fun i => (ctR rr S i, i)) S.length _ (by have := b4; omega) (fun k i hi => ?_) (fun k => ?_)
    · have hy : l1[i]? = some (l1[i]'(by omega)) := List.getElem?_eq_getElem (by omega)
      have ht : S[i]? = some (S[i]'hi) := List.getElem?_eq_getElem hi
      obtain ⟨n1', -, n3⟩ := nx i (l1[i]'(by omega))
      obtain ⟨z, z1, z2, z3, z4⟩ := q4 i _ _ hy ht
      have hyl := (b6 _ (List.mem_of_getElem? hy)).1
      have o1 : ∀ c a, a < hn h → (hset h1 (hn h) c).1 a = h.1 a := fun c a ha => (hset_ne (by omega)).trans (O1.2.2 a ha)
      obtain ⟨x1, x2, x3⟩ := x25_rule (h := hset h1 (hn h) (itc a1 mc (i + 1))) ((o1 _ _ hyl).trans z3) ((o1 _ _ z1).trans z4)
      have rc : rcv 30 (some (hn h)) (hset h1 (hn h) (itc a1 mc i)) = some () := rcv_at hset_at
      show f_X22_stepsBy_L12 (k + 1) _ (I _) _ (hset h1 (hn h) (itc a1 mc i)) = f_X22_stepsBy_L12 k _ (I (ctR rr S i + (match S[i]? with | some t => if t.1 = rr then 1 else 0 | none => 0))) _ (hset h1 (hn h) (itc a1 mc (i + 1)))
      have h5 := hS _ (List.mem_of_getElem? ht)
      rw [f_X22_stepsBy_L12, rc, Option.bind_some, n1' (by omega), Option.bind_some, if_neg (show ¬ I 1 = 0 by decide), rc, Option.bind_some, n3 hy, Option.bind_some, x2, Option.bind_some, x3, Option.bind_some, x1, Option.bind_some, ht]
      by_cases e : (S[i]'hi).1 = rr
      · rw [if_pos (by rw [e])]
        simp only [e, if_true]
        rw [show (1 : Int32) = I 1 from rfl, I_add]
      · rw [if_neg (by rw [I_eq (by omega) (by omega)]; exact e)]
        simp only [e, if_false]
        rw [show (0 : Int32) = I 0 from rfl, I_add]
    · obtain ⟨-, n2, -⟩ := nx S.length 0
      have rc : rcv 30 (some (hn h)) (hset h1 (hn h) (itc a1 mc S.length)) = some () := rcv_at hset_at
      show f_X22_stepsBy_L12 (k + 1) _ (I _) _ (hset h1 (hn h) (itc a1 mc S.length)) = _
      rw [f_X22_stepsBy_L12, rc, Option.bind_some, n2 (by omega), Option.bind_some, if_pos (show I 0 = 0 from rfl)]
end RUN9zd
