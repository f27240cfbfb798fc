/-! PLAIN LAW: the class: looks: block -/
set_option maxRecDepth 100000
theorem loop_fold {α β γ : Type} (L : Nat → γ → Option β) (st : α → Nat → γ) (l : List Nat) (F : α → Nat → α) (a : α) (res : Option β) (hl : l.length < 1000000) (hs : ∀ k i x acc, l[i]? = some x → acc = (l.take i).foldl F a → L (k + 1) (st acc i) = L k (st (F acc x) (i + 1))) (he : ∀ k, L (k + 1) (st (l.foldl F a) l.length) = res) : L FU (st a 0) = res := by
  refine loop_FU L (fun i => st ((l.take i).foldl F a) i) l.length res hl (fun k i hi => ?_) (fun k => ?_)
  · have hx : l[i]? = some (l[i]'hi) := List.getElem?_eq_getElem hi
    rw [hs k i _ _ hx rfl]
    have e : l.take (i + 1) = l.take i ++ [l[i]'hi] := by rw [List.take_add_one, hx]; rfl
    show L k (st _ (i + 1)) = L k (st ((l.take (i + 1)).foldl F a) (i + 1))
    rw [e, List.foldl_append]; rfl
  · show L (k + 1) (st ((l.take l.length).foldl F a) l.length) = res
    rw [List.take_length]; exact he k
/-- all that touches -/
def touC (s : Nat → Nat) (c : Nat) : Nat → Nat := orTo (fun d => if adjb (s 1) c d = true then 1 <<< s (8 + d) else 0)
theorem andn_orl (x y z : Nat) : andn (x ||| y) z = andn x z ||| andn y z := by
  apply Nat.eq_of_testBit_eq; intro k
  simp only [andn_tb, Nat.testBit_or]
  cases x.testBit k <;> cases y.testBit k <;> cases z.testBit k <;> rfl
theorem andn_sh (a b : Nat) : andn (1 <<< a) (1 <<< b) = if a = b then 0 else 1 <<< a := by
  apply Nat.eq_of_testBit_eq; intro k
  rw [andn_tb, sh1_tb, sh1_tb]
  split
  · rename_i e; subst e; simp
  · rename_i e
    rw [sh1_tb]
    by_cases h : k = a
    · subst h; simp [e]
    · simp [h]
theorem andn0 (b : Nat) : andn 0 b = 0 := by unfold andn; simp
theorem touC_brd {s : Nat → Nat} {b c : Nat} : ∀ n, andn (touC s c n) (1 <<< b) = brdC s b c n := by
  intro n
  induction n with
  | zero => exact andn0 _
  | succ n ih =>
    have e1 : touC s c (n + 1) = touC s c n ||| (if adjb (s 1) c n = true then 1 <<< s (8 + n) else 0) := rfl
    have e2 : brdC s b c (n + 1) = brdC s b c n ||| (if adjb (s 1) c n = true ∧ ¬ s (8 + n) = b then 1 <<< s (8 + n) else 0) := rfl
    rw [e1, e2, andn_orl, ih]
    congr 1
    by_cases h1 : adjb (s 1) c n = true
    · rw [if_pos h1, andn_sh]
      by_cases h2 : s (8 + n) = b
      · rw [if_pos h2, if_neg (fun q => q.2 h2)]
      · rw [if_neg h2, if_pos ⟨h1, h2⟩]
    · rw [if_neg h1, if_neg (fun q => h1 q.1), andn0]
theorem tou_brd {s : Nat → Nat} {b N : Nat} : ∀ n, andn (foldC (fun c => s (8 + c) == b) (fun a c => a ||| touC s c (nc s)) 0 n) (1 <<< b) = brdS s b n := by
  intro n
  induction n with
  | zero => exact andn0 _
  | succ n ih =>
    have e2 : brdS s b (n + 1) = brdS s b n ||| (if s (8 + n) = b then brdC s b n (nc s) else 0) := rfl
    rw [e2]
    show andn (if (s (8 + n) == b) = true then _ else _) _ = _
    by_cases h1 : s (8 + n) = b
    · rw [if_pos (by simpa using h1), if_pos h1, andn_orl, ih, touC_brd]
    · rw [if_neg (by simpa using h1), if_neg h1, ih, Nat.or_zero]
section OP9o
variable {m x : Nat} {h : PH} {g : GS}
theorem touC_or {s : Nat → Nat} {c a : Nat} : ∀ n, a ||| touC s c n = orTo (fun d => if adjb (s 1) c d = true then 1 <<< s (8 + d) else 0) n ||| a := fun n => Nat.or_comm _ _
theorem c_b35 {r : Option Nat → Int32 → Int32 → Option Nat → Int32 → Int32 → PH → Option (Int32 × PH)} {p mm c a : Nat} {x1 x4 x5 : Int32} {x3 : Option Nat} {ms : Nat → Nat} (r0 : rcv 0 (some x) h = some ()) (hpage : f_X0_page (some x) h = some (some p, h)) (H : PgR h p mm ms g.1) (hP : PG' g.1) (hN : Nrm g.1) (hc : c < nc g.1) : f_X0_beside_L35 r FU (some x) x1 (I a) x3 x4 x5 (I c) (I 0) h = r (some x) x1 (I (a ||| touC g.1 c (nc g.1))) x3 x4 (x5 + I 1) h := by
  have hnc := nc_le hP
  have key := loop_FU (fun k (q : Nat × Nat) => f_X0_beside_L35 r k (some x) x1 (I q.1) x3 x4 x5 (I c) (I q.2) h) (fun k => (a ||| touC g.1 c k, k)) (nc g.1) (r (some x) x1 (I (a ||| touC g.1 c (nc g.1))) x3 x4 (x5 + I 1) h) (by omega) (fun k j hj => ?_) (fun k => ?_)
  · have e : a ||| touC g.1 c 0 = a := Nat.or_zero a
    simp only [e] at key
    exact key
  · have ha := cp_adj H hP hc hj
    have hb := H.b hj
    have hbl := Nrm_lt hP hN hj
    show f_X0_beside_L35 r (k + 1) _ _ (I _) _ _ _ _ (I _) h = f_X0_beside_L35 r k _ _ (I (a ||| (touC g.1 c j ||| (if adjb (g.1 1) c j = true then 1 <<< g.1 (8 + j) else 0)))) _ _ _ _ (I (j + 1)) h
    cases hadj : adjb (g.1 1) c j with
    | false =>
      rw [hadj] at ha
      simp (disch := first | omega | assumption) only [f_X0_beside_L35, r0, hpage, H.rc, cp_cells H, ha, Option.bind_some, lit_I, I_le, if_neg, Bool.false_eq_true, bit_F', if_true, if_false, I_add, I_or, Nat.or_assoc]
    | true =>
      rw [hadj] at ha
      simp (disch := first | omega | assumption) only [f_X0_beside_L35, r0, hpage, H.rc, H.r2, hb, cp_cells H, ha, Option.bind_some, lit_I, I_le, if_neg, bit_T, I_10, if_true, if_false, I_add, I_or, Nat.or_assoc, I_shlI]
  · show f_X0_beside_L35 r (k + 1) _ _ (I _) _ _ _ _ (I _) h = _
    simp (disch := first | omega | assumption) only [f_X0_beside_L35, r0, hpage, H.rc, cp_cells H, Option.bind_some, lit_I, I_le, if_pos]
theorem c_beside {p mm b : Nat} {ms : Nat → Nat} (r0 : rcv 0 (some x) h = some ()) (hpage : f_X0_page (some x) h = some (some p, h)) (H : PgR h p mm ms g.1) (hP : PG' g.1) (hN : Nrm g.1) (hb : b < rkTo g.1 (nc g.1)) : f_X0_beside (some x) (I b) h = some (I (brdS g.1 b (nc g.1)), h) := by
  have hnc := nc_le hP
  have hbz := bsz_le25 hP b
  have hrk := rkTo_le g.1 (nc g.1)
  have hl := bl_len g.1 b
  unfold f_X0_beside
  simp only [r0, hpage, H.r6, H.mr hb, H.bl hb, Option.bind_some]
  have key := loop_fold (fun k (q : Nat × Nat) => f_X0_beside_L19 k (some x) (I b) (I q.1) (some (ms b)) (I (bsz g.1 b)) (I q.2) h) (fun (a : Nat) i => (a, i)) (bl g.1 b) (fun a c => a ||| touC g.1 c (nc g.1)) 0 (some (I (brdS g.1 b (nc g.1)), h)) (by omega) (fun k i c acc hx _ => ?_) (fun k => ?_)
  · exact key
  · have hi : i < bsz g.1 b := by
      have := List.getElem?_eq_some_iff.mp hx
      obtain ⟨q, -⟩ := this; omega
    have hc : c < nc g.1 := (bl_mem.mp (List.mem_of_getElem? hx)).1
    have he := H.be hb hx
    have h35 := c_b35 (r := f_X0_beside_L19 k) (x1 := I b) (a := acc) (x3 := some (ms b)) (x4 := I (bsz g.1 b)) (x5 := I i) r0 hpage H hP hN hc
    show f_X0_beside_L19 (k + 1) _ _ (I _) _ _ (I _) h = f_X0_beside_L19 k _ _ (I (acc ||| _)) _ _ (I (i + 1)) h
    simp (disch := first | omega | assumption) only [f_X0_beside_L19, he, h35, Option.bind_some, lit_I, I_le, if_neg, I_add]
  · show f_X0_beside_L19 (k + 1) _ _ (I _) _ _ (I _) h = _
    rw [fold_bl, ← tou_brd (N := 0)]
    simp (disch := first | omega | assumption) only [f_X0_beside_L19, hl, Option.bind_some, I_le, if_pos]
    rw [show (1 : Int32) <<< (I b &&& 31) = I (1 <<< b) from I_shl (a := 1) (by omega), I_andn]
/-- a block has a first cell -/
theorem bl_first {s : Nat → Nat} {b : Nat} (hN : Nrm s) : b < rkTo s (nc s) → ∃ c, c < nc s ∧ s (8 + c) = b := by
  have key : ∀ n, n ≤ nc s → b < rkTo s n → ∃ c, c < n ∧ s (8 + c) = b := by
    intro n
    induction n with
    | zero => intro _ h; exact absurd h (Nat.not_lt_zero _)
    | succ n ih =>
      intro hn hb
      have e : rkTo s (n + 1) = rkTo s n + bit (isF s n = true) := rfl
      by_cases h1 : b < rkTo s n
      · obtain ⟨c, h2, h3⟩ := ih (by omega) h1
        exact ⟨c, by omega, h3⟩
      · by_cases hf : isF s n = true
        · rw [bit_t hf] at e
          refine ⟨n, by omega, ?_⟩
          rw [hN n (by omega)]
          unfold rk
          have : fst s n = n := by simpa [isF] using hf
          rw [this]; omega
        · rw [bit_f hf] at e; omega
  exact key _ (Nat.le_refl _)
def blF (s : Nat → Nat) (q : Nat × Nat) (c : Nat) : Nat × Nat := (q.1 + s (58 + c), q.2 + (if pc (s (93 + c)) = 1 then 1 else 0))
theorem blF_fold {s : Nat → Nat} {b : Nat} : ∀ n, foldC (fun c => s (8 + c) == b) (blF s) (0, 0) n = (sumTo (fun c => if s (8 + c) = b then s (58 + c) else 0) n, sumTo (fun c => if s (8 + c) = b ∧ pc (s (93 + c)) = 1 then 1 else 0) n) := by
  intro n
  induction n with
  | zero => rfl
  | succ n ih =>
    show (if (s (8 + n) == b) = true then _ else _) = _
    simp only [sumTo]
    by_cases h1 : s (8 + n) = b
    · rw [if_pos (by simpa using h1), ih, if_pos h1]
      unfold blF
      by_cases h2 : pc (s (93 + n)) = 1
      · rw [if_pos h2, if_pos ⟨h1, h2⟩]
      · rw [if_neg h2, if_neg (fun q => h2 q.2)]
    · rw [if_neg (by simpa using h1), ih, if_neg h1, if_neg (fun q => h1 q.1)]
      rfl
theorem find_true : ∀ (l : List Nat) (h : 0 < l.length), l.find? (fun _ => true) = some (l[0]'h)
  | [], h => absurd h (by simp)
  | a :: t, _ => by simp
theorem c_block {y z : Int32} (C : CI m h x g) (hI : RInv g.1) (hS : SB g.1) : Res m x h (r_block g y z, g) (f_X0_block (some x) y z h) := by
  have hQ := hI.1.1
  have hN := hI.1.2.1
  have hP := hQ.1
  have hnc := nc_le hP
  obtain ⟨sh, p, b', co, mm, ms, r0, hpage, hbd, hsh, HB, B, r8, r9, r10, r11⟩ := C.lk hP
  have H := HB.1
  have hbl := cp_blocks H
  have hrk := rkTo_le g.1 (nc g.1)
  have hnb := nblk_rk hP hN
  have hnb1 : 1 ≤ nblk g.1 := by unfold nblk; omega
  rw [← hnb] at hbl
  refine Res.see C ?_
  unfold r_block
  cases h1 : bt y 0 (nblk g.1 - 1) with
  | false =>
    simp only [Bool.false_and, Bool.false_eq_true, if_false]
    simp (disch := first | omega | assumption) only [f_X0_block, r0, hpage, H.rc, hbl, I_sub, betZ, h1, Option.bind_some, lit_I, Bool.false_eq_true, bit_F', if_true]
  | true =>
    obtain ⟨e1, -, e3⟩ := bt_na (by decide) (by omega) h1
    cases h2 : bt z 0 4 with
    | false =>
      simp only [Bool.and_false, Bool.false_eq_true, if_false]
      simp (disch := first | omega | assumption) only [f_X0_block, r0, hpage, H.rc, hbl, I_sub, betZ, h1, h2, Option.bind_some, lit_I, bit_T, I_10, if_false, Bool.false_eq_true, bit_F', if_true]
    | true =>
      obtain ⟨e4, -, e5⟩ := bt_na (by decide) (by decide) h2
      generalize na y = b at *
      generalize na z = k at *
      subst e1 e4
      have hb : b < rkTo g.1 (nc g.1) := by omega
      have hbs := c_beside r0 hpage H hP hN hb
      have hbit := cl_bitCountL (a := brdS g.1 b (nc g.1)) (h := h) (by have := brdS_lt (b := b) (n := nc g.1) hP hN; omega)
      have hbz := bsz_le25 hP b
      have hl := bl_len g.1 b
      simp only [Bool.and_self, if_true]
      simp (disch := first | omega | assumption) only [f_X0_block, r0, hpage, H.rc, hbl, I_sub, betZ, h1, h2, Option.bind_some, lit_I, bit_T, I_10, if_false, H.r6, H.mr hb, H.bl hb]
      have key := loop_fold (fun n (q : (Nat × Nat) × Nat) => f_X0_block_L55 n (some x) (I b) (I k) (some (ms b)) (I q.1.1) (I q.1.2) (some (ms b)) (I (bsz g.1 b)) (I q.2) h) (fun (a : Nat × Nat) i => (a, i)) (bl g.1 b) (blF g.1) (0, 0) (some ((if k = 4 then I (pc (brdS g.1 b (nc g.1))) else if k = 0 then I (bsz g.1 b) else if k = 1 then cz (firstI (fun c => g.1 (8 + c) == b) (nc g.1)) else if k = 2 then I (sumTo (fun c => if g.1 (8 + c) = b then g.1 (58 + c) else 0) (nc g.1)) else I (sumTo (fun c => if g.1 (8 + c) = b ∧ pc (g.1 (93 + c)) = 1 then 1 else 0) (nc g.1))), h)) (by omega) (fun n i c acc hx _ => ?_) (fun n => ?_)
      · exact key
      · have hi : i < bsz g.1 b := by
          have := List.getElem?_eq_some_iff.mp hx
          obtain ⟨q, -⟩ := this; omega
        have hc : c < nc g.1 := (bl_mem.mp (List.mem_of_getElem? hx)).1
        have he := H.be hb hx
        have hg := H.g hc
        have hg1 := (hQ.2.2.1 c hc).2.2.1
        have hps := cb_possible B hI.1.W7 hc
        have hpl := pc_le (bd g.1 c)
        have e6 : bd g.1 c = g.1 (93 + c) := rfl
        rw [e6] at hps hpl
        show f_X0_block_L55 (n + 1) _ _ _ _ (I acc.1) (I acc.2) _ _ (I i) h = f_X0_block_L55 n _ _ _ _ (I (acc.1 + g.1 (58 + c))) (I (acc.2 + (if pc (g.1 (93 + c)) = 1 then 1 else 0))) _ _ (I (i + 1)) h
        have hc01 : g.1 (58 + c) = 0 ∨ g.1 (58 + c) = 1 := by omega
        by_cases h7 : pc (g.1 (93 + c)) = 1
        · rw [if_pos h7]
          rw [h7] at hps
          rcases hc01 with e | e <;> rw [e] at hg ⊢ <;>
          simp (disch := first | omega | assumption) only [f_X0_block_L55, f_X0_block_B89, he, r0, hpage, H.r4, hg, hbd, B.rc, hps, Option.bind_some, lit_I, I_le, if_neg, I_add, I_10, if_true, if_false]
        · rw [if_neg h7]
          have h7' : ¬ I (pc (g.1 (93 + c))) = I 1 := by rw [I_eq (by omega) (by decide)]; exact h7
          rcases hc01 with e | e <;> rw [e] at hg ⊢ <;>
          simp (disch := first | omega | assumption) only [f_X0_block_L55, f_X0_block_B89, he, r0, hpage, H.r4, hg, hbd, B.rc, hps, h7', Option.bind_some, lit_I, I_le, if_neg, I_add, I_10, if_true, if_false]
      · rw [fold_bl, blF_fold]
        show f_X0_block_L55 (n + 1) _ _ _ _ (I _) (I _) _ _ (I _) h = _
        have hk : k = 0 ∨ k = 1 ∨ k = 2 ∨ k = 3 ∨ k = 4 := by omega
        rcases hk with e | e | e | e | e
        · subst e
          simp (disch := first | omega | assumption) only [f_X0_block_L55, hl, H.bl hb, Option.bind_some, lit_I, I_le, if_pos, I_ne, eq_self, if_true, if_false]
          all_goals rfl
        · subst e
          obtain ⟨c0, q1, q2⟩ := bl_first hN hb
          have hbp : 0 < (bl g.1 b).length := List.length_pos_of_mem (bl_mem.mpr ⟨q1, q2⟩)
          have h0 : (bl g.1 b)[0]? = some ((bl g.1 b)[0]'hbp) := List.getElem?_eq_getElem hbp
          have he := H.be hb h0
          have hfd : firstI (fun c => g.1 (8 + c) == b) (nc g.1) = some ((bl g.1 b)[0]'hbp) := by
            have e := find_bl (s := g.1) (b := b) (P := fun _ => true)
            simp only [Bool.and_true] at e
            rw [← e]
            exact find_true _ hbp
          rw [hfd]
          simp (disch := first | omega | assumption) only [f_X0_block_L55, hl, he, Option.bind_some, lit_I, I_le, if_pos, I_ne, eq_self, if_true, if_false]
          all_goals rfl
        · subst e
          simp (disch := first | omega | assumption) only [f_X0_block_L55, hl, Option.bind_some, lit_I, I_le, if_pos, I_ne, eq_self, if_true, if_false]
          all_goals rfl
        · subst e
          simp (disch := first | omega | assumption) only [f_X0_block_L55, hl, Option.bind_some, lit_I, I_le, if_pos, I_ne, eq_self, if_true, if_false]
          all_goals rfl
        · subst e
          simp (disch := first | omega | assumption) only [f_X0_block_L55, hl, r0, hbs, hbit, Option.bind_some, lit_I, I_le, if_pos, I_ne, eq_self, if_true, if_false]
          all_goals rfl
end OP9o
