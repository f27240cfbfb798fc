/-! PLAIN LAW: the reference made -/
set_option maxRecDepth 100000
/-- the object at m, its first i arrays behind it -/
def PT (m i : Nat) (fs : List Value) (h : PH) (n s : Nat) : PH := (fun a => if a = m then some (.inr (11, fs)) else if m < a ∧ a ≤ m + i then some (.inl (0, (tlen (a - m), .inl (fun _ => 0)))) else h.1 a, n, s, hg h)
section TW77
variable {m : Nat} {h : PH} {fs : List Value}
theorem pt_nwi {i n s : Nat} (e : n = m + i + 1) : nwi 0 (I (tlen (i + 1))) (PT m i fs h n s) = some (some (m + (i + 1)), PT m (i + 1) fs h (n + 1) (s + tlen (i + 1))) := by
  have ht := tlen_lt (i + 1)
  have h4 : tlen (i + 1) ≤ 100000 := by unfold tlen; split <;> decide
  have e1 : hn (PT m i fs h n s) = n := rfl
  unfold nwi
  rw [I_toInt ht, I_clamp ht, if_pos (by omega), e1]
  have e2 : hnew (PT m i fs h n s) (.inl (0, tlen (i + 1), .inl fun _ => 0)) (tlen (i + 1)) = PT m (i + 1) fs h (n + 1) (s + tlen (i + 1)) := by
    unfold hnew
    rw [e1]
    refine Prod.ext (funext fun q => ?_) rfl
    unfold PT
    simp only
    by_cases c : q = n
    · rw [if_pos c, if_neg (by omega), if_pos (by omega)]
      have : q - m = i + 1 := by omega
      rw [this]
    · rw [if_neg c]
      by_cases c2 : q = m
      · rw [if_pos c2, if_pos c2]
      · rw [if_neg c2, if_neg c2]
        by_cases c3 : m < q ∧ q ≤ m + i
        · rw [if_pos c3, if_pos (by omega)]
        · rw [if_neg c3, if_neg (by omega)]
  rw [e2]
  have e3 : n = m + (i + 1) := by omega
  rw [e3]
theorem pt_pf {i n s k : Nat} {w : Value} (hk : k < fs.length) : pf 11 k (some m) w (PT m i fs h n s) = some (PT m i (fs.set k w) h n s) := by
  have e1 : (PT m i fs h n s).1 m = some (.inr (11, fs)) := by simp [PT]
  simp only [pf, e1, hk, and_self, if_true]
  refine congrArg some (Prod.ext (funext fun q => ?_) rfl)
  unfold hset PT
  simp only
  by_cases c : q = m
  · simp only [if_pos c]
  · simp only [if_neg c]
/-- a heap with another count of cells and slots -/
def hcn (h : PH) (n s : Nat) : PH := (h.1, n, s, hg h)
theorem pt_tw {v : Nat → Int32} {n s : Nat} : PT m 11 (tfl m v) h n s = TW m v (fun _ _ => 0) (hcn h n s) := by
  unfold PT TW hcn
  refine Prod.ext (funext fun q => ?_) rfl
  rfl
def v0 : Nat → Int32 := fun _ => I 0
def fs0 : List Value := [.int 0, .null, .null, .null, .int 0, .null, .int 0, .null, .int 0, .int 0, .int 0, .int 0, .null, .int 0, .null, .null, .null, .null, .null, .int 0, .int 0, .int 0, .int 0, .int 0]
theorem pt_new {x : PH} : nwO 11 24 fs0 x = some (some (hn x), PT (hn x) 0 fs0 x (hn x + 1) (hs x + 24)) := by
  unfold nwO nwo hnew PT
  refine congrArg some (Prod.ext rfl (Prod.ext (funext fun q => ?_) rfl))
  simp only
  by_cases c : q = hn x
  · rw [if_pos c, if_pos c]
  · rw [if_neg c, if_neg c, if_neg (by omega)]
/-- the beginning's row -/
def sBeg (n : Nat) : Nat → Nat := fun k => if k = 2 then 31 else if 3 ≤ k ∧ k < 3 + n then k - 2 else 0
def g0 : GS := (sReset (sPage (sBeg 5) 3 3), [], 0, fun _ => 0)
theorem sBeg_r : sBeg 5 2 < 32 ∧ ∀ r, r < 5 → 1 ≤ sBeg 5 (3 + r) ∧ sBeg 5 (3 + r) ≤ 9 := by
  refine ⟨by decide, fun r hr => ?_⟩
  unfold sBeg; rw [if_neg (by omega), if_pos (by omega)]; omega
theorem GI_g0 : GInv g0 := by
  have hq := QInv_page0 (R := 3) (C := 3) sBeg_r (by decide) (by decide)
  refine ⟨⟨PInv_sReset hq.1 hq.2, fun q hq' => ?_⟩, fun r hr => (by cases hr), Nat.zero_le _, fun k hk => absurd hk (Nat.not_lt_zero k), Nat.zero_le _⟩
  have e : g0.1 (118 + 119 * q) = 0 := by
    show sReset (sPage (sBeg 5) 3 3) (118 + 119 * q) = 0
    rw [sReset_lo (by omega)]
    unfold sPage sHide sLay sBeg
    simp (disch := omega) only [if_neg]
  rw [e]
  exact ⟨by decide, fun q => by cases q⟩
theorem tw_begin {n s : Nat} (e : n = m + 1) : ∃ v A, f_X13_init (some m) (PT m 0 fs0 h n s) = some (TW m v A (hcn h (n + 11) (s + 3490))) ∧ TI v A g0 := by
  have t1 : tlen (0 + 1) = 356 := rfl
  have t2 : tlen (1 + 1) = 356 := rfl
  have t3 : tlen (2 + 1) = 1780 := rfl
  have t4 : tlen (3 + 1) = 140 := rfl
  have t5 : tlen (4 + 1) = 25 := rfl
  have t6 : tlen (5 + 1) = 600 := rfl
  have t7 : tlen (6 + 1) = 25 := rfl
  have t8 : tlen (7 + 1) = 25 := rfl
  have t9 : tlen (8 + 1) = 25 := rfl
  have t10 : tlen (9 + 1) = 118 := rfl
  have t11 : tlen (10 + 1) = 40 := rfl
  have n1 := fun fs s => pt_nwi (m := m) (h := h) (fs := fs) (i := 0) (n := n) (s := s) (by omega)
  have n2 := fun fs s => pt_nwi (m := m) (h := h) (fs := fs) (i := 1) (n := n + 1) (s := s) (by omega)
  have n3 := fun fs s => pt_nwi (m := m) (h := h) (fs := fs) (i := 2) (n := n + 1 + 1) (s := s) (by omega)
  have n4 := fun fs s => pt_nwi (m := m) (h := h) (fs := fs) (i := 3) (n := n + 1 + 1 + 1) (s := s) (by omega)
  have n5 := fun fs s => pt_nwi (m := m) (h := h) (fs := fs) (i := 4) (n := n + 1 + 1 + 1 + 1) (s := s) (by omega)
  have n6 := fun fs s => pt_nwi (m := m) (h := h) (fs := fs) (i := 5) (n := n + 1 + 1 + 1 + 1 + 1) (s := s) (by omega)
  have n7 := fun fs s => pt_nwi (m := m) (h := h) (fs := fs) (i := 6) (n := n + 1 + 1 + 1 + 1 + 1 + 1) (s := s) (by omega)
  have n8 := fun fs s => pt_nwi (m := m) (h := h) (fs := fs) (i := 7) (n := n + 1 + 1 + 1 + 1 + 1 + 1 + 1) (s := s) (by omega)
  have n9 := fun fs s => pt_nwi (m := m) (h := h) (fs := fs) (i := 8) (n := n + 1 + 1 + 1 + 1 + 1 + 1 + 1 + 1) (s := s) (by omega)
  have n10 := fun fs s => pt_nwi (m := m) (h := h) (fs := fs) (i := 9) (n := n + 1 + 1 + 1 + 1 + 1 + 1 + 1 + 1 + 1) (s := s) (by omega)
  have n11 := fun fs s => pt_nwi (m := m) (h := h) (fs := fs) (i := 10) (n := n + 1 + 1 + 1 + 1 + 1 + 1 + 1 + 1 + 1 + 1) (s := s) (by omega)
  simp only [t1, t2, t3, t4, t5, t6, t7, t8, t9, t10, t11, Nat.zero_add, Nat.reduceAdd] at n1 n2 n3 n4 n5 n6 n7 n8 n9 n10 n11
  have hf0 : ∀ X : PH, ∃ v A, f_X13_init_L112 FU (some m) (I 0) (TW m v0 (aset (fun _ _ => 0) 1 (sBeg 0)) X) = some (TW m v A X) ∧ TI v A g0 := fun X => by
    have hq := QInv_page0 (R := 3) (C := 3) sBeg_r (by decide) (by decide)
    have hS5 : SB (sBeg 5) := fun k => by unfold sBeg; repeat' split
                                          all_goals omega
    have hT : TI v0 (aset (fun _ _ => 0) 1 (sPage (sBeg 5) 3 3)) (sPage (sBeg 5) 3 3, [], 0, fun _ => 0) := by
      refine ⟨AB_set (fun _ _ => by decide) (sPage_SB hS5 (by decide) (by decide)), aset_eq, ⟨Nat.zero_le _, fun i r hr => (by cases hr)⟩, rfl, rfl, ?_⟩
      rw [aset_ne (by decide)]
    obtain ⟨A3, c1, c2, -, -⟩ := tw_resetT (m := m) (h := X) hT hq.1
    refine ⟨v0, A3, ?_, c2⟩
    have hlay := tw_lay (m := m) (v := v0) (A := aset (fun _ _ => 0) 1 (sBeg 5)) (h := X) (R := 3) (C := 3) (by decide) (by decide)
    rw [aset_eq, aset_aset] at hlay
    have hlay' : f_X13_lay (some m) (I 3) (I 3) (TW m v0 (aset (fun _ _ => 0) 1 (sBeg 5)) X) = some (TW m v0 (aset (fun _ _ => 0) 1 (sPage (sBeg 5) 3 3)) X) := hlay
    refine loop_FU (fun k (p : Nat × (Nat → Nat)) => f_X13_init_L112 k (some m) (I p.1) (TW m v0 (aset (fun _ _ => 0) 1 p.2) X)) (fun k => (k, sBeg k)) 5 _ (by decide) (fun k i hi => ?_) (fun k => ?_)
    · have u : nup (sBeg i) (3 + i) (i + 1) = sBeg (i + 1) := by
        funext j
        unfold nup sBeg
        by_cases c : j = 3 + i
        · subst c; rw [if_pos rfl, if_neg (by omega), if_pos (by omega)]; omega
        · rw [if_neg c]
          by_cases c2 : j = 2
          · rw [if_pos c2, if_pos c2]
          · rw [if_neg c2, if_neg c2]
            by_cases c3 : 3 ≤ j ∧ j < 3 + i
            · rw [if_pos c3, if_pos (by omega)]
            · rw [if_neg c3, if_neg (by omega)]
      simp (disch := first | omega | assumption) only [f_X13_init_L112, lit_I, I_le, if_neg, tw_r1, Option.bind_some, I_add, tw_ws, aset_eq, aset_aset, u]
    · simp (disch := first | omega | assumption) only [f_X13_init_L112, lit_I, I_le, if_pos, tw_rcv, Option.bind_some, hlay', c1]
  obtain ⟨v, A, d1, d2⟩ := hf0 (hcn h (n + 11) (s + 3490))
  refine ⟨v, A, ?_, d2⟩
  have eT : PT m 11 (tfl m v0) h (n + 11) (s + 3490) = TW m v0 (fun _ _ => 0) (hcn h (n + 11) (s + 3490)) := pt_tw
  have eS : nup (fun _ => 0) 2 31 = sBeg 0 := by
    funext j; unfold nup sBeg
    by_cases c : j = 2
    · rw [if_pos c, if_pos c]
    · rw [if_neg c, if_neg c, if_neg (by omega)]
  have nnm : nn (some m) = some () := rfl
  have hrf : ∀ a, va_rf (some a) = .ref a := fun a => rfl
  simp only [f_X13_init, lit_I, nnm, Option.bind_some, n1, n2, n3, n4, n5, n6, n7, n8, n9, n10, n11, fs0, hrf, pt_pf, List.set, List.length_cons, List.length_nil, Nat.reduceAdd, Nat.reduceLT, Nat.add_assoc]
  have eL : ([.int (I 0), .ref (m + 1), .ref (m + 2), .ref (m + 3), .int (I 0), .ref (m + 4), .int (I 0), .ref (m + 5), .int (I 0), .int (I 0), .int (I 0), .int (I 0), .ref (m + 6), .int (I 0), .ref (m + 7), .ref (m + 8), .ref (m + 9), .ref (m + 10), .ref (m + 11), .int (I 0), .int (I 0), .int (I 0), .int (I 0), .int (I 0)] : List Value) = tfl m v0 := rfl
  rw [eL, eT]
  simp (disch := first | omega | assumption) only [tw_r1, Option.bind_some, tw_ws, eS]
  exact d1
end TW77
