/-! PLAIN LAW: the reference's beginning; what holds stays -/
set_option maxRecDepth 100000
theorem Nrm_Eq8 {s t : Nat → Nat} (h0 : t 0 = s 0) (h1 : t 1 = s 1) (h8 : ∀ c, c < nc s → t (8 + c) = s (8 + c)) (hI : Nrm s) : Nrm t := by
  have en : nc t = nc s := nc_of h0 h1
  have hf : ∀ c, c < nc s → fst t c = fst s c := fun c hc => by
    unfold fst; rw [en]
    rw [firstI_congr (fun d hd => by rw [h8 d hd, h8 c hc])]
  intro c hc
  rw [en] at hc
  have h1 := fst_spec hc
  have e : rk t c = rk s c := by
    unfold rk rkTo
    rw [hf c hc]
    exact sumTo_congr (fun d hd => by unfold isF; rw [hf d (by omega)])
  rw [e, h8 c hc]
  exact hI c hc
def GInv (g : GS) : Prop := RInv g.1 ∧ (∀ r, r ∈ g.2.1 → RInv r) ∧ g.2.2.1 ≤ 140 ∧ (∀ k, k < g.2.2.1 → 1 ≤ g.2.2.2 k ∧ g.2.2.2 k ≤ 255) ∧ g.2.1.length ≤ 5
section GI
variable {g : GS}
theorem push_mem {H : List (Nat → Nat)} {s r : Nat → Nat} (h : r ∈ push H s) : r = s ∨ r ∈ H := by
  unfold push at h
  rw [List.mem_append, List.mem_singleton] at h
  rcases h with h | h
  · right
    split at h
    · exact List.mem_of_mem_tail h
    · exact h
  · exact Or.inl h
theorem GI_chg {r : Int32} {s : Nat → Nat} (hG : GInv g) (hs : RInv s) : GInv (chg g r s).2 := by
  obtain ⟨h1, h2, h3, h4, h5⟩ := hG
  refine ⟨hs, fun r hr => ?_, h3, h4, push_le h5⟩
  rcases push_mem hr with q | q
  · rw [q]; exact h1
  · exact h2 r q
theorem RI_reset {s t : Nat → Nat} (hI : RInv s) (hQ : QInv t) (hN : Nrm t) (he : ∀ k, 118 ≤ k → t k = s k) : RInv (sReset t) :=
  RInv_hi hI (PInv_sReset hQ hN) (fun k hk => by rw [sReset_lo (by omega)]; exact he k hk)
theorem GI_setPage {x y : Int32} (hG : GInv g) : GInv (o_setPage g x y).2 := by
  unfold o_setPage
  split
  · rename_i c
    obtain ⟨c1, c2⟩ := (Bool.and_eq_true _ _).mp c
    obtain ⟨-, x1, x2⟩ := bt_na (by decide) (by decide) c1
    obtain ⟨-, y1, y2⟩ := bt_na (by decide) (by decide) c2
    have hq := QInv_page (R := na x) (C := na y) hG.1.1.1 ⟨x1, x2⟩ ⟨y1, y2⟩
    have hRC : na x * na y ≤ 25 := Nat.mul_le_mul x2 y2
    exact GI_chg (r := I 0) hG (RI_reset hG.1 hq.1 hq.2 (fun k hk => by unfold sPage sHide sLay; simp (disch := omega) only [if_neg]))
  · exact hG
theorem GI_mirror (hG : GInv g) : GInv (o_mirror g).2 := by
  have hq := QInv_sRen (QInv_mir hG.1.1.1)
  have hP := hG.1.1.1.1
  have hn := nc_le hP
  obtain ⟨a1, a2, a3, a4⟩ := hP
  exact GI_chg (r := I 0) hG (RI_reset hG.1 hq.1 hq.2 (fun k hk => by rw [sRen_ne (by omega) (QInv_mir hG.1.1.1).1]; exact reLay_hi hn.2 (by omega) (by omega)))
theorem GI_turn (hG : GInv g) : GInv (o_turn g).2 := by
  have hq := QInv_sRen (QInv_trn hG.1.1.1)
  have hP := hG.1.1.1.1
  have hn := nc_le hP
  have hcm : g.1 1 * g.1 0 = nc g.1 := Nat.mul_comm _ _
  obtain ⟨a1, a2, a3, a4⟩ := hP
  exact GI_chg (r := I 0) hG (RI_reset hG.1 hq.1 hq.2 (fun k hk => by rw [sRen_ne (by omega) (QInv_trn hG.1.1.1).1]; exact reLay_hi (by omega) (by omega) (by omega)))
theorem GI_moveCell {x y : Int32} (hG : GInv g) : GInv (o_moveCell g x y).2 := by
  have hQ := hG.1.1.1
  have hP := hQ.1
  have hn := nc_le hP
  unfold o_moveCell
  split
  · rename_i c
    obtain ⟨c1, c2⟩ := (Bool.and_eq_true _ _).mp c
    obtain ⟨c3, c4⟩ := (Bool.and_eq_true _ _).mp c2
    obtain ⟨-, x1, x2⟩ := bt_na (by decide) (by omega) c1
    obtain ⟨-, y1, y2⟩ := bt_na (by decide) (by omega) c3
    split
    · exact hG
    · rename_i d1
      split
      · split
        · exact hG
        · rename_i d2
          have hq := QInv_move hQ (show na x < nc g.1 by omega) (show na y < nc g.1 by omega) d1 d2
          have hr := QInv_sRen hq
          refine GI_chg hG (RI_reset hG.1 hr.1 hr.2 (fun k hk => ?_))
          rw [sRen_ne (by omega) hq.1]
          unfold sMove
          rw [nup_ne (by omega), sClr_lo (PG_sClr hP) (by omega), sClr_lo hP (by omega)]
      · exact hG
  · exact hG
theorem GI_splitCell {x : Int32} (hG : GInv g) : GInv (o_splitCell g x).2 := by
  have hQ := hG.1.1.1
  have hP := hQ.1
  have hn := nc_le hP
  unfold o_splitCell
  split
  · rename_i c1
    obtain ⟨-, x1, x2⟩ := bt_na (by decide) (by omega) c1
    split
    · exact hG
    · split
      · have hq := QInv_split hQ hG.1.1.2.1 (show na x < nc g.1 by omega)
        have hr := QInv_sRen hq
        refine GI_chg hG (RI_reset hG.1 hr.1 hr.2 (fun k hk => ?_))
        rw [sRen_ne (by omega) hq.1]
        unfold sSplit
        rw [nup_ne (by omega), sClr_lo hP (by omega)]
      · exact hG
  · exact hG
/-- a row with the same blocks -/
theorem RI_same {s t : Nat → Nat} (hI : RInv s) (hQ : QInv t) (hlo : ∀ k, k < 33 → t k = s k) (he : ∀ k, 118 ≤ k → t k = s k) : RInv (sReset t) := by
  have hn := nc_le hI.1.1.1
  exact RI_reset hI hQ (Nrm_Eq8 (hlo 0 (by omega)) (hlo 1 (by omega)) (fun c hc => hlo _ (by omega)) hI.1.2.1) he
theorem GI_write {x y : Int32} (hG : GInv g) : GInv (o_write g x y).2 := by
  have hQ := hG.1.1.1
  have hP := hQ.1
  have hn := nc_le hP
  unfold o_write
  split
  · rename_i c
    obtain ⟨c1, c2⟩ := (Bool.and_eq_true _ _).mp c
    obtain ⟨-, x1, x2⟩ := bt_na (by decide) (by omega) c1
    have hc : na x < nc g.1 := by omega
    have h6 := (hQ.2.2.1 _ hc).1
    obtain ⟨-, y1, y2⟩ := bt_na (by decide) (by omega) c2
    split
    · exact hG
    · rename_i d
      have ht : na y ≠ 0 → taken g.1 (na x) (na y) = false := fun q => by
        cases hq : taken g.1 (na x) (na y) with
        | false => rfl
        | true => exact absurd ⟨q, hq⟩ d
      refine GI_chg hG (RI_same hG.1 (QInv_sWr hQ hc y2 ht) (fun k hk => ?_) (fun k hk => ?_))
      · unfold sWr
        rw [nup_ne (by omega)]
        split
        · exact sEmp_low hk
        · rfl
      · have hd := dv_lt hP hc
        obtain ⟨a1, a2, a3, a4⟩ := hP
        unfold sWr
        rw [nup_ne (by omega)]
        split
        · simp (disch := omega) only [sEmp, nup_ne]
        · rfl
  · exact hG
theorem GI_fill (hG : GInv g) : GInv (o_fill g).2 := by
  have hQ := hG.1.1.1
  have hn := nc_le hQ.1
  unfold o_fill
  split
  · exact hG
  · exact GI_chg hG (RI_same hG.1 (flTo_Q hQ _ (Nat.le_refl _)).1 (fun k hk => flTo_ne _ hn.2 (by omega)) (fun k hk => flTo_ne _ hn.2 (by omega)))
theorem GI_exchange {x y : Int32} (hG : GInv g) : GInv (o_exchange g x y).2 := by
  have hQ := hG.1.1.1
  have hn := nc_le hQ.1
  unfold o_exchange
  split
  · rename_i c
    obtain ⟨c0, c3⟩ := (Bool.and_eq_true _ _).mp c
    obtain ⟨c1, c2⟩ := (Bool.and_eq_true _ _).mp c0
    obtain ⟨-, x1, x2⟩ := bt_na (by decide) (by omega) c1
    obtain ⟨-, y1, y2⟩ := bt_na (by decide) (by omega) c2
    split
    · rename_i d
      refine GI_chg hG (RI_same hG.1 (QInv_xch hQ (show na x < nc g.1 by omega) (show na y < nc g.1 by omega) (by simpa using c3) d.1 d.2.1 d.2.2) (fun k hk => ?_) (fun k hk => ?_))
      · rw [nup_ne (by omega), nup_ne (by omega)]
      · rw [nup_ne (by omega), nup_ne (by omega)]
    · exact hG
  · exact hG
theorem GI_give {x y : Int32} (hG : GInv g) : GInv (o_give g x y).2 := by
  have hQ := hG.1.1.1
  have hn := nc_le hQ.1
  unfold o_give
  split
  · rename_i c
    obtain ⟨c1, c2⟩ := (Bool.and_eq_true _ _).mp c
    obtain ⟨-, x1, x2⟩ := bt_na (by decide) (by omega) c1
    obtain ⟨-, y1, y2⟩ := bt_na (by decide) (by decide) c2
    split
    · exact hG
    · rename_i d
      refine GI_chg hG (RI_same hG.1 (QInv_give hQ (show na x < nc g.1 by omega) y2 (fun q q0 => d ⟨q, q0⟩)) (fun k hk => nup_ne (by omega)) (fun k hk => nup_ne (by omega)))
  · exact hG
theorem GI_showSum {x y : Int32} (hG : GInv g) : GInv (o_showSum g x y).2 := by
  have hQ := hG.1.1.1
  have hP := hQ.1
  obtain ⟨a1, a2, a3, a4⟩ := hP
  unfold o_showSum
  split
  · rename_i c
    obtain ⟨c1, c2⟩ := (Bool.and_eq_true _ _).mp c
    obtain ⟨-, x1, x2⟩ := bt_na (by decide) (by omega) c1
    obtain ⟨-, y1, y2⟩ := bt_na (by decide) (by decide) c2
    split
    · exact hG
    · exact GI_chg hG (RI_same hG.1 (QInv_show hQ y2) (fun k hk => nup_ne (by omega)) (fun k hk => nup_ne (by omega)))
  · exact hG
theorem rdc_Q {kind : Nat} (hk : kind ≤ 1) : ∀ (l : List Nat) (s : Nat → Nat), QInv s → (∀ x, x ∈ l → x < clAll s kind ∧ (kind = 0 → s (33 + x) ≠ 0)) → QInv (rdc kind s l).2 ∧ (∀ k, k < 58 ∨ 93 ≤ k → (rdc kind s l).2 k = s k) := by
  intro l
  induction l with
  | nil => intro s h _; exact ⟨h, fun _ _ => rfl⟩
  | cons i l ih =>
    intro s h hm
    obtain ⟨m1, m2⟩ := hm i (by simp)
    have hn := nc_le h.1
    have hPP := h.1
    obtain ⟨a1, a2, a3, a4⟩ := hPP
    have hpl : 58 ≤ place kind i ∧ place kind i < 93 := by
      unfold place clAll at *
      split <;> rename_i q <;> simp only [q, if_true, if_false] at m1 <;> omega
    have hall : ∀ b, clAll (nup s (place kind i) b) kind = clAll s kind := fun b => by
      unfold clAll; rw [nc_of (s := s) (nup_ne (by omega)) (nup_ne (by omega)), nup_ne (by omega), nup_ne (by omega)]
    have hm' : ∀ b, ∀ x, x ∈ l → x < clAll (nup s (place kind i) b) kind ∧ (kind = 0 → nup s (place kind i) b (33 + x) ≠ 0) := fun b x hx => by
      obtain ⟨q1, q2⟩ := hm x (by simp [hx])
      rw [hall]
      refine ⟨q1, fun hk0 => ?_⟩
      have hx25 : x < 25 := by unfold clAll at q1; rw [if_pos hk0] at q1; omega
      rw [nup_ne (by omega)]; exact q2 hk0
    simp only [rdc]
    split
    · obtain ⟨q1, q2⟩ := ih _ (QInv_off (i := i) h hk) (hm' 0)
      exact ⟨q1, fun k hk => by rw [q2 k hk, nup_ne (by omega)]⟩
    · obtain ⟨q1, q2⟩ := ih _ (QInv_on h hk m1 m2) (hm' 1)
      exact ⟨q1, fun k hk => by rw [q2 k hk, nup_ne (by omega)]⟩
theorem GI_reduce {x y : Int32} (hG : GInv g) : GInv (o_reduce g x y).2 := by
  have hQ := hG.1.1.1
  unfold o_reduce
  split
  · rename_i c
    obtain ⟨c1, c2⟩ := (Bool.and_eq_true _ _).mp c
    obtain ⟨-, x1, x2⟩ := bt_na (by decide) (by decide) c1
    split
    · obtain ⟨m1, m2⟩ := clTo_mem (s := g.1) (kind := na x) (way := na y) (clAll g.1 (na x)) (Nat.le_refl _)
      obtain ⟨q1, q2⟩ := rdc_Q x2 _ g.1 hQ (fun z hz => by
        obtain ⟨w1, w2⟩ := m1 z hz
        refine ⟨w1, fun hk0 => ?_⟩
        rw [hk0] at w1 w2
        exact (hQ.2.2.1 z w1).2.2.2 w2)
      exact GI_chg hG (RI_same hG.1 q1 (fun k hk => q2 k (by omega)) (fun k hk => q2 k (by omega)))
    · exact hG
  · exact hG
theorem supN_Q : ∀ (k : Nat) (s : Nat → Nat), QInv s → Full s → QInv (supN k s).2 ∧ (∀ j, j < 58 ∨ 93 ≤ j → (supN k s).2 j = s j) := by
  intro k
  induction k with
  | zero => intro s h _; exact ⟨h, fun _ _ => rfl⟩
  | succ k ih =>
    intro s h hF
    have hn := nc_le h.1
    simp only [supN]
    split
    · exact ⟨h, fun _ _ => rfl⟩
    · rename_i c
      have c' : solv s (s 2) = false := Bool.eq_false_iff.mpr c
      obtain ⟨b1, b2⟩ := best_open h hF c'
      obtain ⟨q1, q2⟩ := ih _ (QInv_give h b1 (Nat.le_refl _) (fun _ => hF _ b1)) (fun c hc => by
        have e : nc (nup s (58 + bstTo (endF s (s 2)).2 (nc s)) 1) = nc s := nc_of (nup_ne (by omega)) (nup_ne (by omega))
        rw [e] at hc
        rw [nup_ne (by omega)]; exact hF c hc)
      exact ⟨q1, fun j hj => by rw [q2 j hj, nup_ne (by omega)]⟩
theorem GI_support (hG : GInv g) : GInv (o_support g).2 := by
  unfold o_support
  split
  · exact hG
  · rename_i c
    have h0 : nemp g.1 = 0 := by
      rcases Nat.eq_zero_or_pos (nemp g.1) with q | q
      · exact q
      · exact absurd (Or.inl q) c
    obtain ⟨q1, q2⟩ := supN_Q 26 g.1 hG.1.1.1 (Full_of h0)
    exact GI_chg hG (RI_same hG.1 q1 (fun k hk => q2 k (by omega)) (fun k hk => q2 k (by omega)))
theorem GI_allow {x y : Int32} (hG : GInv g) : GInv (o_allow g x y).2 := by
  unfold o_allow
  split
  · rename_i c
    obtain ⟨c1, c2⟩ := (Bool.and_eq_true _ _).mp c
    obtain ⟨-, x1, x2⟩ := bt_na (by decide) (by decide) c1
    obtain ⟨-, y1, y2⟩ := bt_na (by decide) (by decide) c2
    have hlt := alw_lt (k := na y) hG.1.1.1.2.1.1 (show na x < 5 by omega) y2
    exact GI_chg hG (RInv_hi hG.1 (PInv_rule hG.1.1 (fun k hk => nup_ne (by omega)) (by rw [nup_eq]; exact hlt) (fun r hr => by rw [nup_ne (by omega)]; exact hG.1.1.1.2.1.2 r hr)) (fun k hk => nup_ne (by omega)))
  · exact hG
theorem GI_setCost {x y : Int32} (hG : GInv g) : GInv (o_setCost g x y).2 := by
  unfold o_setCost
  split
  · rename_i c
    obtain ⟨c1, c2⟩ := (Bool.and_eq_true _ _).mp c
    obtain ⟨-, x1, x2⟩ := bt_na (by decide) (by decide) c1
    obtain ⟨-, y1, y2⟩ := bt_na (by decide) (by decide) c2
    refine GI_chg hG (RInv_hi hG.1 (PInv_rule hG.1.1 (fun k hk => nup_ne (by omega)) (by rw [nup_ne (by omega)]; exact hG.1.1.1.2.1.1) (fun r hr => ?_)) (fun k hk => nup_ne (by omega)))
    by_cases e : r = na x
    · subst e; rw [nup_eq]; exact ⟨y1, y2⟩
    · rw [nup_ne (by omega)]; exact hG.1.1.1.2.1.2 r hr
  · exact hG
theorem GI_restart (hG : GInv g) : GInv (o_restart g).2 := GI_chg hG (RI_same hG.1 hG.1.1.1 (fun _ _ => rfl) (fun _ _ => rfl))
theorem andn_b0 {a b : Nat} (h : a.testBit 0 = false) : (andn a b).testBit 0 = false := by rw [andn_tb, h]; rfl
theorem GI_strike {x y : Int32} (hG : GInv g) : GInv (o_strike g x y).2 := by
  have hP := hG.1.1.1.1
  have hn := nc_le hP
  unfold o_strike
  split
  · rename_i c
    obtain ⟨c1, c2⟩ := (Bool.and_eq_true _ _).mp c
    obtain ⟨-, x1, x2⟩ := bt_na (by decide) (by omega) c1
    split
    · refine GI_chg hG (RInv_hi hG.1 (PInv_brd hG.1.1 (fun k hk => nup_ne (by omega)) (fun d hd => ?_)) (fun k hk => nup_ne (by omega)))
      have e : nc (nup g.1 (93 + na x) (andn (g.1 (93 + na x)) (1 <<< na y))) = nc g.1 := nc_of (nup_ne (by omega)) (nup_ne (by omega))
      rw [e] at hd
      have hb := hG.1.1.2.2 d hd
      by_cases e : d = na x
      · subst e
        rw [nup_eq]
        have := andn_le (g.1 (93 + na x)) (1 <<< na y)
        exact ⟨by omega, andn_b0 hb.2⟩
      · rw [nup_ne (by omega)]; exact hb
    · exact hG
  · exact hG
theorem GI_advance {x : Int32} (hG : GInv g) : GInv (o_advance g x).2 := by
  have hP := hG.1.1.1.1
  have hn := nc_le hP
  unfold o_advance
  split
  · split
    · have hlo : ∀ k, k < 93 ∨ 118 ≤ k → wBd g.1 (goN g.1 (g.1 2) (na x) (bd g.1)).2 k = g.1 k := fun k hk => wBd_lo hP hk
      refine GI_chg hG (RInv_hi hG.1 (PInv_brd hG.1.1 (fun k hk => hlo k (by omega)) (fun d hd => ?_)) (fun k hk => hlo k (by omega)))
      have e : nc (wBd g.1 (goN g.1 (g.1 2) (na x) (bd g.1)).2) = nc g.1 := nc_of (hlo 0 (by omega)) (hlo 1 (by omega))
      have hd' : d < nc g.1 := by rw [← e]; exact hd
      have eb : wBd g.1 (goN g.1 (g.1 2) (na x) (bd g.1)).2 (93 + d) = (goN g.1 (g.1 2) (na x) (bd g.1)).2 d := wBd_at hd'
      have hb := hG.1.1.2.2 d hd'
      show wBd g.1 (goN g.1 (g.1 2) (na x) (bd g.1)).2 (93 + d) < 128 ∧ (wBd g.1 (goN g.1 (g.1 2) (na x) (bd g.1)).2 (93 + d)).testBit 0 = false
      rw [eb]
      refine ⟨goN_W7 _ _ (fun c hc => (hG.1.1.2.2 c hc).1) d hd', ?_⟩
      refine Bool.eq_false_iff.mpr (fun q => ?_)
      have := goN_sub (s := g.1) (rules := g.1 2) (na x) (bd g.1) d 0 q
      have hb2 : (bd g.1 d).testBit 0 = false := hb.2
      rw [hb2] at this; cases this
    · exact hG
  · exact hG
theorem slt_take {s : Nat → Nat} {q : Nat} (hq : q < 2) : EqN 118 s (slt (sTake s q) q) := fun k hk => by
  unfold slt sTake
  rw [if_neg (by omega), if_pos (by omega)]
  congr 1; omega
theorem GI_take {x : Int32} (hG : GInv g) : GInv (o_take g x).2 := by
  unfold o_take
  split
  · rename_i c
    obtain ⟨-, x1, x2⟩ := bt_na (by decide) (by decide) c
    refine GI_chg hG ⟨PInv_Eq (fun k hk => (sTake_lo hk).symm) hG.1.1, fun q hq => ?_⟩
    by_cases e : q = na x
    · subst e
      have h1 : sTake g.1 (na x) (118 + 119 * na x) = 1 := by unfold sTake; rw [if_pos rfl]
      rw [h1]
      exact ⟨Nat.le_refl _, fun _ => PInv_Eq (slt_take hq) hG.1.1⟩
    · have hne : ∀ k, 118 + 119 * q ≤ k → k < 118 + 119 * q + 119 → sTake g.1 (na x) k = g.1 k := fun k k1 k2 => by
        unfold sTake; rw [if_neg (by omega), if_neg (by omega)]
      rw [hne _ (by omega) (by omega)]
      refine ⟨(hG.1.2 q hq).1, fun h1 => PInv_Eq (fun k hk => ?_) ((hG.1.2 q hq).2 h1)⟩
      unfold slt; rw [hne _ (by omega) (by omega)]
  · exact hG
theorem GI_restore {x : Int32} (hG : GInv g) : GInv (o_restore g x).2 := by
  unfold o_restore
  split
  · rename_i c
    obtain ⟨-, x1, x2⟩ := bt_na (by decide) (by decide) c
    split
    · exact hG
    · rename_i d
      have hq := hG.1.2 (na x) (by omega)
      exact GI_chg hG (RInv_hi hG.1 (PInv_Eq sBack_Eq (hq.2 (by omega))) (fun k hk => by unfold sBack; rw [if_neg (by omega)]))
  · exact hG
theorem GI_undo (hG : GInv g) : GInv (o_undo g).2 := by
  obtain ⟨h1, h2, h3, h4, h5⟩ := hG
  unfold o_undo
  cases hl : g.2.1.getLast? with
  | none => exact ⟨h1, h2, h3, h4, h5⟩
  | some r =>
    have hr : r ∈ g.2.1 := List.mem_of_getLast? hl
    exact ⟨RInv_Eq (s := r) (t := sUndo g.1 r) (fun k hk => by unfold sUndo; rw [if_pos hk]) (h2 r hr), fun r' hr' => h2 r' (List.dropLast_subset _ hr'), h3, h4, by simp; omega⟩
theorem GI_append {x : Int32} (hG : GInv g) : GInv (o_append g x).2 := by
  obtain ⟨h1, h2, h3, h4, h5⟩ := hG
  unfold o_append
  split
  · rename_i c
    obtain ⟨-, x1, x2⟩ := bt_na (by decide) (by decide) c
    split
    · exact ⟨h1, h2, h3, h4, h5⟩
    · refine ⟨h1, h2, by simp only; omega, fun k hk => ?_, h5⟩
      simp only at hk ⊢
      by_cases e : k = g.2.2.1
      · rw [e, nup_eq]; exact ⟨x1, x2⟩
      · rw [nup_ne e]; exact h4 k (by omega)
  · exact ⟨h1, h2, h3, h4, h5⟩
theorem GI_clearText (hG : GInv g) : GInv (o_clearText g).2 := by
  obtain ⟨h1, h2, h3, h4, h5⟩ := hG
  exact ⟨h1, h2, Nat.zero_le _, fun k hk => absurd hk (Nat.not_lt_zero k), h5⟩
/-! the text keeps the numbering of the blocks -/
theorem N_costs {tx : Nat → Nat} {n : Nat} : ∀ k r s t, r + k = 5 → PG' s → Nrm s → ∀ x, pCosts tx n k r s t = .inr x → Nrm x.1 := by
  intro k
  induction k with
  | zero => intro r s t _ _ hN x hx; cases hx; exact hN
  | succ k ih =>
    intro r s t hr hP hN x hx
    simp only [pCosts] at hx
    cases hq : numH tx n t 1 9 with
    | none => rw [hq] at hx; cases hx
    | some c =>
      rw [hq] at hx
      exact ih (r + 1) _ _ (by omega) (PG_of (nup_ne (by omega)) (nup_ne (by omega)) hP) (Nrm_Eq8 (nup_ne (by omega)) (nup_ne (by omega)) (fun c hc => nup_ne (by omega)) hN) x hx
theorem N_wh {tx : Nat → Nat} {n word : Nat} (hw : 2 ≤ word ∧ word ≤ 4) : ∀ f s t, QInv s → Nrm s → ∀ x, pWh tx n word f s t = .inr x → Nrm x.1 := by
  intro f
  induction f with
  | zero => intro s t _ _ x hx; cases hx
  | succ f ih =>
    intro s t hQ hN x hx
    simp only [pWh] at hx
    cases hq : numH tx n t 0 (whAll s word - 1) with
    | none => rw [hq] at hx; cases hx
    | some i =>
      rw [hq] at hx
      simp only at hx
      have hi := numH_le hq
      have hn := nc_le hQ.1
      have hwp : 0 < whAll s word := by
        have hPP := hQ.1
        obtain ⟨p1, p2, p3, p4⟩ := hPP
        unfold whAll; split
        · omega
        · split <;> omega
      split at hx
      · rename_i hc
        obtain ⟨j1, j2, j3, j4⟩ := putW_Q (i := i) (b := 1) hw hQ (by omega) (Nat.le_refl _) (fun _ => hc)
        have hN2 : Nrm (putW s word i 1) := Nrm_Eq8 (j2 0 (by omega) (by omega)) (j2 1 (by omega) (by omega)) (fun c hc => j2 _ (by omega) (by omega)) hN
        split at hx
        · exact ih _ _ j1 hN2 x hx
        · cases hx; exact hN2
      · cases hx
theorem N_ans {tx : Nat → Nat} {n : Nat} : ∀ k row s t, row + k = s 0 → QInv s → NoG s → Nrm s → ∀ x, pAns tx n k row s t = .inr x → Nrm x.1 := by
  intro k
  induction k with
  | zero => intro row s t _ _ _ hN x hx; cases hx; exact hN
  | succ k ih =>
    intro row s t hr hQ hGv hN x hx
    simp only [pAns] at hx
    split at hx
    · cases hq : pRowA tx n row t.2.1 s (s 1) with
      | inl e => rw [hq] at hx; cases hx
      | inr s' =>
        rw [hq] at hx
        have hn := nc_le hQ.1
        obtain ⟨i1, i2, i3, i4⟩ := pRowA_Q hQ hGv (by omega) (s 1) s' (Nat.le_refl _) hq
        exact ih (row + 1) s' _ (by rw [i3 0 (by omega)]; omega) i1 i2 (Nrm_Eq8 (i3 0 (by omega)) (i3 1 (by omega)) (fun c hc => i3 _ (by omega)) hN) x hx
    · cases hx
theorem N_body {tx : Nat → Nat} {n w : Nat} {s : Nat → Nat} {t : TK3} (hw : w < 6) (hQ : QInv s) (hT : SB tx) (ht : Tok tx n t) (hN : Nrm s) : ∀ x, pBody tx n w s t = .inr x → Nrm x.1 := by
  have hn := nc_le hQ.1
  intro x hx
  unfold pBody at hx
  split at hx
  · unfold pPage at hx
    cases hr : pgRows tx n 5 0 (t.2.2 - t.2.1) (fun _ => 0) t with
    | inl e => rw [hr] at hx; cases hx
    | inr y =>
      rw [hr] at hx
      simp only at hx
      obtain ⟨q1, q2, q3, q4, q5⟩ := pgRows_ok 5 0 _ _ t y 0 (by omega) (Or.inl rfl) (fun _ => by decide) hT ht (Nat.zero_le _) hr
      split at hx
      · cases hx
      · rename_i c
        have c1 : ¬ y.1 < 2 := fun q => c (Or.inl q)
        split at hx
        · cases hx
          have hP := PG_sLet (s := s) (O := y.2.2.1) (R := y.1) (C := y.2.1) (by omega) (by omega)
          intro c hc
          have hc' : c < nc (sRen (sLet s y.2.2.1 y.1 y.2.1)) := hc
          rw [nc_sRen hP] at hc'
          show sRen (sLet s y.2.2.1 y.1 y.2.1) (8 + c) = rk (sRen (sLet s y.2.2.1 y.1 y.2.1)) c
          rw [sRen_8 hc', rk_sRen hP hc']
        · cases hx
  · split at hx
    · obtain ⟨i1, i2, i3, i4⟩ := sEA_Q hQ (nc s) (Nat.le_refl _)
      have en : nc (sEA s (nc s)) = nc s := nc_of (i2 0 (by omega)) (i2 1 (by omega))
      exact N_ans (s 0) 0 _ t (by rw [i2 0 (by omega)]; omega) i1 (fun c hc => i3 c (by rw [← en]; exact hc)) (Nrm_Eq8 (i2 0 (by omega)) (i2 1 (by omega)) (fun c hc => i2 _ (by omega)) hN) x hx
    · split at hx
      · exact N_costs 5 0 s t (by omega) hQ.1 hN x hx
      · obtain ⟨j1, j2, j3, j4⟩ := putA_Q (word := w) (all := isW tx n t 7) (by omega) hQ (whAll s w) (Nat.le_refl _)
        have hN2 : Nrm (putA s w (isW tx n t 7) (whAll s w)) := Nrm_Eq8 (j2 0 (by omega) (by omega)) (j2 1 (by omega) (by omega)) (fun c hc => j2 _ (by omega) (by omega)) hN
        unfold pWhich at hx
        split at hx
        · cases hx; exact hN2
        · exact N_wh (by omega) 200 _ _ j1 hN2 x hx
theorem pLoad_Q {tx : Nat → Nat} {n : Nat} (hT : SB tx) : ∀ f s t k x, QInv s → Nrm s → Tok tx n t → pLoad tx n f s t k = .inr x → QInv x.1 ∧ Nrm x.1 ∧ (∀ j, 118 ≤ j → x.1 j = s j) := by
  intro f
  induction f with
  | zero => intro s t k x _ _ _ hx; cases hx
  | succ f ih =>
    intro s t k x hQ hN ht hx
    simp only [pLoad] at hx
    split at hx
    · cases hx; exact ⟨hQ, hN, fun _ _ => rfl⟩
    · rename_i h0
      cases hr : pItem tx n s t with
      | inl e => rw [hr] at hx; cases hx
      | inr y =>
        rw [hr] at hx
        simp only at hx
        obtain ⟨q1, q2, q3, q4⟩ := pItem_Q hQ hT ht h0 y hr
        have hNy : Nrm y.1 := by
          unfold pItem at hr
          cases hw : firstI (fun w => isW tx n t w) 6 with
          | none => rw [hw] at hr; cases hr
          | some w =>
            rw [hw] at hr
            simp only at hr
            cases hb : pBody tx n w s (nxt tx n t) with
            | inl e => rw [hb] at hr; cases hr
            | inr z =>
              have := N_body (firstI_some.mp hw).1 hQ hT ht.on hN z hb
              rw [hb] at hr
              simp only [pEndI] at hr
              split at hr
              · cases hr; exact this
              · cases hr
        obtain ⟨i1, i2, i3⟩ := ih y.1 y.2 (k + 1) x q1 hNy q2 hx
        exact ⟨i1, i2, fun j hj => (i3 j hj).trans (q4 j hj)⟩
theorem GI_load (hG : GInv g) (hT : SB g.2.2.2) : GInv (o_load g).2 := by
  obtain ⟨h1, h2, h3, h4, h5⟩ := hG
  unfold o_load
  cases hl : pLoad g.2.2.2 g.2.2.1 200 g.1 (tokAt g.2.2.2 g.2.2.1 0) 0 with
  | inl e => exact ⟨h1, h2, h3, h4, h5⟩
  | inr x =>
    obtain ⟨q1, q2, q3⟩ := pLoad_Q hT 200 g.1 _ 0 x h1.1.1 h1.1.2.1 ⟨0, Nat.zero_le _, rfl⟩ hl
    have := GI_chg (r := I 0) ⟨h1, h2, h3, h4, h5⟩ (RI_reset h1 q1 q2 q3)
    exact ⟨this.1, this.2.1, Nat.zero_le _, fun k hk => absurd hk (Nat.not_lt_zero k), this.2.2.2.2⟩
end GI
