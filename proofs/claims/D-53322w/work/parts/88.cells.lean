/-! PLAIN LAW: the class: cells that are known -/
set_option maxRecDepth 100000
/-- an array of numbers -/
abbrev nar (t n : Nat) (f : Nat → Int32) : PC := .inl (t, (n, .inl f))
/-- an array of references -/
abbrev rar (t n : Nat) (f : Nat → Option Nat) : PC := .inl (t, (n, .inr (.inr (.inr (.inr f)))))
section AT88
variable {h : PH} {a t n ci : Nat}
theorem ald_at {f : Nat → Int32} {i : Nat} (hc : h.1 a = some (nar t n f)) (hi : i < n) (hn : n < 2147483648) : ald t (some a) (I i) h = some (f i) := by
  simp only [ald, ar, lk_own hc, if_true]
  rw [if_pos (inbI hi hn), I_clamp (by omega)]
theorem alr_at {f : Nat → Option Nat} {i : Nat} (hc : h.1 a = some (rar t n f)) (hi : i < n) (hn : n < 2147483648) : alr t (some a) (I i) h = some (f i) := by
  simp only [alr, ar, lk_own hc, if_true]
  rw [if_pos (inbI hi hn), I_clamp (by omega)]
theorem aln_at {x : vp_A} (hc : h.1 a = some (.inl (t, x))) : aln t (some a) h = some (I x.1) := by
  simp only [aln, ar, lk_own hc, if_true]; rfl
theorem asi_at {f : Nat → Int32} {i : Nat} {x : Int32} (hc : h.1 a = some (nar t n f)) (hi : i < n) (hn : n < 2147483648) : asi t (some a) (I i) x h = some (hset h a (nar t n (upd f i x))) := by
  simp only [asi, hc]
  rw [if_pos ⟨by trivial, inbI hi hn⟩, I_clamp (by omega)]
theorem asr_at {f : Nat → Option Nat} {i : Nat} {x : Option Nat} (hc : h.1 a = some (rar t n f)) (hi : i < n) (hn : n < 2147483648) (hx : eok t h x = true) : asr t (some a) (I i) x h = some (hset h a (rar t n (va_up f i x))) := by
  simp only [asr, hc]
  rw [if_pos ⟨by trivial, inbI hi hn, hx⟩, I_clamp (by omega)]
theorem ob_at {fs : List Value} (hc : h.1 a = some (.inr (ci, fs))) : ob ci (some a) h = some fs := by
  simp only [ob, lk_own hc, if_true]
theorem rcv_at {fs : List Value} (hc : h.1 a = some (.inr (ci, fs))) : rcv ci (some a) h = some () := by
  simp [rcv, clo, lk_own hc]
theorem clo_at {fs : List Value} (hc : h.1 a = some (.inr (ci, fs))) : clo (some a) h = some ci := by
  simp [clo, lk_own hc]
theorem gfi_at {fs : List Value} {k : Nat} {x : Int32} (hc : h.1 a = some (.inr (ci, fs))) (hk : fs[k]? = some (.int x)) : gfi ci k (some a) h = some x := by
  simp [gfi, ob_at hc, hk, vI]
theorem gfr_at {fs : List Value} {k : Nat} {x : Option Nat} (hc : h.1 a = some (.inr (ci, fs))) (hk : fs[k]? = some (va_rf x)) : gfr ci k (some a) h = some x := by
  simp [gfr, ob_at hc, hk, vR_r]
theorem pf_at {fs : List Value} {k : Nat} {x : Value} (hc : h.1 a = some (.inr (ci, fs))) (hk : k < fs.length) : pf ci k (some a) x h = some (hset h a (.inr (ci, fs.set k x))) := by
  simp [pf, hc, hk]
/-! new cells -/
theorem hnew_at {c : PC} : (hnew h c n).1 (hn h) = some c := by simp [hnew]
theorem hnew_ne {c : PC} {x : Nat} (hx : x ≠ hn h) : (hnew h c n).1 x = h.1 x := by simp [hnew, hx]
theorem hnew_hn {c : PC} : hn (hnew h c n) = hn h + 1 := rfl
theorem hnew_hs {c : PC} : hs (hnew h c n) = hs h + n := rfl
theorem hnew_hg {c : PC} : hg (hnew h c n) = hg h := rfl
theorem hset_hn {c : PC} : hn (hset h a c) = hn h := rfl
theorem hset_hs {c : PC} : hs (hset h a c) = hs h := rfl
theorem hset_hg {c : PC} : hg (hset h a c) = hg h := rfl
theorem nwO_at {fs : List Value} : nwO ci n fs h = some (some (hn h), hnew h (.inr (ci, fs)) n) := rfl
theorem nwi_at {k : Nat} (hk : k ≤ 100000) : nwi t (I k) h = some (some (hn h), hnew h (nar t k (fun _ => 0)) k) := by
  unfold nwi
  rw [if_pos (by rw [I_toInt (by omega)]; omega), I_clamp (by omega)]
theorem nwr_at {k : Nat} (hk : k ≤ 100000) : nwr t (I k) h = some (some (hn h), hnew h (rar t k (fun _ => none)) k) := by
  unfold nwr
  rw [if_pos (by rw [I_toInt (by omega)]; omega), I_clamp (by omega)]
end AT88
/-- a board, as cells -/
def BdC (h : PH) (b p : Nat) (f : Nat → Int32) : Prop := h.1 b = some (.inr (4, [.ref p, .ref (b + 1)])) ∧ h.1 (b + 1) = some (nar 0 25 f)
theorem BdC.R {h : PH} {b p : Nat} {f : Nat → Int32} {s w : Nat → Nat} (B : BdC h b p f) (hn : nc s ≤ 25) (hf : ∀ c, c < nc s → f c = I (w c)) : BdR h b p s w :=
  ⟨rcv_at B.1, gfr_at (x := some p) B.1 rfl, gfr_at (x := some (b + 1)) B.1 rfl, fun c hc => by rw [ald_at B.2 (by omega) (by decide), hf c hc]⟩
/-- another board in place of b's -/
def bdw (h : PH) (b : Nat) (f : Nat → Int32) : PH := hset h (b + 1) (nar 0 25 f)
theorem bdw_C {h : PH} {b p : Nat} {f g : Nat → Int32} (B : BdC h b p f) : BdC (bdw h b g) b p g := ⟨(hset_ne (by omega)).trans B.1, hset_at⟩
theorem bdw_self {h : PH} {b p : Nat} {f : Nat → Int32} (B : BdC h b p f) : bdw h b f = h := hset_self B.2
theorem bdw_bdw {h : PH} {b : Nat} {f g : Nat → Int32} : bdw (bdw h b f) b g = bdw h b g := hset_hset
/-- a board's array isn't the page's -/
def DjB (p : Nat) (ms : Nat → Nat) (s : Nat → Nat) (b : Nat) : Prop := b + 1 ≠ p + 1 ∧ b + 1 ≠ p + 2 ∧ ∀ k, k < rkTo s (nc s) → b + 1 ≠ ms k
theorem VR_arr {h : PH} {v ra a : Nat} {ru : Nat → Nat} {c0 c : PC} (h0 : h.1 a = some c0) (e0 : ki c0 ≠ 5 ∧ ki c0 ≠ 1005 ∧ 1000 ≤ ki c0) (e1 : ki c ≠ 5 ∧ ki c ≠ 1005 ∧ 1000 ≤ ki c) (V : VR h v ra ru) : VR (hset h a c) v ra ru := by
  obtain ⟨⟨q, hq⟩, hr⟩ := V
  have hne : v ≠ a := by
    intro e; subst e
    rw [h0] at hq; cases hq
    exact e0.1 rfl
  refine ⟨⟨q, (hset_ne hne).trans hq⟩, fun k hk => ?_⟩
  obtain ⟨g1, g2⟩ := hr k hk
  refine ⟨(alr_ki (t := 5) h0 e0.2.1 e1.2.1).trans g1, ?_⟩
  rw [clo_ki (ci := 6 + k) h0 (by omega) (by omega)]
  exact g2
section CW88
variable {h : PH} {p mm b v ra : Nat} {ms ru : Nat → Nat} {s w : Nat → Nat}
theorem CU.bdw {f0 f : Nat → Int32} {w' : Nat → Nat} (C : CU h p mm ms s w b v ra ru) (B : BdC h b p f0) (D : DjB p ms s b) (hf : ∀ c, c < nc s → f c = I (w' c)) (hW : W7 s w') (hB : B0 s w') : CU (bdw h b f) p mm ms s w' b v ra ru := by
  obtain ⟨H, -, V, hP, hNB, hs, hN, hsh, -, -⟩ := C
  have hn := nc_le hP
  exact ⟨PgR_ar B.2 rfl rfl D H, (bdw_C B).R hn.2 hf, VR_arr B.2 (by simp [ki]) (by simp [ki]) V, hP, hNB, hs, hN, hsh, hW, hB⟩
theorem cb_strike {h : PH} {f : Nat → Int32} {c n wc : Nat} (B : BdC h b p f) (hc : c < 25) (hf : f c = I wc) (hn : n < 32) : f_X4_strike (some b) (I c) (I n) h = some (bdw h b (upd f c (I (andn wc (1 <<< n))))) := by
  have e1 : gfr 4 1 (some b) h = some (some (b + 1)) := gfr_at (x := some (b + 1)) B.1 rfl
  simp (disch := first | omega | assumption) only [f_X4_strike, e1, ald_at B.2 hc (by decide), hf, Option.bind_some, lit_I, I_shlM, I_and, I_andnI, asi_at B.2 hc (by decide)]
  rfl
theorem strW_B0 {s w : Nat → Nat} {c n : Nat} (h : B0 s w) : B0 s (strW w c n) := by
  intro d hd
  by_cases e : d = c
  · subst e; simp only [strW, nup_eq, andn_tb, h d hd, Bool.false_and]
  · simp only [strW, nup_ne e]; exact h d hd
theorem goN_B0 {s : Nat → Nat} {rules : Nat} : ∀ k w, B0 s w → B0 s (goN s rules k w).2 := by
  intro k
  induction k with
  | zero => intro w h; exact h
  | succ k ih =>
    intro w h
    cases hf : findS s w rules with
    | none => simp only [goN, hf]; exact h
    | some t => simp only [goN, hf]; exact ih _ (strW_B0 h)
theorem sol_bdw {f : Nat → Int32} {q : Int32 × Int32 × Int32 × Int32} (hv : v ≠ b + 1) : bdw (sol h v ra q) b f = sol (bdw h b f) v ra q := hset_comm hv
theorem cs_solve3 {rules L : Nat} (hru : rules < 1000000) (hL : L < 2147483648) (D : DjB p ms s b) : ∀ (M k d i : Nat) (h : PH) (w : Nat → Nat) (f : Nat → Int32), CU h p mm ms s w b v ra ru → BdC h b p f → (∀ c, c < nc s → f c = I (w c)) → mu s w < M → M ≤ k → i + d = L →
    ∃ f' q', f_X5_solve_L3 k (some v) (some b) (I rules) (I L) (I i) h = some (I (i + (goN s rules d w).1.length), sol (bdw h b f') v ra q') ∧ ∀ c, c < nc s → f' c = I ((goN s rules d w).2 c) := by
  intro M
  induction M with
  | zero => intro k d i h w f _ _ _ h1; omega
  | succ M ih =>
    intro k d i h w f C B hf hmu hk hi
    obtain ⟨k, rfl⟩ : ∃ k', k = k' + 1 := ⟨k - 1, by omega⟩
    obtain ⟨q0, hq0⟩ := C.2.2.1.self
    have hn := nc_le C.2.2.2.1
    have hv : v ≠ b + 1 := by
      obtain ⟨⟨q, hq⟩, -⟩ := C.2.2.1
      intro e; rw [e, B.2] at hq; cases hq
    have hself : sol (bdw h b f) v ra q0 = h := by rw [bdw_self B]; exact hq0.symm
    cases d with
    | zero =>
      refine ⟨f, q0, ?_, hf⟩
      rw [hself]
      simp (disch := first | omega | assumption) only [f_X5_solve_L3, I_le, if_pos, goN, List.length_nil, Nat.add_zero]
    | succ d =>
      obtain ⟨q1, g1, g2⟩ := cs_find C hru
      have hrc : rcv 5 (some v) h = some () := by rw [hq0]; exact sv_rc
      cases hfs : findS s w rules with
      | none =>
        rw [hfs] at g1
        refine ⟨f, q1, ?_, ?_⟩
        · rw [bdw_self B]
          simp only [Option.isSome_none] at g1
          simp (disch := first | omega | assumption) only [f_X5_solve_L3, I_le, if_neg, hrc, g1, Option.bind_some, lit_I, Bool.false_eq_true, bit_F', if_true, goN, hfs, List.length_nil, Nat.add_zero]
        · simp only [goN, hfs]; exact hf
      | some t =>
        obtain ⟨-, h1, h2, h3, h4, h5, h6, h7⟩ := findS_some hfs
        have hq1 := g2 t hfs
        rw [hfs, hq1] at g1
        have g1' : f_X5_find (some v) (some b) (I rules) h = some (I 1, sol h v ra (qS t)) := g1
        have B1 : BdC (sol h v ra (qS t)) b p f := by
          obtain ⟨⟨q, hq⟩, -⟩ := C.2.2.1
          have hvb : v ≠ b := by intro e; rw [e, B.1] at hq; cases hq
          exact ⟨(hset_ne (Ne.symm hvb)).trans B.1, (hset_ne (Ne.symm hv)).trans B.2⟩
        have hst := cb_strike (n := t.2.2.1) B1 (show t.2.1 < 25 by omega) (hf _ h3) (by omega)
        have hmu2 := mu_str h3 h4 h5 h6
        have hw' : ∀ c, c < nc s → upd f t.2.1 (I (andn (w t.2.1) (1 <<< t.2.2.1))) c = I (strW w t.2.1 t.2.2.1 c) := by
          intro c hc
          by_cases e : c = t.2.1
          · subst e; simp [upd, strW, nup_eq]
          · simp only [upd, e, if_false, strW, nup_ne e]; exact hf c hc
        have C1 := (C.sol (q := qS t)).bdw B1 D hw' (strW_W7 C.2.2.2.2.2.2.2.2.1) (strW_B0 C.2.2.2.2.2.2.2.2.2)
        obtain ⟨f', q', e1, e2⟩ := ih k d (i + 1) _ _ _ C1 (bdw_C B1) hw' (by omega) (by omega) (by omega)
        refine ⟨f', q', ?_, ?_⟩
        · have r2 : gfi 5 2 (some v) (sol h v ra (qS t)) = some (I t.2.1) := sv_2
          have r3 : gfi 5 3 (some v) (sol h v ra (qS t)) = some (I t.2.2.1) := sv_3
          have hlen : (goN s rules (d + 1) w).1.length = (goN s rules d (strW w t.2.1 t.2.2.1)).1.length + 1 := by simp only [goN, hfs, List.length_cons]
          have hh : i + (goN s rules (d + 1) w).1.length = i + 1 + (goN s rules d (strW w t.2.1 t.2.2.1)).1.length := by omega
          rw [hh]
          rw [bdw_bdw, sol_bdw (f := f') hv, sol_sol] at e1
          rw [← e1]
          simp (disch := first | omega | assumption) only [f_X5_solve_L3, I_le, if_neg, hrc, g1', Option.bind_some, lit_I, I_10, if_false, r2, r3, B1.R hn.2 hf |>.rc, hst, I_add]
        · simp only [goN, hfs]; exact e2
/-- the solver goes on, to the end or so far -/
theorem cs_solve {rules L : Nat} {f : Nat → Int32} (hru : rules < 1000000) (hL : L < 2147483648) (D : DjB p ms s b) (C : CU h p mm ms s w b v ra ru) (B : BdC h b p f) (hf : ∀ c, c < nc s → f c = I (w c)) :
    ∃ f' q', f_X5_solve (some v) (some b) (I rules) (I L) h = some (I (goN s rules L w).1.length, sol (bdw h b f') v ra q') ∧ ∀ c, c < nc s → f' c = I ((goN s rules L w).2 c) := by
  have hmu := mu_le s w
  have hn := nc_le C.2.2.2.1
  obtain ⟨f', q', e1, e2⟩ := cs_solve3 (L := L) hru hL D 151 FU L 0 h w f C B hf (by omega) (by rw [FU_eq]; omega) (by omega)
  refine ⟨f', q', ?_, e2⟩
  rw [Nat.zero_add] at e1
  exact e1
end CW88
