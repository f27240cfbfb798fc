/-! PLAIN LAW: heaps with new cells behind -/
set_option maxRecDepth 100000
/-- the heap h and behind it the cells l, each with its slots -/
def ov (h : PH) (l : List (PC × Nat)) : PH := (fun a => if a < hn h then h.1 a else match l[a - hn h]? with | some c => some c.1 | none => h.1 a, hn h + l.length, hs h + (l.map Prod.snd).sum, hg h)
section OV
variable {h : PH} {l : List (PC × Nat)} {a i n ci t k : Nat}
theorem ov_hn : hn (ov h l) = hn h + l.length := rfl
theorem ov_hs : hs (ov h l) = hs h + (l.map Prod.snd).sum := rfl
theorem ov_hg : hg (ov h l) = hg h := rfl
theorem ov_nil : ov h [] = h := by
  unfold ov
  have : (fun a => if a < hn h then h.1 a else match ([] : List (PC × Nat))[a - hn h]? with | some c => some c.1 | none => h.1 a) = h.1 := by
    funext a; simp
  rw [this]; rfl
theorem ov_old (ha : a < hn h) : (ov h l).1 a = h.1 a := by simp [ov, ha]
theorem ov_at {c : PC} (hi : l[i]? = some (c, n)) : (ov h l).1 (hn h + i) = some c := by
  have : ¬ hn h + i < hn h := by omega
  simp [ov, hi, this]
theorem ov_new {c : PC} : hnew (ov h l) c n = ov h (l ++ [(c, n)]) := by
  unfold hnew
  rw [ov_hn, ov_hs, ov_hg]
  unfold ov
  refine congr (congrArg Prod.mk (funext fun a => ?_)) (congr (congrArg Prod.mk ?_) (congr (congrArg Prod.mk ?_) rfl))
  · by_cases e : a = hn h + l.length
    · subst e
      have : ¬ hn h + l.length < hn h := by omega
      simp [this]
    · simp only [e, if_false]
      by_cases e2 : a < hn h
      · simp [e2]
      · simp only [e2, if_false]
        by_cases e3 : a - hn h < l.length
        · rw [List.getElem?_append_left e3]
        · rw [List.getElem?_eq_none (by omega), List.getElem?_eq_none (by simp; omega)]
  · simp; omega
  · simp; omega
theorem ov_set {c d : PC} (hi : l[i]? = some (c, n)) : hset (ov h l) (hn h + i) d = ov h (l.set i (d, n)) := by
  have hil : i < l.length := (List.getElem?_eq_some_iff.mp hi).1
  unfold hset
  refine congr (congrArg Prod.mk (funext fun a => ?_)) ?_
  · by_cases e : a = hn h + i
    · subst e
      have : ¬ hn h + i < hn h := by omega
      simp [ov, hil, this]
    · simp only [e, if_false, ov]
      by_cases e2 : a < hn h
      · simp [e2]
      · simp only [e2, if_false]
        rw [List.getElem?_set_ne (by omega)]
  · unfold ov
    refine congr (congrArg Prod.mk ?_) (congr (congrArg Prod.mk ?_) rfl)
    · simp
    · have : (l.set i (d, n)).map Prod.snd = l.map Prod.snd := by
        rw [List.map_set]
        have h2 : (l.map Prod.snd)[i]? = some n := by simp [hi]
        apply List.ext_getElem?
        intro j
        by_cases e : j = i
        · subst e; rw [List.getElem?_set_self (by simpa using hil), h2]
        · rw [List.getElem?_set_ne (Ne.symm e)]
      rw [this]
theorem ov_hset {c : PC} (ha : a < hn h) : hset (ov h l) a c = ov (hset h a c) l := by
  unfold hset ov
  refine congr (congrArg Prod.mk (funext fun x => ?_)) rfl
  show (if x = a then some c else if x < hn h then h.1 x else _) = (if x < hn h then (if x = a then some c else h.1 x) else (match l[x - hn h]? with | some d => some d.1 | none => (if x = a then some c else h.1 x)))
  by_cases e : x = a
  · subst e; simp only [if_true, if_pos ha]
  · simp only [e, if_false]
theorem ov_ov {l2 : List (PC × Nat)} : ov (ov h l) l2 = ov h (l ++ l2) := by
  unfold ov
  refine congr (congrArg Prod.mk (funext fun a => ?_)) (congr (congrArg Prod.mk ?_) (congr (congrArg Prod.mk ?_) rfl))
  · show (if a < hn h + l.length then _ else _) = _
    by_cases e : a < hn h
    · simp [e, show a < hn h + l.length by omega]
    · by_cases e2 : a < hn h + l.length
      · simp only [e, e2, if_true, if_false]
        rw [List.getElem?_append_left (by omega)]
      · simp only [e, e2, if_false]
        rw [List.getElem?_append_right (by omega), List.getElem?_eq_none (l := l) (by omega)]
        have : a - hn (ov h l) = a - hn h - l.length := by rw [ov_hn]; omega
        show (match l2[a - (hn h + l.length)]? with | some c => some c.1 | none => h.1 a) = _
        rw [show a - (hn h + l.length) = a - hn h - l.length by omega]
  · show hn h + l.length + l2.length = _; simp; omega
  · show hs h + (l.map Prod.snd).sum + (l2.map Prod.snd).sum = _; simp; omega
theorem ov_nwO {fs : List Value} : nwO ci n fs (ov h l) = some (some (hn h + l.length), ov h (l ++ [(.inr (ci, fs), n)])) := by
  rw [nwO_at, ov_new]; rfl
theorem ov_nwi (hk : k ≤ 100000) : nwi t (I k) (ov h l) = some (some (hn h + l.length), ov h (l ++ [(nar t k (fun _ => 0), k)])) := by
  rw [nwi_at hk, ov_new]; rfl
theorem ov_nwr (hk : k ≤ 100000) : nwr t (I k) (ov h l) = some (some (hn h + l.length), ov h (l ++ [(rar t k (fun _ => none), k)])) := by
  rw [nwr_at hk, ov_new]; rfl
theorem ov_pf {fs : List Value} {x : Value} (hi : l[i]? = some (.inr (ci, fs), n)) (hk : k < fs.length) : pf ci k (some (hn h + i)) x (ov h l) = some (ov h (l.set i (.inr (ci, fs.set k x), n))) := by
  rw [pf_at (ov_at hi) hk, ov_set hi]
theorem ov_gfi {fs : List Value} {x : Int32} (hi : l[i]? = some (.inr (ci, fs), n)) (hk : fs[k]? = some (.int x)) : gfi ci k (some (hn h + i)) (ov h l) = some x := gfi_at (ov_at hi) hk
theorem ov_gfr {fs : List Value} {x : Option Nat} (hi : l[i]? = some (.inr (ci, fs), n)) (hk : fs[k]? = some (va_rf x)) : gfr ci k (some (hn h + i)) (ov h l) = some x := gfr_at (ov_at hi) hk
theorem ov_rcv {fs : List Value} (hi : l[i]? = some (.inr (ci, fs), n)) : rcv ci (some (hn h + i)) (ov h l) = some () := rcv_at (ov_at hi)
theorem ov_ald {f : Nat → Int32} {j m : Nat} (hi : l[i]? = some (nar t m f, n)) (hj : j < m) (hm : m < 2147483648) : ald t (some (hn h + i)) (I j) (ov h l) = some (f j) := ald_at (ov_at hi) hj hm
theorem ov_asi {f : Nat → Int32} {j m : Nat} {x : Int32} (hi : l[i]? = some (nar t m f, n)) (hj : j < m) (hm : m < 2147483648) : asi t (some (hn h + i)) (I j) x (ov h l) = some (ov h (l.set i (nar t m (upd f j x), n))) := by
  rw [asi_at (ov_at hi) hj hm, ov_set hi]
/-! the same, computed -/
def ovpf (ci k i : Nat) (x : Value) (h : PH) (l : List (PC × Nat)) : Option PH := match l[i]? with
  | some (.inr (c, fs), n) => if c = ci ∧ k < fs.length then some (ov h (l.set i (.inr (ci, fs.set k x), n))) else none
  | some (.inl _, _) => none
  | none => pf ci k (some (hn h + i)) x (ov h l)
theorem ov_pfC {x : Value} : pf ci k (some (hn h + i)) x (ov h l) = ovpf ci k i x h l := by
  unfold ovpf
  cases e : l[i]? with
  | none => rfl
  | some c =>
    obtain ⟨c, n⟩ := c
    cases c with
    | inl o => simp [pf, ov_at e]
    | inr o =>
      obtain ⟨c, fs⟩ := o
      simp only
      by_cases q : c = ci ∧ k < fs.length
      · obtain ⟨rfl, q2⟩ := q
        rw [ov_pf e q2, if_pos ⟨rfl, q2⟩]
      · rw [if_neg q]; simp [pf, ov_at e, q]
def ovob (ci i : Nat) (h : PH) (l : List (PC × Nat)) : Option (List Value) := match l[i]? with
  | some (.inr (c, fs), n) => if c = ci then some fs else none
  | some (.inl _, _) => none
  | none => ob ci (some (hn h + i)) (ov h l)
theorem ov_obC : ob ci (some (hn h + i)) (ov h l) = ovob ci i h l := by
  unfold ovob
  cases e : l[i]? with
  | none => rfl
  | some c =>
    obtain ⟨c, n⟩ := c
    cases c with
    | inl o => simp [ob, lk_own (ov_at e)]
    | inr o => simp [ob, lk_own (ov_at e)]
theorem ov_gfiC : gfi ci k (some (hn h + i)) (ov h l) = (ovob ci i h l).bind fun fs => (fs[k]?).bind vI := by simp only [gfi, ov_obC]
theorem ov_gfrC : gfr ci k (some (hn h + i)) (ov h l) = (ovob ci i h l).bind fun fs => (fs[k]?).bind vR := by simp only [gfr, ov_obC]
theorem rcv_ob {x : Option Nat} : rcv ci x h = (ob ci x h).map fun _ => () := by
  cases x with
  | none => rfl
  | some a =>
    cases e : lk h a with
    | none => simp [rcv, clo, ob, e]
    | some c => cases c with
      | inl o => simp [rcv, clo, ob, e]
      | inr o => by_cases e2 : o.1 = ci <;> simp [rcv, clo, ob, e, e2]
theorem ov_rcvC : rcv ci (some (hn h + i)) (ov h l) = (ovob ci i h l).map fun _ => () := by rw [rcv_ob, ov_obC]
def ovasi (t i : Nat) (j x : Int32) (h : PH) (l : List (PC × Nat)) : Option PH := match l[i]? with
  | some (.inl (t', m, .inl f), n) => if t' = t ∧ inb j m then some (ov h (l.set i (nar t m (upd f j.toNatClampNeg x), n))) else none
  | some _ => none
  | none => asi t (some (hn h + i)) j x (ov h l)
theorem ov_asiC {j x : Int32} : asi t (some (hn h + i)) j x (ov h l) = ovasi t i j x h l := by
  unfold ovasi
  cases e : l[i]? with
  | none => rfl
  | some c =>
    obtain ⟨c, n⟩ := c
    have e2 := ov_at (h := h) e
    cases c with
    | inr o => simp [asi, e2]
    | inl o =>
      obtain ⟨t', m, o⟩ := o
      cases o with
      | inr o => simp [asi, e2]
      | inl f =>
        simp only [asi, e2]
        by_cases q : t' = t ∧ inb j m
        · rw [if_pos q, if_pos q, ov_set e]
        · rw [if_neg q, if_neg q]
/-! old cells, read -/
theorem ov_lk (ha : a < hn h) : lk (ov h l) a = lk h a := by simp only [lk, ov_old ha]; rfl
theorem ov_clo (ha : a < hn h) : clo (some a) (ov h l) = clo (some a) h := by simp only [clo, ov_lk ha]
theorem ov_rcv_o (ha : a < hn h) : rcv ci (some a) (ov h l) = rcv ci (some a) h := by unfold rcv; rw [ov_clo ha]
theorem ov_ob (ha : a < hn h) : ob ci (some a) (ov h l) = ob ci (some a) h := by simp only [ob, ov_lk ha]
theorem ov_ar (ha : a < hn h) : ar t (some a) (ov h l) = ar t (some a) h := by simp only [ar, ov_lk ha]
theorem ov_gfi_o (ha : a < hn h) : gfi ci k (some a) (ov h l) = gfi ci k (some a) h := by simp only [gfi, ov_ob ha]
theorem ov_gfr_o (ha : a < hn h) : gfr ci k (some a) (ov h l) = gfr ci k (some a) h := by simp only [gfr, ov_ob ha]
theorem ov_aln_o (ha : a < hn h) : aln t (some a) (ov h l) = aln t (some a) h := by simp only [aln, ov_ar ha]
theorem ov_ald_o {j : Int32} (ha : a < hn h) : ald t (some a) j (ov h l) = ald t (some a) j h := by simp only [ald, ov_ar ha]
theorem ov_alr_o {j : Int32} (ha : a < hn h) : alr t (some a) j (ov h l) = alr t (some a) j h := by simp only [alr, ov_ar ha]
/-! rows copied -/
def cut (n : Nat) (f : Nat → Int32) : Nat → Int32 := fun j => if j < n then f j else 0
theorem cut_lt {f : Nat → Int32} {j : Nat} (hj : j < n) : cut n f j = f j := by simp [cut, hj]
theorem cpy_cut {f : Nat → Int32} : va_cpy f (fun _ => 0) 0 0 n = cut n f := by
  funext j
  unfold va_cpy cut
  by_cases e : j < n
  · simp [e]
  · simp [e]
theorem cpy_cut2 {f g : Nat → Int32} (hg : ∀ j, n ≤ j → g j = 0) : va_cpy f g 0 0 n = cut n f := by
  funext j
  unfold va_cpy cut
  by_cases e : j < n
  · simp [e]
  · simp [e, hg j (by omega)]
theorem fits0 (x : Int32) : (ptyl[0]?).any (fun ty => fits ty (.int x)) = true := rfl
theorem fits1 {x : Int32} (hx : x = 0 ∨ x = 1) : (ptyl[1]?).any (fun ty => fits ty (.int x)) = true := by
  rcases hx with rfl | rfl <;> rfl
theorem aci_at {src : Option Nat} {f g : Nat → Int32} {n0 n1 : Nat} (hs : ar t src h = some (n0, .inl f)) (hd : h.1 a = some (nar t n1 g)) (h0 : k ≤ n0) (h1 : k ≤ n1) (hk : k < 2147483648) (hf : ∀ j, j < k → (ptyl[t]?).any (fun ty => fits ty (.int (f j))) = true) : aci t src (I 0) (some a) (I 0) (I k) h = some (hset h a (nar t n1 (va_cpy f g 0 0 k))) := by
  simp only [aci, hs, hd]
  have e0 : (I 0).toInt = 0 := rfl
  have ek : (I k).toInt = k := I_toInt hk
  have e1 : (I 0).toNatClampNeg = 0 := rfl
  have e2 := I_clamp hk
  rw [e0, ek, e1, e2]
  rw [if_pos ⟨trivial, by omega, by omega, by omega, by omega, by omega, fun j hj => by rw [Nat.zero_add]; exact hf j hj⟩]
theorem ov_aci {src : Option Nat} {f g : Nat → Int32} {n0 n1 : Nat} (hs : ar t src (ov h l) = some (n0, .inl f)) (hi : l[i]? = some (nar t n1 g, n)) (h0 : k ≤ n0) (h1 : k ≤ n1) (hk : k < 2147483648) (hf : ∀ j, j < k → (ptyl[t]?).any (fun ty => fits ty (.int (f j))) = true) : aci t src (I 0) (some (hn h + i)) (I 0) (I k) (ov h l) = some (ov h (l.set i (nar t n1 (va_cpy f g 0 0 k), n))) := by
  rw [aci_at hs (ov_at hi) h0 h1 hk hf, ov_set hi]
theorem acr_at {src : Option Nat} {f g : Nat → Option Nat} {n0 n1 : Nat} (hs : ar t src h = some (n0, .inr (.inr (.inr (.inr f))))) (hd : h.1 a = some (rar t n1 g)) (h0 : k ≤ n0) (h1 : k ≤ n1) (hk : k < 2147483648) (hf : ∀ j, j < k → eok t h (f j) = true) : acr t src (I 0) (some a) (I 0) (I k) h = some (hset h a (rar t n1 (va_cpy f g 0 0 k))) := by
  simp only [acr, hs, hd]
  have e0 : (I 0).toInt = 0 := rfl
  have ek : (I k).toInt = k := I_toInt hk
  have e1 : (I 0).toNatClampNeg = 0 := rfl
  have e2 := I_clamp hk
  rw [e0, ek, e1, e2]
  rw [if_pos ⟨trivial, by omega, by omega, by omega, by omega, by omega, fun j hj => by rw [Nat.zero_add]; exact hf j hj⟩]
theorem ar_at {x : vp_A} (hc : h.1 a = some (.inl (t, x))) : ar t (some a) h = some x := by simp only [ar, lk_own hc, if_true]
end OV
