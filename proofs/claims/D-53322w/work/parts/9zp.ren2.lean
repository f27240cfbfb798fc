/-! PLAIN LAW: the class: renumber: the members -/
set_option maxRecDepth 100000
theorem blTo_pre {t : Nat → Nat} {b c : Nat} : ∀ m, ∃ L, blTo t b (c + m) = blTo t b c ++ L := by
  intro m
  induction m with
  | zero => exact ⟨[], by simp⟩
  | succ m ih =>
    obtain ⟨L, hL⟩ := ih
    have e : blTo t b (c + m + 1) = if t (8 + (c + m)) = b then blTo t b (c + m) ++ [c + m] else blTo t b (c + m) := rfl
    rw [show c + (m + 1) = c + m + 1 by omega, e]
    split
    · exact ⟨L ++ [c + m], by rw [hL, List.append_assoc]⟩
    · exact ⟨L, hL⟩
theorem blTo_at {t : Nat → Nat} {b c n : Nat} (hc : c < n) (ht : t (8 + c) = b) : (blTo t b n)[(blTo t b c).length]? = some c := by
  obtain ⟨L, hL⟩ := blTo_pre (t := t) (b := b) (c := c + 1) (n - (c + 1))
  rw [show c + 1 + (n - (c + 1)) = n by omega] at hL
  have e : blTo t b (c + 1) = blTo t b c ++ [c] := by
    show (if t (8 + c) = b then _ else _) = _
    rw [if_pos ht]
  rw [hL, e, List.append_assoc, List.getElem?_append_right (Nat.le_refl _), Nat.sub_self]
  rfl
theorem map_set {α : Type} {G G' : Nat → α} {b n : Nat} {v : α} (h1 : ∀ j, j < n → j ≠ b → G j = G' j) (h2 : G' b = v) : ((List.range n).map G).set b v = (List.range n).map G' := by
  apply List.ext_getElem?
  intro j
  rw [List.getElem?_set]
  by_cases e : b = j
  · subst e
    rw [if_pos rfl]
    by_cases hb : b < n
    · rw [if_pos (by simpa using hb), List.getElem?_map, List.getElem?_range hb, ← h2]; rfl
    · rw [if_neg (by simpa using hb), List.getElem?_map, List.getElem?_eq_none (by simpa using Nat.le_of_not_lt hb)]; rfl
  · rw [if_neg e, List.getElem?_map, List.getElem?_map]
    by_cases hj : j < n
    · rw [List.getElem?_range hj]
      show some (G j) = some (G' j)
      rw [h1 j hj (Ne.symm e)]
    · rw [List.getElem?_eq_none (by simpa using Nat.le_of_not_lt hj)]; rfl
theorem ov_asr {h : PH} {l : List (PC × Nat)} {t i j m n : Nat} {f : Nat → Option Nat} {x : Option Nat} (hi : l[i]? = some (rar t m f, n)) (hj : j < m) (hm : m < 2147483648) (hx : eok t (ov h l) x = true) : asr t (some (hn h + i)) (I j) x (ov h l) = some (ov h (l.set i (rar t m (va_up f j x), n))) := by
  rw [asr_at (ov_at hi) hj hm hx, ov_set hi]
section REN2
variable {s : Nat → Nat}
theorem cnt_len (hP : PG' s) {b c : Nat} (hc : c ≤ nc s) : (blTo (sRen s) b c).length = cntR s c b := by
  rw [blTo_len]
  exact sumTo_congr (fun d hd => by rw [sRen_8 (by omega)])
/-- the members' arrays on the way down -/
def FR (s : Nat → Nat) (c b : Nat) : Nat → Int32 := fun i => if cntR s c b ≤ i then (match (blTo (sRen s) b (nc s))[i]? with | some x => I x | none => 0) else 0
theorem FR_top (hP : PG' s) {b : Nat} : FR s (nc s) b = fun _ => 0 := by
  funext i
  unfold FR
  split
  · rename_i h
    rw [← cnt_len hP (Nat.le_refl _)] at h
    rw [List.getElem?_eq_none h]
  · rfl
theorem FR_ne {c b : Nat} (h : rk s c ≠ b) : FR s c b = FR s (c + 1) b := by
  have e : cntR s (c + 1) b = cntR s c b := by
    show cntR s c b + (if rk s c = b then 1 else 0) = _
    rw [if_neg h]; rfl
  unfold FR; rw [e]
theorem FR_eq (hP : PG' s) {c : Nat} (hc : c < nc s) : FR s c (rk s c) = upd (FR s (c + 1) (rk s c)) (cntR s c (rk s c)) (I c) := by
  have e : cntR s (c + 1) (rk s c) = cntR s c (rk s c) + 1 := by
    show cntR s c (rk s c) + (if rk s c = rk s c then 1 else 0) = _
    rw [if_pos rfl]
  have ha := blTo_at (t := sRen s) (b := rk s c) hc (sRen_8 hc)
  rw [cnt_len hP (by omega)] at ha
  funext i
  simp only [upd]
  unfold FR
  rw [e]
  by_cases z : i = cntR s c (rk s c)
  · subst z
    rw [if_pos (Nat.le_refl _), if_pos rfl, ha]
  · rw [if_neg z]
    by_cases w : cntR s c (rk s c) ≤ i
    · rw [if_pos w, if_pos (by omega)]
    · rw [if_neg w, if_neg (by omega)]
theorem cntR_lt {c b : Nat} (hc : c < nc s) (hb : rk s c = b) : cntR s c b < cntR s (nc s) b := by
  have key : ∀ m, cntR s (c + 1) b ≤ cntR s (c + 1 + m) b := by
    intro m
    induction m with
    | zero => exact Nat.le_refl _
    | succ m ih =>
      show _ ≤ cntR s (c + 1 + m) b + _
      omega
  have := key (nc s - (c + 1))
  rw [show c + 1 + (nc s - (c + 1)) = nc s by omega] at this
  have e : cntR s (c + 1) b = cntR s c b + (if rk s c = b then 1 else 0) := rfl
  rw [if_pos hb] at e
  omega
theorem cntR_le (c b : Nat) : cntR s c b ≤ c := by
  have : ∀ c, cntR s c b ≤ c := by
    intro c
    induction c with
    | zero => exact Nat.le_refl _
    | succ c ih =>
      have e : cntR s (c + 1) b = cntR s c b + (if rk s c = b then 1 else 0) := rfl
      rw [e]; split <;> omega
  exact this c
theorem rk_lt_all (hP : PG' s) {c : Nat} (hc : c < nc s) : rk s c < rkTo s (nc s) := by
  have h := fst_spec hc
  have hm := rkTo_mono (s := s) (show fst s c + 1 ≤ nc s by omega)
  have e : rkTo s (fst s c + 1) = rkTo s (fst s c) + bit (isF s (fst s c) = true) := rfl
  have hf : isF s (fst s c) = true := by simp [isF, fst_fst hc]
  rw [bit_t hf] at e
  unfold rk; omega
/-- the members' cells -/
def LM (n0 n j : Nat) (sz : Nat → Nat) (G : Nat → Nat → Int32) : List (PC × Nat) := (rar 3 n (fun b => if b < j then some (n0 + 1 + b) else none), n) :: (List.range j).map (fun b => (nar 0 (sz b) (G b), sz b))
variable {Hb : PH} {p ca : Nat} {g : Nat → Int32}
theorem ren_L120 {n : Nat} {sz : Nat → Nat} (hp : Hb.1 p = some (pgm p (I (s 0)) (I (s 1)) (some (hn Hb)))) (hpl : p < hn Hb) (hca : Hb.1 ca = some (nar 0 25 (fun b => I (sz b)))) (hcl : ca < hn Hb) (hn25 : n ≤ 25) (hsz : ∀ b, sz b ≤ 25) :
    f_X3_renumber_L120 FU (some p) (some ca) (I 0) (ov Hb (LM (hn Hb) n 0 sz (fun _ _ => 0))) = (rcv 3 (some p) (ov Hb (LM (hn Hb) n n sz (fun _ _ => 0)))).bind (fun _ => (f_X3_cells (some p) (ov Hb (LM (hn Hb) n n sz (fun _ _ => 0)))).bind (fun q4 => f_X3_renumber_L153 FU (some p) (some ca) (q4.1 - 1) q4.2)) := by
  have r6 : ∀ l, gfr 3 6 (some p) (ov Hb l) = some (some (hn Hb + 0)) := fun l => by rw [ov_gfr_o hpl]; exact gfr_at (x := some (hn Hb)) hp rfl
  have hl0 : ∀ j, (LM (hn Hb) n j sz (fun _ _ => 0))[0]? = some (rar 3 n (fun b => if b < j then some (hn Hb + 1 + b) else none), n) := fun j => rfl
  have ra : ∀ j, aln 3 (some (hn Hb + 0)) (ov Hb (LM (hn Hb) n j sz (fun _ _ => 0))) = some (I n) := fun j => aln_at (ov_at (hl0 j))
  have rc : ∀ j l, j < 25 → ald 0 (some ca) (I j) (ov Hb l) = some (I (sz j)) := fun j l hj => by
    rw [ov_ald_o hcl]; exact ald_at hca hj (by decide)
  have hlen : ∀ j, (LM (hn Hb) n j sz (fun _ _ => 0)).length = 1 + j := fun j => by simp [LM]; omega
  refine loop_FU (fun k (j : Nat) => f_X3_renumber_L120 k (some p) (some ca) (I j) (ov Hb (LM (hn Hb) n j sz (fun _ _ => 0)))) (fun j => j) n _ (by omega) (fun k j hj => ?_) (fun k => ?_)
  · have hle : ¬ I n ≤ I j := by rw [I_le (by omega) (by omega)]; omega
    have e1 := ov_nwi (h := Hb) (l := LM (hn Hb) n j sz (fun _ _ => 0)) (t := 0) (k := sz j) (by have := hsz j; omega)
    rw [hlen] at e1
    have hnew0 : (LM (hn Hb) n j sz (fun _ _ => 0) ++ [(nar 0 (sz j) (fun _ => 0), sz j)])[1 + j]? = some (nar 0 (sz j) (fun _ => 0), sz j) := by
      rw [List.getElem?_append_right (by rw [hlen]; omega), hlen, Nat.sub_self]; rfl
    have hok : eok 3 (ov Hb (LM (hn Hb) n j sz (fun _ _ => 0) ++ [(nar 0 (sz j) (fun _ => 0), sz j)])) (some (hn Hb + (1 + j))) = true := by
      have := ov_at (h := Hb) hnew0
      simp only [eok, cno, this]; rfl
    have e2 := ov_asr (h := Hb) (l := LM (hn Hb) n j sz (fun _ _ => 0) ++ [(nar 0 (sz j) (fun _ => 0), sz j)]) (i := 0) (t := 3) (j := j) (x := some (hn Hb + (1 + j))) rfl hj (by omega) hok
    have e3 : (LM (hn Hb) n j sz (fun _ _ => 0) ++ [(nar 0 (sz j) (fun _ => 0), sz j)]).set 0 (rar 3 n (va_up (fun b => if b < j then some (hn Hb + 1 + b) else none) j (some (hn Hb + (1 + j)))), n) = LM (hn Hb) n (j + 1) sz (fun _ _ => 0) := by
      unfold LM
      rw [List.range_succ, List.map_append]
      have : va_up (fun b => if b < j then some (hn Hb + 1 + b) else none) j (some (hn Hb + (1 + j))) = fun b => if b < j + 1 then some (hn Hb + 1 + b) else none := by
        funext b
        by_cases z : b = j
        · subst z; rw [va_up_self, if_pos (by omega)]; exact congrArg some (by omega)
        · rw [va_up_ne _ _ z]
          by_cases w : b < j
          · rw [if_pos w, if_pos (by omega)]
          · rw [if_neg w, if_neg (by omega)]
      rw [this]; rfl
    show f_X3_renumber_L120 (k + 1) _ _ (I j) (ov Hb (LM (hn Hb) n j sz (fun _ _ => 0))) = f_X3_renumber_L120 k _ _ (I (j + 1)) (ov Hb (LM (hn Hb) n (j + 1) sz (fun _ _ => 0)))
    rw [f_X3_renumber_L120, r6, Option.bind_some, ra, Option.bind_some, if_neg hle, Option.bind_some, rc j _ (by omega), Option.bind_some, e1, Option.bind_some, nn, Option.bind_some, e2, Option.bind_some, e3, show I j + 1 = I (j + 1) from I_add _ 1]
  · show f_X3_renumber_L120 (k + 1) _ _ (I n) (ov Hb (LM (hn Hb) n n sz (fun _ _ => 0))) = _
    rw [f_X3_renumber_L120, r6, Option.bind_some, ra, Option.bind_some, if_pos (by rw [I_le (by omega) (by omega)]; exact Nat.le_refl _)]
theorem ren_L153 (hP : PG' s) (hp : Hb.1 p = some (pgm p (I (s 0)) (I (s 1)) (some (hn Hb)))) (hpl : p + 1 < hn Hb) (hb1 : Hb.1 (p + 1) = some (nar 0 25 g)) (hg : ∀ c, c < nc s → g c = I (rk s c)) (hcl : ca < hn Hb) (hcp : ca ≠ p ∧ ca ≠ p + 1) (hca : ∃ d, Hb.1 ca = some d) :
    ∀ (c k : Nat), c ≤ nc s → c < k → f_X3_renumber_L153 k (some p) (some ca) (I c + (-1)) (ov (hset Hb ca (nar 0 25 (fun b => I (cntR s c b)))) (LM (hn Hb) (rkTo s (nc s)) (rkTo s (nc s)) (cntR s (nc s)) (FR s c))) = some (ov (hset Hb ca (nar 0 25 (fun b => I (cntR s 0 b)))) (LM (hn Hb) (rkTo s (nc s)) (rkTo s (nc s)) (cntR s (nc s)) (FR s 0))) := by
  have hnc := nc_le hP
  have hrk := rkTo_le s (nc s)
  intro c
  induction c with
  | zero =>
    intro k _ hk
    obtain ⟨k, rfl⟩ : ∃ k', k = k' + 1 := ⟨k - 1, by omega⟩
    rw [f_X3_renumber_L153, if_pos (by decide)]
  | succ c ih =>
    intro k hc hk
    obtain ⟨k, rfl⟩ : ∃ k', k = k' + 1 := ⟨k - 1, by omega⟩
    have hrl := rk_lt_all hP (show c < nc s by omega)
    have hcl2 := cntR_lt (s := s) (show c < nc s by omega) rfl
    have hc25 := cntR_le (s := s) (nc s) (rk s c)
    have ex : I (c + 1) + (-1) = I c := I_addM (a := c + 1) (b := 1) (by omega)
    have hnl : ¬ I c < (0 : Int32) := by rw [show (0 : Int32) = I 0 from rfl, I_lt (by omega) (by decide)]; omega
    have nh : ∀ d, hn (hset Hb ca d) = hn Hb := fun d => rfl
    have rp : ∀ d, (hset Hb ca d).1 p = some (pgm p (I (s 0)) (I (s 1)) (some (hn Hb))) := fun d => (hset_ne (Ne.symm hcp.1)).trans hp
    have r2 : ∀ d l, gfr 3 2 (some p) (ov (hset Hb ca d) l) = some (some (p + 1)) := fun d l => by rw [ov_gfr_o (by rw [nh]; omega)]; exact gfr_at (x := some (p + 1)) (rp d) rfl
    have r6 : ∀ d l, gfr 3 6 (some p) (ov (hset Hb ca d) l) = some (some (hn Hb + 0)) := fun d l => by rw [ov_gfr_o (by rw [nh]; omega)]; exact gfr_at (x := some (hn Hb)) (rp d) rfl
    have r3 : ∀ d l, rcv 3 (some p) (ov (hset Hb ca d) l) = some () := fun d l => by rw [ov_rcv_o (by rw [nh]; omega)]; exact rcv_at (rp d)
    have rb : ∀ d l, ald 0 (some (p + 1)) (I c) (ov (hset Hb ca d) l) = some (I (rk s c)) := fun d l => by
      rw [ov_ald_o (by rw [nh]; omega), ald_at ((hset_ne (Ne.symm hcp.2)).trans hb1) (by omega) (by decide), hg c (by omega)]
    have rca : ∀ j l, ald 0 (some ca) (I (rk s c)) (ov (hset Hb ca (nar 0 25 (fun b => I (cntR s j b)))) l) = some (I (cntR s j (rk s c))) := fun j l => by
      rw [ov_ald_o (by rw [nh]; omega), ald_at hset_at (by omega) (by decide)]
    have e0 : cntR s (c + 1) (rk s c) = cntR s c (rk s c) + 1 := by
      show cntR s c (rk s c) + (if rk s c = rk s c then 1 else 0) = _
      rw [if_pos rfl]
    have w1 : ∀ l, asi 0 (some ca) (I (rk s c)) (I (cntR s c (rk s c))) (ov (hset Hb ca (nar 0 25 (fun b => I (cntR s (c + 1) b)))) l) = some (ov (hset Hb ca (nar 0 25 (fun b => I (cntR s c b)))) l) := fun l => by
      have e1 : (ov (hset Hb ca (nar 0 25 (fun b => I (cntR s (c + 1) b)))) l).1 ca = some (nar 0 25 (fun b => I (cntR s (c + 1) b))) := (ov_old (by rw [nh]; omega)).trans hset_at
      rw [asi_at e1 (by omega) (by decide), ov_hset (by rw [nh]; omega), hset_hset]
      have : upd (fun b => I (cntR s (c + 1) b)) (rk s c) (I (cntR s c (rk s c))) = fun b => I (cntR s c b) := by
        funext b
        simp only [upd]
        by_cases z : b = rk s c
        · subst z; rw [if_pos rfl]
        · rw [if_neg z]
          have : cntR s (c + 1) b = cntR s c b + (if rk s c = b then 1 else 0) := rfl
          rw [this, if_neg (Ne.symm z)]; rfl
      rw [this]
    have rm : alr 3 (some (hn Hb + 0)) (I (rk s c)) (ov (hset Hb ca (nar 0 25 (fun b => I (cntR s c b)))) (LM (hn Hb) (rkTo s (nc s)) (rkTo s (nc s)) (cntR s (nc s)) (FR s (c + 1)))) = some (some (hn Hb + (1 + rk s c))) := by
      have e1 : (ov (hset Hb ca (nar 0 25 (fun b => I (cntR s c b)))) (LM (hn Hb) (rkTo s (nc s)) (rkTo s (nc s)) (cntR s (nc s)) (FR s (c + 1)))).1 (hn Hb + 0) = some (rar 3 (rkTo s (nc s)) (fun b => if b < rkTo s (nc s) then some (hn Hb + 1 + b) else none)) := ov_at (h := hset Hb ca (nar 0 25 (fun b => I (cntR s c b)))) (i := 0) rfl
      rw [alr_at e1 hrl (by omega), if_pos hrl]
      exact congrArg (fun z => some (some z)) (by omega)
    have hli : (LM (hn Hb) (rkTo s (nc s)) (rkTo s (nc s)) (cntR s (nc s)) (FR s (c + 1)))[1 + rk s c]? = some (nar 0 (cntR s (nc s) (rk s c)) (FR s (c + 1) (rk s c)), cntR s (nc s) (rk s c)) := by
      unfold LM
      rw [show 1 + rk s c = rk s c + 1 by omega, List.getElem?_cons_succ, List.getElem?_map, List.getElem?_range hrl]; rfl
    have w2 : asi 0 (some (hn Hb + (1 + rk s c))) (I (cntR s c (rk s c))) (I c) (ov (hset Hb ca (nar 0 25 (fun b => I (cntR s c b)))) (LM (hn Hb) (rkTo s (nc s)) (rkTo s (nc s)) (cntR s (nc s)) (FR s (c + 1)))) = some (ov (hset Hb ca (nar 0 25 (fun b => I (cntR s c b)))) (LM (hn Hb) (rkTo s (nc s)) (rkTo s (nc s)) (cntR s (nc s)) (FR s c))) := by
      have := ov_asi (h := hset Hb ca (nar 0 25 (fun b => I (cntR s c b)))) (x := I c) hli hcl2 (by omega)
      rw [nh] at this
      rw [this]
      congr 2
      unfold LM
      rw [show 1 + rk s c = rk s c + 1 by omega, List.set_cons_succ]
      congr 1
      refine map_set (fun j hj hne => by rw [FR_ne (Ne.symm hne)]) ?_
      rw [FR_eq hP (by omega)]
    rw [f_X3_renumber_L153, ex, if_neg hnl, r2, Option.bind_some, rb, Option.bind_some, rca, Option.bind_some, e0, show I (cntR s c (rk s c) + 1) - 1 = I (cntR s c (rk s c)) from I_sub (b := 1) (by omega), w1, Option.bind_some, r3, Option.bind_some]
    have hmem : f_X3_members (some p) (I c) (ov (hset Hb ca (nar 0 25 (fun b => I (cntR s c b)))) (LM (hn Hb) (rkTo s (nc s)) (rkTo s (nc s)) (cntR s (nc s)) (FR s (c + 1)))) = some (some (hn Hb + (1 + rk s c)), ov (hset Hb ca (nar 0 25 (fun b => I (cntR s c b)))) (LM (hn Hb) (rkTo s (nc s)) (rkTo s (nc s)) (cntR s (nc s)) (FR s (c + 1)))) := by
      unfold f_X3_members
      rw [r6, Option.bind_some, r2, Option.bind_some, rb, Option.bind_some, rm, Option.bind_some]
    rw [hmem, Option.bind_some, r2, Option.bind_some, rb, Option.bind_some, rca, Option.bind_some, w2, Option.bind_some]
    exact ih k (by omega) (by omega)
end REN2
