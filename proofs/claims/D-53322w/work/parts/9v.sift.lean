/-! PLAIN LAW: the class: sifting -/
set_option maxRecDepth 100000
theorem I_half {a : Nat} (ha : a < 2147483648) : ((I a).toUInt32 >>> ((1 : Int32).toUInt32 &&& (31 : Int32).toUInt32)).toInt32 = I (a / 2) := by
  have := I_ushr (a := a) (k := 1) (by omega) (by decide)
  rw [show a >>> 1 = a / 2 from Nat.shiftRight_eq_div_pow a 1] at this
  exact this
/-- what may be stored -/
def EQ (kd : Nat) (h0 : PH) (κ : Nat → Nat) (ea e : Nat) : Prop := ELX kd h0 κ e ∧ e ≠ ea
theorem EQ_eok {kd ea e : Nat} {h0 : PH} {κ : Nat → Nat} {c : PC} (E : EQ kd h0 κ ea e) : eok 6 (hset h0 ea c) (some e) = true := by
  obtain ⟨⟨c1, v1, a1, -⟩, a2⟩ := E
  have : (hset h0 ea c).1 e = some (.inr (elC kd, [.int (I c1), .int (I v1)])) := (hset_ne a2).trans a1
  simp only [eok, cno, this]
  unfold elC; split <;> rfl
theorem EQ_el {kd ea e : Nat} {h0 : PH} {κ : Nat → Nat} {c : PC} (E : EQ kd h0 κ ea e) : ELX kd (hset h0 ea c) κ e := by
  obtain ⟨⟨c1, v1, a1, a3⟩, a2⟩ := E
  exact ⟨c1, v1, (hset_ne a2).trans a1, a3⟩
section SIFT
variable {kd cm ea cap n : Nat} {h0 : PH} {κ : Nat → Nat}
theorem pq_up {x : Nat} (hk : kdOK kd) (hc : h0.1 cm = some (.inr (kd, []))) (hce : cm ≠ ea) (hcap : cap < 1000000) (hn' : n < cap) :
    ∀ (k pos : Nat) (q : Nat → Nat) (fe : Nat → Option Nat), pos < k → pos ≤ n → (∀ i, i ≤ n → EQ kd h0 κ ea (q i)) → (∀ i, i ≤ n → i ≠ pos → fe i = some (q i)) → q pos = x →
    (∀ i, 0 < i → i ≤ n → i ≠ pos → κ (q (par i)) ≤ κ (q i)) → (∀ i, 0 < i → i ≤ n → par i = pos → 0 < pos → κ (q (par pos)) ≤ κ (q i)) →
    ∃ fe' q', f_J20_siftUpUsingComparator_L0 k (I pos) (some x) (some ea) (some cm) (hset h0 ea (rar 6 cap fe)) = some (hset h0 ea (rar 6 cap fe')) ∧ (∀ i, i ≤ n → fe' i = some (q' i)) ∧ HP κ q' (n + 1) ∧ (∀ y, cnt q' (n + 1) y = cnt q (n + 1) y) ∧ (∀ i, n < i → fe' i = fe i) := by
  intro k
  induction k with
  | zero => intro pos q fe h1; omega
  | succ k ih =>
    intro pos q fe h1 h2 hE hfe hx hA hB
    have fin : (∀ i, 0 < i → i ≤ n → κ (q (par i)) ≤ κ (q i)) → ∃ fe' q', f_J20_siftUpUsingComparator_B43 (I pos) (some x) (some ea) (hset h0 ea (rar 6 cap fe)) = some (hset h0 ea (rar 6 cap fe')) ∧ (∀ i, i ≤ n → fe' i = some (q' i)) ∧ HP κ q' (n + 1) ∧ (∀ y, cnt q' (n + 1) y = cnt q (n + 1) y) ∧ (∀ i, n < i → fe' i = fe i) := by
      intro hh
      refine ⟨va_up fe pos (some x), q, ?_, fun i hi => ?_, fun i h3 h4 => hh i h3 (by omega), fun y => rfl, fun i hi => va_up_ne _ _ (by omega)⟩
      · have e := asr_at (h := hset h0 ea (rar 6 cap fe)) (t := 6) (a := ea) (i := pos) (x := some x) hset_at (by omega) (by omega) (by rw [← hx]; exact EQ_eok (hE pos h2))
        unfold f_J20_siftUpUsingComparator_B43
        rw [e, Option.bind_some, hset_hset]
      · by_cases e : i = pos
        · subst e; rw [va_up_self, hx]
        · rw [va_up_ne _ _ e]; exact hfe i hi e
    rw [f_J20_siftUpUsingComparator_L0]
    by_cases hp : pos = 0
    · subst hp
      rw [if_pos (by decide)]
      exact fin (fun i h3 h4 => hA i h3 h4 (by omega))
    · rw [if_neg (by rw [show (0 : Int32) = I 0 from rfl, I_le (by omega) (by decide)]; omega), show I pos - 1 = I (pos - 1) from I_sub (b := 1) (by omega), I_half (by omega)]
      have hpp : par pos < pos := by unfold par; omega
      have e1 : alr 6 (some ea) (I ((pos - 1) / 2)) (hset h0 ea (rar 6 cap fe)) = some (some (q (par pos))) := by
        rw [alr_at hset_at (by omega) (by omega)]
        exact congrArg some (hfe (par pos) (by omega) (by omega))
      rw [e1, Option.bind_some]
      have hc' : (hset h0 ea (rar 6 cap fe)).1 cm = some (.inr (kd, [])) := (hset_ne hce).trans hc
      have hcmp := cmp_all (h := hset h0 ea (rar 6 cap fe)) (e1 := x) (e2 := q (par pos)) hk hc' (by rw [← hx]; exact EQ_el (hE pos h2)) (EQ_el (hE (par pos) (by omega)))
      rw [cmp_disp hk hc' (fun q2 => if q2.1 < 0 then (asr 6 (some ea) (I pos) (some (q (par pos))) q2.2).bind (fun h3 => f_J20_siftUpUsingComparator_L0 k (I ((pos - 1) / 2)) (some x) (some ea) (some cm) h3) else f_J20_siftUpUsingComparator_B43 (I pos) (some x) (some ea) q2.2), hcmp, Option.bind_some]
      by_cases hlt : κ x < κ (q (par pos))
      · rw [if_pos (by rw [sgn3_lt]; exact hlt)]
        have e2 := asr_at (h := hset h0 ea (rar 6 cap fe)) (t := 6) (a := ea) (i := pos) (x := some (q (par pos))) hset_at (by omega) (by omega) (EQ_eok (hE (par pos) (by omega)))
        rw [e2, Option.bind_some, hset_hset]
        have q'1 : nqs (nqs q pos (q (par pos))) (par pos) x pos = q (par pos) := by unfold nqs; rw [if_neg (by omega), if_pos rfl]
        have q'2 : nqs (nqs q pos (q (par pos))) (par pos) x (par pos) = x := by simp only [nqs, if_true]
        have q'3 : ∀ i, i ≠ pos → i ≠ par pos → nqs (nqs q pos (q (par pos))) (par pos) x i = q i := fun i h3 h4 => by unfold nqs; rw [if_neg h4, if_neg h3]
        have key := ih (par pos) (nqs (nqs q pos (q (par pos))) (par pos) x) (va_up fe pos (some (q (par pos)))) (by omega) (by omega) (fun i hi => ?_) (fun i hi hne => ?_) q'2 (fun i h3 h4 h5 => ?_) (fun i h3 h4 h5 h6 => ?_)
        · obtain ⟨fe', q', g1, g2, g3, g4, g5⟩ := key
          refine ⟨fe', q', g1, g2, g3, fun y => ?_, fun i hi => by rw [g5 i hi, va_up_ne _ _ (by omega)]⟩
          rw [g4 y]
          have := cnt_swap (q := q) (n := n + 1) (y := y) (i := pos) (j := par pos) (by omega) (by omega) (by omega)
          rw [hx] at this; exact this
        · by_cases z1 : i = pos
          · subst z1; rw [q'1]; exact hE (par i) (by omega)
          · by_cases z2 : i = par pos
            · rw [z2, q'2, ← hx]; exact hE pos h2
            · rw [q'3 i z1 z2]; exact hE i hi
        · by_cases z1 : i = pos
          · subst z1; rw [va_up_self, q'1]
          · rw [va_up_ne _ _ z1, q'3 i z1 hne]; exact hfe i hi z1
        · by_cases z1 : i = pos
          · subst z1; rw [q'1, q'2]; omega
          · rw [q'3 i z1 h5]
            by_cases z2 : par i = pos
            · rw [z2, q'1]; exact hB i h3 h4 z2 (by omega)
            · by_cases z3 : par i = par pos
              · rw [z3, q'2]
                have := hA i h3 h4 z1
                rw [z3] at this; omega
              · rw [q'3 _ z2 z3]; exact hA i h3 h4 z1
        · have hne1 : par (par pos) ≠ pos := by unfold par at *; omega
          have hne2 : par (par pos) ≠ par pos := by unfold par at *; omega
          rw [q'3 _ hne1 hne2]
          have hg := hA (par pos) h6 (by omega) (by omega)
          by_cases z1 : i = pos
          · subst z1; rw [q'1]; exact hg
          · by_cases z2 : i = par pos
            · exfalso; subst z2; unfold par at *; omega
            · rw [q'3 i z1 z2]
              have := hA i h3 h4 z1
              rw [h5] at this; omega
      · rw [if_neg (by rw [sgn3_lt]; exact hlt)]
        refine fin (fun i h3 h4 => ?_)
        by_cases z : i = pos
        · subst z; rw [hx]; omega
        · exact hA i h3 h4 z
theorem pq_b61 {pos ch x y : Nat} {r5 : Int32 → Option Nat → Option Nat → Int32 → Option Nat → Int32 → PH → Option PH} {x3 x5 : Int32} {fe : Nat → Option Nat} (hk : kdOK kd) (hc : h0.1 cm = some (.inr (kd, []))) (hce : cm ≠ ea) (hcap : cap < 1000000) (hp : pos < cap) (Ex : EQ kd h0 κ ea x) (Ey : EQ kd h0 κ ea y) :
    f_J20_siftDownUsingComparator_B61 r5 (I pos) (some x) (some ea) x3 (some cm) x5 (I ch) (some y) (hset h0 ea (rar 6 cap fe)) = if κ y < κ x then r5 (I ch) (some x) (some ea) x3 (some cm) x5 (hset h0 ea (rar 6 cap (va_up fe pos (some y)))) else some (hset h0 ea (rar 6 cap (va_up fe pos (some x)))) := by
  have hc' : (hset h0 ea (rar 6 cap fe)).1 cm = some (.inr (kd, [])) := (hset_ne hce).trans hc
  have hcmp := cmp_all (h := hset h0 ea (rar 6 cap fe)) (e1 := x) (e2 := y) hk hc' (EQ_el Ex) (EQ_el Ey)
  unfold f_J20_siftDownUsingComparator_B61
  rw [cmp_disp hk hc' (fun q1 => if 0 < q1.1 then (asr 6 (some ea) (I pos) (some y) q1.2).bind (fun h2 => r5 (I ch) (some x) (some ea) x3 (some cm) x5 h2) else f_J20_siftDownUsingComparator_B88 (I pos) (some x) (some ea) q1.2), hcmp, Option.bind_some]
  by_cases hlt : κ y < κ x
  · rw [if_pos (by rw [sgn3_gt]; exact hlt), if_pos hlt]
    have e2 := asr_at (h := hset h0 ea (rar 6 cap fe)) (t := 6) (a := ea) (i := pos) (x := some y) hset_at hp (by omega) (EQ_eok Ey)
    rw [e2, Option.bind_some, hset_hset]
  · rw [if_neg (by rw [sgn3_gt]; exact hlt), if_neg hlt]
    have e2 := asr_at (h := hset h0 ea (rar 6 cap fe)) (t := 6) (a := ea) (i := pos) (x := some x) hset_at hp (by omega) (EQ_eok Ex)
    unfold f_J20_siftDownUsingComparator_B88
    rw [e2, Option.bind_some, hset_hset]
theorem pq_down {x : Nat} (hk : kdOK kd) (hc : h0.1 cm = some (.inr (kd, []))) (hce : cm ≠ ea) (hcap : cap < 1000000) (hn' : n ≤ cap) :
    ∀ (k pos : Nat) (q : Nat → Nat) (fe : Nat → Option Nat), n < k + pos → pos < n → (∀ i, i < n → EQ kd h0 κ ea (q i)) → (∀ i, i < n → i ≠ pos → fe i = some (q i)) → q pos = x →
    (∀ i, 0 < i → i < n → par i ≠ pos → κ (q (par i)) ≤ κ (q i)) → (∀ i, 0 < i → i < n → par i = pos → 0 < pos → κ (q (par pos)) ≤ κ (q i)) →
    ∃ fe' q', f_J20_siftDownUsingComparator_L5 k (I pos) (some x) (some ea) (I n) (some cm) (I (n / 2)) (hset h0 ea (rar 6 cap fe)) = some (hset h0 ea (rar 6 cap fe')) ∧ (∀ i, i < n → fe' i = some (q' i)) ∧ HP κ q' n ∧ (∀ y, cnt q' n y = cnt q n y) ∧ (∀ i, n ≤ i → fe' i = fe i) := by
  intro k
  induction k with
  | zero => intro pos q fe h1 h2; omega
  | succ k ih =>
    intro pos q fe h1 h2 hE hfe hx hA hB
    have fin : (∀ i, 0 < i → i < n → κ (q (par i)) ≤ κ (q i)) → (∀ i, i < n → va_up fe pos (some x) i = some (q i)) ∧ HP κ q n ∧ (∀ y, cnt q n y = cnt q n y) ∧ (∀ i, n ≤ i → va_up fe pos (some x) i = fe i) := fun hh => by
      refine ⟨fun i hi => ?_, hh, fun y => rfl, fun i hi => va_up_ne _ _ (by omega)⟩
      by_cases e : i = pos
      · subst e; rw [va_up_self, hx]
      · rw [va_up_ne _ _ e]; exact hfe i hi e
    have Ex : EQ kd h0 κ ea x := by rw [← hx]; exact hE pos h2
    rw [f_J20_siftDownUsingComparator_L5]
    by_cases hp : n / 2 ≤ pos
    · rw [if_pos (by rw [I_le (by omega) (by omega)]; exact hp)]
      have e := asr_at (h := hset h0 ea (rar 6 cap fe)) (t := 6) (a := ea) (i := pos) (x := some x) hset_at (by omega) (by omega) (EQ_eok Ex)
      obtain ⟨g2, g3, g4, g5⟩ := fin (fun i h3 h4 => hA i h3 h4 (by unfold par; omega))
      refine ⟨va_up fe pos (some x), q, ?_, g2, g3, g4, g5⟩
      unfold f_J20_siftDownUsingComparator_B88
      rw [e, Option.bind_some, hset_hset]
    · rw [if_neg (by rw [I_le (by omega) (by omega)]; exact hp)]
      have e0 : (I pos <<< ((1 : Int32) &&& 31)) + 1 = I (2 * pos + 1) := by
        rw [show (1 : Int32) = I 1 from rfl, I_shl (by decide), I_add, Nat.shiftLeft_eq]; exact congrArg I (by omega)
      have hch : 2 * pos + 1 < n := by omega
      have e1 : alr 6 (some ea) (I (2 * pos + 1)) (hset h0 ea (rar 6 cap fe)) = some (some (q (2 * pos + 1))) := by
        rw [alr_at hset_at (by omega) (by omega)]
        exact congrArg some (hfe _ hch (by omega))
      have pch : par (2 * pos + 1) = pos := by unfold par; omega
      have pch2 : par (2 * pos + 2) = pos := by unfold par; omega
      -- the way down
      have step : ∀ ch, ch < n → par ch = pos → pos < ch → (∀ i, 0 < i → i < n → par i = pos → κ (q ch) ≤ κ (q i)) → ∃ fe' q', f_J20_siftDownUsingComparator_B61 (f_J20_siftDownUsingComparator_L5 k) (I pos) (some x) (some ea) (I n) (some cm) (I (n / 2)) (I ch) (some (q ch)) (hset h0 ea (rar 6 cap fe)) = some (hset h0 ea (rar 6 cap fe')) ∧ (∀ i, i < n → fe' i = some (q' i)) ∧ HP κ q' n ∧ (∀ y, cnt q' n y = cnt q n y) ∧ (∀ i, n ≤ i → fe' i = fe i) := by
        intro ch hchn hpar hpc hmin
        rw [pq_b61 hk hc hce hcap (by omega) Ex (hE ch hchn)]
        by_cases hlt : κ (q ch) < κ x
        · rw [if_pos hlt]
          have q'1 : nqs (nqs q pos (q ch)) ch x pos = q ch := by unfold nqs; rw [if_neg (by omega), if_pos rfl]
          have q'2 : nqs (nqs q pos (q ch)) ch x ch = x := by unfold nqs; rw [if_pos rfl]
          have q'3 : ∀ i, i ≠ pos → i ≠ ch → nqs (nqs q pos (q ch)) ch x i = q i := fun i h3 h4 => by unfold nqs; rw [if_neg h4, if_neg h3]
          have key := ih ch (nqs (nqs q pos (q ch)) ch x) (va_up fe pos (some (q ch))) (by omega) hchn (fun i hi => ?_) (fun i hi hne => ?_) q'2 (fun i h3 h4 h5 => ?_) (fun i h3 h4 h5 h6 => ?_)
          · obtain ⟨fe', q', g1, g2, g3, g4, g5⟩ := key
            refine ⟨fe', q', g1, g2, g3, fun y => ?_, fun i hi => by rw [g5 i hi, va_up_ne _ _ (by omega)]⟩
            rw [g4 y]
            have := cnt_swap (q := q) (n := n) (y := y) (i := pos) (j := ch) h2 hchn (by omega)
            rw [hx] at this; exact this
          · by_cases z1 : i = pos
            · subst z1; rw [q'1]; exact hE ch hchn
            · by_cases z2 : i = ch
              · rw [z2, q'2]; exact Ex
              · rw [q'3 i z1 z2]; exact hE i hi
          · by_cases z1 : i = pos
            · subst z1; rw [va_up_self, q'1]
            · rw [va_up_ne _ _ z1, q'3 i z1 hne]; exact hfe i hi z1
          · by_cases z2 : par i = pos
            · rw [z2, q'1]
              by_cases z3 : i = ch
              · rw [z3, q'2]; omega
              · have z4 : i ≠ pos := by intro e; subst e; unfold par at z2; omega
                rw [q'3 i z4 z3]; exact hmin i h3 h4 z2
            · rw [q'3 _ z2 h5]
              by_cases z1 : i = pos
              · subst z1; rw [q'1]; exact hB ch (by omega) hchn hpar (by omega)
              · by_cases z3 : i = ch
                · subst z3; exact absurd hpar z2
                · rw [q'3 i z1 z3]; exact hA i h3 h4 z2
          · rw [hpar, q'1]
            have z1 : i ≠ pos := by intro e; subst e; unfold par at h5 hpar; omega
            have z2 : i ≠ ch := by intro e; subst e; unfold par at h5; omega
            rw [q'3 i z1 z2]
            have := hA i h3 h4 (by rw [h5]; omega)
            rw [h5] at this; exact this
        · rw [if_neg hlt]
          obtain ⟨g2, g3, g4, g5⟩ := fin (fun i h3 h4 => by
            by_cases z : par i = pos
            · rw [z, hx]; have := hmin i h3 h4 z; omega
            · exact hA i h3 h4 z)
          exact ⟨_, q, rfl, g2, g3, g4, g5⟩
      rw [e0, e1, Option.bind_some, show I (2 * pos + 1) + 1 = I (2 * pos + 2) from I_add _ 1]
      by_cases hr : n ≤ 2 * pos + 2
      · rw [if_pos (by rw [I_le (by omega) (by omega)]; exact hr)]
        exact step _ hch pch (by omega) (fun i h3 h4 h5 => by
          have : i = 2 * pos + 1 := by unfold par at h5; omega
          rw [this]; exact Nat.le_refl _)
      · rw [if_neg (by rw [I_le (by omega) (by omega)]; exact hr)]
        have hch2 : 2 * pos + 2 < n := by omega
        have e2 : alr 6 (some ea) (I (2 * pos + 2)) (hset h0 ea (rar 6 cap fe)) = some (some (q (2 * pos + 2))) := by
          rw [alr_at hset_at (by omega) (by omega)]
          exact congrArg some (hfe _ hch2 (by omega))
        have hc' : (hset h0 ea (rar 6 cap fe)).1 cm = some (.inr (kd, [])) := (hset_ne hce).trans hc
        have hcmp := cmp_all (h := hset h0 ea (rar 6 cap fe)) (e1 := q (2 * pos + 1)) (e2 := q (2 * pos + 2)) hk hc' (EQ_el (hE _ hch)) (EQ_el (hE _ hch2))
        rw [e2, Option.bind_some, cmp_disp hk hc' (fun q3 => if q3.1 ≤ 0 then f_J20_siftDownUsingComparator_B61 (f_J20_siftDownUsingComparator_L5 k) (I pos) (some x) (some ea) (I n) (some cm) (I (n / 2)) (I (2 * pos + 1)) (some (q (2 * pos + 1))) q3.2 else (alr 6 (some ea) (I (2 * pos + 2)) q3.2).bind (fun t4 => f_J20_siftDownUsingComparator_B61 (f_J20_siftDownUsingComparator_L5 k) (I pos) (some x) (some ea) (I n) (some cm) (I (n / 2)) (I (2 * pos + 2)) t4 q3.2)), hcmp, Option.bind_some]
        by_cases hle : κ (q (2 * pos + 1)) ≤ κ (q (2 * pos + 2))
        · rw [if_pos (by rw [sgn3_le]; exact hle)]
          exact step _ hch pch (by omega) (fun i h3 h4 h5 => by
            have : i = 2 * pos + 1 ∨ i = 2 * pos + 2 := by unfold par at h5; omega
            rcases this with e | e <;> rw [e]
            · exact Nat.le_refl _
            · exact hle)
        · rw [if_neg (by rw [sgn3_le]; exact hle), e2, Option.bind_some]
          exact step _ hch2 pch2 (by omega) (fun i h3 h4 h5 => by
            have : i = 2 * pos + 1 ∨ i = 2 * pos + 2 := by unfold par at h5; omega
            rcases this with e | e <;> rw [e]
            · omega
            · exact Nat.le_refl _)
end SIFT
