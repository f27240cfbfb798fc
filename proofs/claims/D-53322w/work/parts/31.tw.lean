/-! PLAIN LAW: the reference's object and its arrays, over a heap -/
set_option maxRecDepth 100000
/-- lengths of the arrays, by the order of their making -/
def tlen : Nat → Nat
  | 1 => 356 | 2 => 356 | 3 => 1780 | 4 => 140 | 5 => 25 | 6 => 600 | 7 => 25 | 8 => 25 | 9 => 25 | 10 => 118 | 11 => 40 | _ => 0
def tfl (m : Nat) (v : Nat → Int32) : List Value := [.int (v 0), .ref (m + 1), .ref (m + 2), .ref (m + 3), .int (v 4), .ref (m + 4), .int (v 6), .ref (m + 5), .int (v 8), .int (v 9), .int (v 10), .int (v 11), .ref (m + 6), .int (v 13), .ref (m + 7), .ref (m + 8), .ref (m + 9), .ref (m + 10), .ref (m + 11), .int (v 19), .int (v 20), .int (v 21), .int (v 22), .int (v 23)]
/-- the heap h with the reference at m: numbers v by field, arrays A by their order -/
def TW (m : Nat) (v : Nat → Int32) (A : Nat → Nat → Nat) (h : PH) : PH := (fun a => if a = m then some (.inr (11, tfl m v)) else if m < a ∧ a ≤ m + 11 then some (.inl (0, (tlen (a - m), .inl (fun j => I (A (a - m) j))))) else h.1 a, h.2)
def vup (v : Nat → Int32) (k : Nat) (x : Int32) : Nat → Int32 := fun j => if j = k then x else v j
def aup (A : Nat → Nat → Nat) (o j x : Nat) : Nat → Nat → Nat := fun o' j' => if o' = o ∧ j' = j then x else A o' j'
section TW
variable {m : Nat} {v : Nat → Int32} {A : Nat → Nat → Nat} {h : PH}
theorem tw_at : (TW m v A h).1 m = some (.inr (11, tfl m v)) := by simp [TW]
theorem tw_lk : lk (TW m v A h) m = some (.inr (11, tfl m v)) := by simp [lk, tw_at]
theorem tw_ob : ob 11 (some m) (TW m v A h) = some (tfl m v) := by simp [ob, tw_lk]
theorem tw_rcv : rcv 11 (some m) (TW m v A h) = some () := by simp [rcv, clo, tw_lk]
theorem tw_nn : nn (some m) = some () := rfl
theorem tw_r1 : gfr 11 1 (some m) (TW m v A h) = some (some (m + 1)) := by simp [gfr, tw_ob, tfl, vR]
theorem tw_r2 : gfr 11 2 (some m) (TW m v A h) = some (some (m + 2)) := by simp [gfr, tw_ob, tfl, vR]
theorem tw_r3 : gfr 11 3 (some m) (TW m v A h) = some (some (m + 3)) := by simp [gfr, tw_ob, tfl, vR]
theorem tw_r5 : gfr 11 5 (some m) (TW m v A h) = some (some (m + 4)) := by simp [gfr, tw_ob, tfl, vR]
theorem tw_r7 : gfr 11 7 (some m) (TW m v A h) = some (some (m + 5)) := by simp [gfr, tw_ob, tfl, vR]
theorem tw_r12 : gfr 11 12 (some m) (TW m v A h) = some (some (m + 6)) := by simp [gfr, tw_ob, tfl, vR]
theorem tw_r14 : gfr 11 14 (some m) (TW m v A h) = some (some (m + 7)) := by simp [gfr, tw_ob, tfl, vR]
theorem tw_r15 : gfr 11 15 (some m) (TW m v A h) = some (some (m + 8)) := by simp [gfr, tw_ob, tfl, vR]
theorem tw_r16 : gfr 11 16 (some m) (TW m v A h) = some (some (m + 9)) := by simp [gfr, tw_ob, tfl, vR]
theorem tw_r17 : gfr 11 17 (some m) (TW m v A h) = some (some (m + 10)) := by simp [gfr, tw_ob, tfl, vR]
theorem tw_r18 : gfr 11 18 (some m) (TW m v A h) = some (some (m + 11)) := by simp [gfr, tw_ob, tfl, vR]
/-- the fields that are numbers -/
def tint (k : Nat) : Bool := [0, 4, 6, 8, 9, 10, 11, 13, 19, 20, 21, 22, 23].contains k
theorem tint_c {k : Nat} (hk : tint k = true) : k = 0 ∨ k = 4 ∨ k = 6 ∨ k = 8 ∨ k = 9 ∨ k = 10 ∨ k = 11 ∨ k = 13 ∨ k = 19 ∨ k = 20 ∨ k = 21 ∨ k = 22 ∨ k = 23 := by
  simpa [tint] using hk
theorem tw_int {k : Nat} (hk : tint k = true) : gfi 11 k (some m) (TW m v A h) = some (v k) := by
  rcases tint_c hk with e | e | e | e | e | e | e | e | e | e | e | e | e <;> subst e <;> simp [gfi, tw_ob, tfl, vI]
theorem tw_arr {o : Nat} (ho : 1 ≤ o ∧ o ≤ 11) : (TW m v A h).1 (m + o) = some (.inl (0, (tlen o, .inl (fun j => I (A o j))))) := by
  have h1 : ¬ m + o = m := by omega
  have h2 : m < m + o ∧ m + o ≤ m + 11 := by omega
  have h3 : m + o - m = o := by omega
  simp only [TW, if_neg h1, if_pos h2, h3]
theorem tlen_lt (o : Nat) : tlen o < 2147483648 := by
  unfold tlen
  split <;> decide
theorem tw_ald {o j : Nat} (ho : 1 ≤ o ∧ o ≤ 11) (hj : j < tlen o) : ald 0 (some (m + o)) (I j) (TW m v A h) = some (I (A o j)) := by
  have h1 := tlen_lt o
  simp [ald, ar, lk, tw_arr ho, inb_I (show j < 2147483648 by omega), hj, I_clamp (show j < 2147483648 by omega)]
theorem tw_asi {o j x : Nat} (ho : 1 ≤ o ∧ o ≤ 11) (hj : j < tlen o) : asi 0 (some (m + o)) (I j) (I x) (TW m v A h) = some (TW m v (aup A o j x) h) := by
  have h1 := tlen_lt o
  have e1 : inb (I j) (tlen o) := inbI hj h1
  simp only [asi, tw_arr ho]
  rw [if_pos ⟨by trivial, e1⟩, I_clamp (show j < 2147483648 by omega)]
  congr 1
  unfold hset TW
  congr 1
  funext q
  by_cases e : q = m + o
  · subst e
    have h1 : ¬ m + o = m := by omega
    have h2 : m < m + o ∧ m + o ≤ m + 11 := by omega
    have h3 : m + o - m = o := by omega
    simp only [if_true, if_neg h1, if_pos h2, h3]
    congr 5
    funext j'
    simp only [upd, aup, true_and]
    split <;> rfl
  · simp only [if_neg e]
    by_cases e2 : q = m
    · simp only [if_pos e2]
    · simp only [if_neg e2]
      split
      · rename_i e3
        congr 5
        funext j'
        have : ¬ (q - m = o) := by omega
        simp only [aup, this, false_and, if_false]
      · rfl
theorem tw_pf {k : Nat} {x : Int32} (hk : tint k = true) : pf 11 k (some m) (.int x) (TW m v A h) = some (TW m (vup v k x) A h) := by
  have hl : k < (tfl m v).length := by rcases tint_c hk with e | e | e | e | e | e | e | e | e | e | e | e | e <;> subst e <;> simp [tfl]
  simp only [pf, tw_at, true_and, hl, if_true]
  congr 1
  unfold hset TW
  congr 1
  funext q
  by_cases e : q = m
  · simp only [if_pos e]
    rcases tint_c hk with e | e | e | e | e | e | e | e | e | e | e | e | e <;> subst e <;> simp [tfl, vup]
  · simp only [if_neg e]
theorem vup_eq (k : Nat) (x : Int32) : vup v k x k = x := by simp [vup]
theorem vup_ne {k j : Nat} (x : Int32) (hk : ¬ j = k) : vup v k x j = v j := by simp [vup, hk]
end TW
