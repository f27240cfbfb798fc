/-! PLAIN LAW: the class: setPage -/
set_option maxRecDepth 100000
theorem sPage_z {s : Nat → Nat} {R C c : Nat} (hc : c < 25) : sPage s R C (33 + c) = 0 ∧ sPage s R C (58 + c) = 0 := by
  unfold sPage sHide sLay
  constructor
  · rw [if_neg (by omega), if_neg (by omega), if_neg (by omega), if_neg (by omega), if_pos (by omega)]
  · rw [if_neg (by omega), if_neg (by omega), if_neg (by omega), if_neg (by omega), if_neg (by omega), if_pos (by omega)]
theorem sPage_sh {s : Nat → Nat} {R C i : Nat} (hi : i < 10) : sPage s R C (83 + i) = 0 := by
  unfold sPage sHide; rw [if_pos (by omega)]
theorem sPage_lo {s : Nat → Nat} {R C k : Nat} (h : (2 ≤ k ∧ k < 8) ∨ 118 ≤ k) : sPage s R C k = s k := by
  unfold sPage sHide sLay
  simp (disch := omega) only [if_neg]
section OP9zt
variable {m x : Nat} {h : PH} {g : GS} {ci : Nat → Nat} {nb : Nat}
theorem isSideZ {y : Int32} {h : PH} : f_X0_isSide y h = some (I (bit (bt y 2 5 = true)), h) := by
  simp (disch := first | omega | assumption) only [f_X0_isSide, betZ, lit_I, Option.bind_some, gb_bit]
theorem c_setPage {y z : Int32} (C : CI m h x g) (hI : RInv g.1) (G : GC h ci nb) (hnb : nb ≤ hn h) : Res m x h (o_setPage g y z) (f_X0_setPage (some x) y z h) := by
  have hQ := hI.1.1
  have hP := hQ.1
  obtain ⟨-, -, -, -, -, -, -, -, -, -, r0, -⟩ := C.look hP
  unfold o_setPage
  cases h1 : bt y 2 5 with
  | false =>
    refine Res.same C ?_ rfl
    simp only [Bool.false_and, Bool.false_eq_true, if_false]
    unfold f_X0_setPage
    rw [isSideZ, h1, Option.bind_some, if_pos (show I (bit (false = true)) = 0 from bitZF)]
  | true =>
    cases h2 : bt z 2 5 with
    | false =>
      refine Res.same C ?_ rfl
      simp only [Bool.and_false, Bool.false_eq_true, if_false]
      unfold f_X0_setPage
      rw [isSideZ, h1, Option.bind_some, if_neg (show ¬ I (bit (true = true)) = 0 by rw [bitZT]; decide), isSideZ, h2, Option.bind_some, if_pos (show I (bit (false = true)) = 0 from bitZF)]
    | true =>
      obtain ⟨e1, e2, e3⟩ := bt_na (by decide) (by decide) h1
      obtain ⟨e4, e5, e6⟩ := bt_na (by decide) (by decide) h2
      generalize na y = R at *
      generalize na z = CC at *
      subst e1 e4
      simp only [Bool.and_self, if_true]
      obtain ⟨h1', mm1, ms1, f1, fc1, fw1, fs1, a1, a2, a3, a4, a5, a6⟩ := ca_begin C hI.1
      have G1 : GC h1' ci (hn h1') := (G.keep hnb a4).mono (by omega)
      obtain ⟨h2', mm, ms, f, b1, b2, b3, b4, b5, b6, b7, b8, b9⟩ := page_init ⟨e2, e3⟩ ⟨e5, e6⟩ G1
      obtain ⟨s0, s1, s8⟩ := sPage_Eq (s := g.1) (R := R) (C := CC)
      have hRC := Nat.mul_le_mul e3 e6
      have hT := QInv_page (s := g.1) hQ ⟨e2, e3⟩ ⟨e5, e6⟩
      have hPT := hT.1.1
      have hncT : nc (sPage g.1 R CC) = R * CC := by unfold nc; rw [s0, s1]
      have hP0 := lay0_PG ⟨e2, e3⟩ ⟨e5, e6⟩
      have h11 := a2.m11
      have hblk : ∀ c, c < R * CC → sPage g.1 R CC (8 + c) = c / CC := fun c hc => by rw [s8 (8 + c) (by omega) (by omega) hRC, lay0_8]
      have hren : ∀ c, c < R * CC → sRen (lay0 R CC) (8 + c) = c / CC := fun c hc => by rw [sRen_8 (show c < nc (lay0 R CC) from hc), lay0_rk ⟨e2, e3⟩ ⟨e5, e6⟩ hc]
      have t0 : sPage g.1 R CC 0 = sRen (lay0 R CC) 0 := by rw [s0, sRen_ne (Or.inl (by decide)) hP0]; rfl
      have t1 : sPage g.1 R CC 1 = sRen (lay0 R CC) 1 := by rw [s1, sRen_ne (Or.inl (by decide)) hP0]; rfl
      have hncR : nc (sRen (lay0 R CC)) = R * CC := by rw [nc_sRen hP0]; rfl
      have M4 := MbR_row (t := sPage g.1 R CC) t0 t1 (fun c hc => by rw [hncR] at hc; rw [hblk c hc, hren c hc]) b4
      have er : rkTo (sPage g.1 R CC) (nc (sPage g.1 R CC)) = rkTo (lay0 R CC) (R * CC) := by
        rw [rkTo_E t0 t1 (fun c hc => by rw [hncR] at hc; rw [hblk c hc, hren c hc]), hncR]
        exact rkTo_sRen hP0 _ (Nat.le_refl _)
      have hAl : ∀ a, hn h1' ≤ a → a < hn h2' → (∃ c, h2'.1 a = some c ∧ (ki c = 1003 ∨ ki c = 1000)) → Al m h2' a := fun a q1 q2 ⟨c, q3, q4⟩ => by
        refine ⟨q2, Or.inr (by omega), c, q3, ?_⟩
        unfold frz
        rcases q4 with q4 | q4 <;> rw [q4] <;> decide
      have N : PgN m h2' (hn h1') mm ms (sPage g.1 R CC) (f, fun _ => 0, fun _ => 0, fun _ => 0) := by
        refine ⟨by rw [s0, s1]; exact b2, ⟨fun c hc => ?_, fun i hi => ?_, fun j => Or.inl rfl, fun j => Or.inl rfl⟩, M4, by omega, hAl mm b6.1 b6.2.1 (by obtain ⟨c, q1, q2⟩ := b6.2.2; exact ⟨c, q1, Or.inl q2⟩), fun k hk => ?_⟩
        · rw [hncT] at hc
          refine ⟨by rw [hblk c hc]; exact b3 c hc, by rw [(sPage_z (by omega)).1]; rfl, by rw [(sPage_z (by omega)).2]; rfl⟩
        · rw [s0, s1] at hi
          rw [sPage_sh (by omega)]; rfl
        · rw [er] at hk
          obtain ⟨q1, q2, c, q3, q4⟩ := b7 k hk
          exact hAl (ms k) (by omega) q2 ⟨c, q3, Or.inr q4⟩
      have MW := a2.W
      obtain ⟨-, ⟨k1, k2, ⟨p0, b0, k3⟩, k4⟩, -, ⟨c1, c2, c3, c6⟩, -⟩ := id MW
      have MW2 := MW.step (h' := h2') (by omega) b5.2.1 (fun a ha => b5.2.2 a (by omega)) ⟨b5.2.2 _ c1, b5.2.2 _ c3, b5.2.2 _ c2, b5.2.2 _ c6⟩
      obtain ⟨h3', d1, d2, d3, d4, d5, -⟩ := MW2.lay N (by omega) (by omega) (fun k hk => by
        rw [er] at hk
        have := (b7 k hk).1
        omega) hT.1 hT.2 (sPage_lo (Or.inl (by omega))) (fun r hr => sPage_lo (Or.inl (by omega))) (fun k hk => sPage_lo (Or.inr hk))
      have OO : Old (tr (hn h) h1') h3' := ⟨by show hn h ≤ _; omega, d3.2.1.trans b5.2.1, fun a ha => by
        have ha' : a < hn h := ha
        rw [d3.2.2 a ha]
        exact b5.2.2 a (by omega)⟩
      have hnr : nblk (sReset (sPage g.1 R CC)) = rkTo (sPage g.1 R CC) (nc (sPage g.1 R CC)) := by
        have hPR : PG' (sReset (sPage g.1 R CC)) := PG_of (sReset_lo (Or.inl (by decide))) (sReset_lo (Or.inl (by decide))) hPT
        have hncle := nc_le hPT
        have hNR : Nrm (sReset (sPage g.1 R CC)) := Nrm_Eq8 (sReset_lo (Or.inl (by decide))) (sReset_lo (Or.inl (by decide))) (fun d hd => sReset_lo (Or.inl (by omega))) hT.2
        rw [nblk_rk hPR hNR, rkTo_E (sReset_lo (Or.inl (by decide))) (sReset_lo (Or.inl (by decide))) (fun c hc => sReset_lo (Or.inl (by omega)))]
      refine ⟨h3', ?_, d2, Keep_old a4 OO, by omega, by omega⟩
      have e0 : nwO 3 7 [.int 0, .int 0, .null, .null, .null, .null, .null] h1' = some (some (hn h1' + 0), ov h1' [(.inr (3, [.int 0, .int 0, .null, .null, .null, .null, .null]), 7)]) := by
        have := ov_nwO (h := h1') (l := []) (ci := 3) (n := 7) (fs := [.int 0, .int 0, .null, .null, .null, .null, .null])
        rw [ov_nil] at this; exact this
      unfold f_X0_setPage
      rw [isSideZ, h1, Option.bind_some, if_neg (show ¬ I (bit (true = true)) = 0 by rw [bitZT]; decide), isSideZ, h2, Option.bind_some, if_neg (show ¬ I (bit (true = true)) = 0 by rw [bitZT]; decide), r0, Option.bind_some, a1, Option.bind_some, e0, Option.bind_some, nn, Option.bind_some, b1, Option.bind_some]
      have d1' : f_X0_lay (some (hn h + 1)) (some (hn h1' + 0)) h2' = some (I (rkTo (sPage g.1 R CC) (nc (sPage g.1 R CC))), h3') := d1
      rw [d1', Option.bind_some, hnr]
end OP9zt
