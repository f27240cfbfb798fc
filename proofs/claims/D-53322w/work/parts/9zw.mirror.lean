/-! PLAIN LAW: the class: mirror, turn -/
set_option maxRecDepth 100000
theorem relay_fin {m x n0 : Nat} {h1 h2 : PH} {st sh sl p b co mm mm0 : Nat} {ms : Nat → Nat} {f : F4} {fc fw : Nat → Int32} {fs : Nat → Option Nat} {s t : Nat → Nat} {L : List (Nat → Nat)} {n : Nat} {tx : Nat → Nat} {ci : Nat → Nat} {F F0 : F4} (M : Mid m x n0 h1 st sh sl p b co mm ms f fc fw fs s L n tx) (O : Old h1 h2) (h5 : hn h1 + 5 ≤ hn h2) (X : PgX h2 (hn h1) mm0 (I (t 0)) (I (t 1)) F0) (W : PgW t F) (hQ : QInv t) (h128 : ∀ d, d < nc t → t (8 + d) < 128) (G : GC h2 ci (hn h2)) (h2' : t 2 = s 2) (h3' : ∀ r, r < 5 → t (3 + r) = s (3 + r)) (h118 : ∀ k, 118 ≤ k → t k = s k) :
    ∃ h3 h4, f_X3_renumber (some (hn h1)) (pgh h2 (hn h1) F) = some h3 ∧ f_X0_lay (some sh) (some (hn h1)) h3 = some (I (rkTo t (nc t)), h4) ∧ CI m h4 x (sReset (sRen t), L, n, tx) ∧ Old (tr n0 h1) h4 ∧ hn h4 ≤ hn h2 + 62 ∧ hs h4 ≤ hs h2 + 1000 ∧ gfr 2 0 (some sh) h4 = some (some (hn h1)) ∧ gfi 3 0 (some (hn h1)) h4 = some (I (t 0)) := by
  have hP := hQ.1
  have h11 := M.m11
  have MW := M.W
  obtain ⟨-, ⟨k1, k2, ⟨p0, b0, k3⟩, k4⟩, ⟨m1, m2, m3, m4⟩, ⟨c1, c2, c3, c6⟩, -, -, hl, -⟩ := id MW
  obtain ⟨h3, mm', ms', f1, r1, N, r3, r4, r5, r6, r7⟩ := relaid (m := m) (by omega) X (by omega) hP W h128 G
  have ho : ∀ a, a < hn h1 → h3.1 a = h1.1 a := fun a ha => (r3 a (by omega) (Or.inl ha)).trans (O.2.2 a ha)
  have MW3 := MW.step (h' := h3) (by omega) (r7.trans O.2.1) (fun a ha => ho a (by omega)) ⟨ho _ c1, ho _ c3, ho _ c2, ho _ c6⟩
  obtain ⟨qT, nT⟩ := QInv_sRen hQ
  have en := nc_sRen hP
  obtain ⟨h4, d1, d2, d3, d4, d5, d6, d7⟩ := MW3.lay N (by omega) ⟨by omega, by omega⟩ (fun k hk => by have := r4 k hk; omega) qT nT (by rw [sRen_ne (Or.inl (by decide)) hP]; exact h2') (fun r hr => by rw [sRen_ne (Or.inl (by omega)) hP]; exact h3' r hr) (fun k hk => by rw [sRen_ne (Or.inr (by omega)) hP]; exact h118 k hk)
  have er : rkTo (sRen t) (nc (sRen t)) = rkTo t (nc t) := by rw [en]; exact rkTo_sRen hP _ (Nat.le_refl _)
  rw [er] at d1
  have hp4 : h4.1 (hn h1) = some (pgo (hn h1) mm' (I (sRen t 0)) (I (sRen t 1))) := (d7 (hn h1) (by omega) (by omega)).trans N.1.1
  refine ⟨h3, h4, r1, d1, d2, ⟨by show n0 ≤ _; omega, d3.2.1.trans (r7.trans O.2.1), fun a ha => ?_⟩, by omega, by omega, gfr_at (x := some (hn h1)) d6 rfl, ?_⟩
  · have ha' : a < n0 := ha
    rw [d3.2.2 a ha]
    exact ho a (by omega)
  · have : gfi 3 0 (some (hn h1)) h4 = some (I (sRen t 0)) := gfi_at hp4 rfl
    rw [this, sRen_ne (Or.inl (by decide)) hP]
theorem Old.PgR_pgh {h1 h2 : PH} {q mm : Nat} {ms s : Nat → Nat} (H : PgB h1 q mm ms s) (O : Old h1 h2) : ∀ F', PgR (pgh h2 (hn h1) F') q mm ms s := fun F' => by
  refine PgR_agree (fun a ha => ?_) H.1
  have := H.2 a ha
  have e : (pgh h2 (hn h1) F').1 a = h1.1 a := (pgh_o (Or.inl (by omega))).trans (O.2.2 a this)
  have e2 : hg (pgh h2 (hn h1) F') = hg h1 := O.2.1
  simp only [lk, e, e2]
theorem b01_fill {f g : Nat → Int32} {j : Nat} (hf : b01 f) (hg : ∀ d, d < j → g d = 0 ∨ g d = 1) : b01 (fun d => if d < j then g d else f d) := fun d => by
  dsimp only
  by_cases z : d < j
  · rw [if_pos z]; exact hg d z
  · rw [if_neg z]; exact hf d
section OP9zw
variable {m x : Nat} {h : PH} {g : GS} {ci : Nat → Nat} {nb : Nat}
theorem c_mirror (C : CI m h x g) (hI : RInv g.1) (G : GC h ci nb) (hnb : nb ≤ hn h) : Res m x h (o_mirror g) (f_X0_mirror (some x) h) := by
  have hQ := hI.1.1
  have hN := hI.1.2.1
  have hP := hQ.1
  have hnc := nc_le hP
  obtain ⟨q1, q2, q3, q4⟩ := id hP
  obtain ⟨-, -, -, -, -, -, -, -, -, -, r0, -⟩ := C.look hP
  obtain ⟨h1, mm1, ms1, f1, fc1, fw1, fs1, a1, a2, a3, a4, a5, a6⟩ := ca_begin C hI.1
  have G1 : GC h1 ci (hn h1) := (G.keep hnb a4).mono (by omega)
  obtain ⟨h2, mm0, ms0, f0, b1, b2, b3, b4, b5, b6, b7, b8, b9⟩ := page_init (R := g.1 0) (C := g.1 1) ⟨q1, q2⟩ ⟨q3, q4⟩ G1
  have HB := a2.pg hP
  have HF := Old.PgR_pgh HB b5
  have hpr := (prm_mir hP).1
  have hRC : g.1 0 * g.1 1 ≤ 25 := hnc.2
  have hg58 : ∀ c, c < nc g.1 → g.1 (58 + c) ≤ 1 := fun c hc => (hQ.2.2.1 c hc).2.2.1
  have hs83 := hQ.2.2.2.2
  have eM0 : sMir g.1 0 = g.1 0 := rfl
  have eM1 : sMir g.1 1 = g.1 1 := rfl
  have enM : nc (sMir g.1) = nc g.1 := rfl
  have W : PgW (sMir g.1) (Fs g.1 (lmir (g.1 0) (g.1 1)) (g.1 0 + g.1 1) (Fm g.1 (mir (g.1 1)) (nc g.1) (f0, fun _ => 0, fun _ => 0, fun _ => 0))) := by
    refine ⟨fun c hc => ?_, fun i hi => ?_, ?_, ?_⟩
    · rw [enM] at hc
      obtain ⟨e1, e2, e3⟩ := reLay_8 (s := g.1) (f := mir (g.1 1)) (l := lmir (g.1 0) (g.1 1)) hRC (show c < g.1 0 * g.1 1 from hc)
      refine ⟨?_, ?_, ?_⟩
      · show (if c < nc g.1 then I (g.1 (8 + mir (g.1 1) c)) else _) = _
        rw [if_pos hc]; exact congrArg I e1.symm
      · show (if c < nc g.1 then I (g.1 (33 + mir (g.1 1) c)) else _) = _
        rw [if_pos hc]; exact congrArg I e2.symm
      · show (if c < nc g.1 then I (g.1 (58 + mir (g.1 1) c)) else _) = _
        rw [if_pos hc]; exact congrArg I e3.symm
    · rw [eM0, eM1] at hi
      show (if i < g.1 0 + g.1 1 then I (g.1 (83 + lmir (g.1 0) (g.1 1) i)) else _) = _
      rw [if_pos hi]
      exact congrArg I (reLay_83 (s := g.1) (f := mir (g.1 1)) (l := lmir (g.1 0) (g.1 1)) hRC hi).symm
    · exact b01_fill (f := fun _ => 0) (fun _ => Or.inl rfl) (fun d hd => b01_I (hg58 _ (prm_lt hpr hd)))
    · refine b01_fill (f := fun _ => 0) (fun _ => Or.inl rfl) (fun d hd => b01_I (hs83 _ ?_))
      unfold lmir; split <;> omega
  have h128 : ∀ d, d < nc (sMir g.1) → sMir g.1 (8 + d) < 128 := fun d hd => by
    rw [enM] at hd
    obtain ⟨e1, -⟩ := reLay_8 (s := g.1) (f := mir (g.1 1)) (l := lmir (g.1 0) (g.1 1)) hRC (show d < g.1 0 * g.1 1 from hd)
    have := Nrm_lt hP hN (prm_lt hpr hd)
    unfold sMir
    omega
  have G2 : GC h2 ci (hn h2) := (G1.low b5.2.1 (fun a ha => b5.2.2 a ha)).mono (by omega)
  obtain ⟨h3, h4, d1, d2, d3, d4, d5, d6, -⟩ := relay_fin (t := sMir g.1) a2 b5 b8.1 b2 W (QInv_mir hQ) h128 G2 (reLay_lo (by decide) (by decide)) (fun r hr => reLay_lo (by omega) (by omega)) (fun k hk => reLay_hi hRC (by omega) (by omega))
  refine ⟨h4, ?_, d3, Keep_old a4 d4, by omega, by omega⟩
  obtain ⟨-, -, -, -, -, m6, -⟩ := a2.rd
  have e0 : nwO 3 7 [.int 0, .int 0, .null, .null, .null, .null, .null] h1 = some (some (hn h1 + 0), ov h1 [(.inr (3, [.int 0, .int 0, .null, .null, .null, .null, .null]), 7)]) := by
    have := ov_nwO (h := h1) (l := []) (ci := 3) (n := 7) (fs := [.int 0, .int 0, .null, .null, .null, .null, .null])
    rw [ov_nil] at this; exact this
  have HO := HB.ov (l := [(.inr (3, [.int 0, .int 0, .null, .null, .null, .null, .null]), 7)])
  have l18 := mir_L18 (h := h2) (p := hn h1) (F0 := (f0, fun _ => 0, fun _ => 0, fun _ => 0)) b2.1 HF hP hg58
  rw [pgh_self b2] at l18
  have l63 := mir_L63 (h := h2) (p := hn h1) (F0 := Fm g.1 (mir (g.1 1)) (nc g.1) (f0, fun _ => 0, fun _ => 0, fun _ => 0)) b2.1 HF hP hs83
  have l91 := mir_L91 (h := h2) (p := hn h1) (F0 := Fm g.1 (mir (g.1 1)) (nc g.1) (f0, fun _ => 0, fun _ => 0, fun _ => 0)) b2.1 HF hP hs83
  have hmir : f_X3_mirrored (some (hn h + 2)) h1 = some (some (hn h1), h3) := by
    unfold f_X3_mirrored
    rw [e0, Option.bind_some, HO.1.r0, Option.bind_some, HO.1.r1, Option.bind_some, nn, Option.bind_some, b1, Option.bind_some]
    show f_X3_mirrored_L18 FU (some (hn h + 2)) (some (hn h1)) (I 0) h2 = _
    rw [l18]
    show f_X3_mirrored_L63 FU (some (hn h + 2)) (some (hn h1)) (I 0) _ = _
    rw [l63]
    show f_X3_mirrored_L91 FU (some (hn h + 2)) (some (hn h1)) (I 0) _ = _
    rw [l91, d1, Option.bind_some]
  unfold f_X0_mirror
  rw [r0, Option.bind_some, a1, Option.bind_some, m6, Option.bind_some, HB.1.rc, Option.bind_some, hmir, Option.bind_some, d2, Option.bind_some]
  rfl
end OP9zw
