/-! PLAIN LAW, 93.zt: part on both sides; lengths: model; length on both sides -/
theorem fr_plusU {Dl z : Int} {r : Rat} {a b m : Int} (h0 : 0 < Dl) (h : fZ Dl r z) (hb : 0 < b) (hm : Dl = b * m) : ∃ u v : Int, (r.den : Int) = (Int.gcd r.den b : Int) * u ∧ b = (Int.gcd r.den b : Int) * v ∧ 0 < u ∧ 0 < v ∧ 0 < u * b ∧ (r.num * v + a * u).natAbs ≤ z.natAbs + (a * m).natAbs ∧ (u * b).natAbs ≤ Dl.natAbs ∧ Rat.divInt (r.num * v + a * u) (u * b) = r + Rat.divInt a b := by
  have hr : (0 : Int) < r.den := by have := Nat.pos_of_ne_zero r.den_nz; omega
  have hg : (0 : Int) < Int.gcd r.den b := by
    have := Int.gcd_pos_of_ne_zero_left b (show (r.den : Int) ≠ 0 by omega)
    omega
  obtain ⟨u, hu⟩ : (Int.gcd r.den b : Int) ∣ (r.den : Int) := Int.gcd_dvd_left ..
  obtain ⟨v, hv⟩ : (Int.gcd r.den b : Int) ∣ b := Int.gcd_dvd_right ..
  have hL : ((Int.lcm r.den b : Nat) : Int) ∣ Dl := Int.coe_lcm_dvd (fZ_den h0 h) ⟨m, hm⟩
  have e := Int.gcd_mul_lcm (r.den : Int) b
  generalize hG : (Int.gcd r.den b : Int) = G at *
  have pos : ∀ y : Int, 0 < G * y → 0 < y := fun y hy => by
    rcases Int.lt_trichotomy y 0 with c | c | c
    · have := Int.mul_neg_of_pos_of_neg hg c; omega
    · subst c; omega
    · exact c
  have u0 : 0 < u := pos u (by omega)
  have v0 : 0 < v := pos v (by omega)
  have hl : ((Int.lcm r.den b : Nat) : Int) = u * b := by
    have e2 : G * ((Int.lcm r.den b : Nat) : Int) = r.den * b := by
      rw [← hG, ← Int.natCast_mul, e, Int.natCast_mul]
      rw [Int.natAbs_natCast, Int.natAbs_of_nonneg (Int.le_of_lt hb)]
    refine Int.eq_of_mul_eq_mul_left (show G ≠ 0 by omega) ?_
    rw [e2, ← Int.mul_assoc, ← hu]
  rw [hl] at hL
  obtain ⟨w, hw⟩ := hL
  have w0 : w ≠ 0 := by rintro rfl; omega
  have b0 : 0 < u * b := Int.mul_pos u0 hb
  have z1 : r.num * (v * w) = z := fZ_z h0 h (by rw [hw]; conv => lhs; arg 1; arg 2; rw [hv]
                                                 conv => rhs; arg 1; rw [hu]
                                                 grind)
  have z2 : m = u * w := by
    have : b * m = b * (u * w) := by rw [← hm, hw]; grind
    exact Int.eq_of_mul_eq_mul_left (by omega) this
  refine ⟨u, v, hu, hv, u0, v0, b0, ?_, ?_, ?_⟩
  · have a1 : (r.num * v).natAbs ≤ z.natAbs := by
      rw [← z1, ← Int.mul_assoc, Int.natAbs_mul _ w]; exact Nat.le_mul_of_pos_right _ (by omega)
    have a2 : (a * u).natAbs ≤ (a * m).natAbs := by
      rw [z2, ← Int.mul_assoc, Int.natAbs_mul _ w]; exact Nat.le_mul_of_pos_right _ (by omega)
    omega
  · rw [hw, Int.natAbs_mul _ w]; exact Nat.le_mul_of_pos_right _ (by omega)
  · have hrr : r = (r.num : Rat) / (r.den : Rat) := by
      have := Rat.num_divInt_den r
      rw [Rat.divInt_eq_div] at this
      exact this.symm
    have c1 : ((r.den : Int) : Rat) = (G : Rat) * (u : Rat) := by rw [hu, Rat.intCast_mul]
    have c2 : (b : Rat) = (G : Rat) * (v : Rat) := by rw [← Rat.intCast_mul, ← hv]
    have g0 : (G : Rat) ≠ 0 := fun y => by have := Rat.intCast_inj (b := 0) |>.mp y; omega
    have u1 : (u : Rat) ≠ 0 := fun y => by have := Rat.intCast_inj (b := 0) |>.mp y; omega
    have v1 : (v : Rat) ≠ 0 := fun y => by have := Rat.intCast_inj (b := 0) |>.mp y; omega
    rw [Rat.divInt_eq_div, Rat.divInt_eq_div, Rat.intCast_add, Rat.intCast_mul, Rat.intCast_mul, Rat.intCast_mul, c2]
    have d1 : (r.den : Rat) = ((r.den : Int) : Rat) := rfl
    rw [d1, c1] at hrr
    generalize (r.num : Rat) = rn at *
    generalize (a : Rat) = an at *
    rw [hrr]
    grind
section MS
variable {N x m : Nat} {ad : Nat → Nat} {md : Nat → Bool} {c s : Nat} {M0 M : Mem} {T : ST} {C : CX} {S : MS} {f : Nat → Int64}
theorem sL_at {S : MS} {k : Nat} {x : Int64} : (sL S k x).2.2.2 k = x := va_up_self S.2.2.2 k x
theorem sL_ne {S : MS} {k j : Nat} {x : Int64} (h : j ≠ k) : (sL S k x).2.2.2 j = S.2.2.2 j := va_up_ne _ _ h
/-- the model's long fields 22, 23 hold a fraction -/
def jLQ (S : MS) (q : Rat) : Prop := S.2.2.2 22 = jI q.num ∧ S.2.2.2 23 = jI q.den
theorem jm_measuresL (h : jMM m ad M0 S M) (hC : jEnc C (S.1 0)) (hW : jWf C) (hN : 9223372036854775809 < N) {v ch : Nat} (hv : v < 4) (hc : ch < 3) (hq : v < 3 → jFQ S (cE C) (prtQ C ch v)) :
    jo (jf_X1_measures_j11 N m (nI ch) (nI v)) M (fun _ M' => ∃ S', jMM m ad M0 S' M' ∧ sW [] [22, 23] S S' ∧ jLQ S' (lenQ C ch v)) := by
  have h6 := hW.2.1
  obtain ⟨l0, l1⟩ := ptL_rg hW
  unfold jf_X1_measures_j11 jf_X1_measures_k23_195
  refine jM_puJ h (k := 22) (by decide) rfl (fun M1 h1 => jM_puJ h1 (k := 23) (by decide) rfl (fun M2 h2 => ?_))
  have w2 : sW [] [22, 23] S (sL (sL S 22 0) 23 1) := (sW_L.up (by decide) (by decide)).tr (sW_L (k := 23)) (by decide) (by decide)
  have b2 : jLQ (sL (sL S 22 0) 23 1) (lenP C ch v 0) := ⟨by rw [sL_ne (by decide), sL_at]; rfl, by rw [sL_at]; rfl⟩
  refine jo_bd (jo_mono (jo_up (cE C) (fun e z M' => z = nI e ∧ ∃ S', jMM m ad M0 S' M' ∧ sW [] [22, 23] S S' ∧ jLQ S' (lenP C ch v e)) (fun _ M' => ∃ S', jMM m ad M0 S' M' ∧ sW [] [22, 23] S S' ∧ jLQ S' (lenQ C ch v)) ?_ ?_ N 0 _ M2 ⟨rfl, _, h2, w2, b2⟩ (Nat.zero_le _) (by omega)) ?_)
  · rintro e z M3 he ⟨rfl, S3, h3, w3, q3⟩
    have hC3 : jEnc C (S3.1 0) := by rw [w3.1]; exact hC
    have hch := hW.2.2.2.2.2 ch e hc he
    have hw := hW.2.2.2.1 e he
    obtain ⟨w6, wa, wb⟩ := ptW_6 hW he
    obtain ⟨zt, hzt, zb⟩ := prtQ_z hW (v := v) hc he
    obtain ⟨m0, hm0⟩ := fZ_den l0 hzt
    have e1 := fZ_z l0 hzt hm0
    obtain ⟨_, t3, t4, t5⟩ := lenT_z hW (v := v) hc he
    obtain ⟨z, p1, p2⟩ := lenP_z hW (v := v) hc e (by omega)
    have i6 : e * 129600000000000000 ≤ 5 * 129600000000000000 := Nat.mul_le_mul_right _ (by omega)
    have x9 := cCh_abs hW hc he
    have dp : (0 : Int) < ((prtQ C ch v e).den : Int) := by have := Nat.pos_of_ne_zero (prtQ C ch v e).den_nz; omega
    have bp : 0 < ((prtQ C ch v e).den : Int) * (cEd C e 2 : Int) := Int.mul_pos dp (by omega)
    obtain ⟨u, y, hu, hy, u0, y0, b0, b1, b2, b3⟩ := fr_plusU (a := (prtQ C ch v e).num * cCh C ch e) (m := m0 * ptW C e) (show 0 < ptL C * 6 by omega) p1 bp (by rw [hm0, ← w6]; grind)
    have am : ((prtQ C ch v e).num * cCh C ch e * (m0 * ptW C e)).natAbs ≤ 129600000000000000 := by
      have : (prtQ C ch v e).num * cCh C ch e * (m0 * ptW C e) = ((prtQ C ch v e).num * m0) * (cCh C ch e * ptW C e) := by grind
      rw [this, e1, Int.natAbs_mul, Int.natAbs_mul]
      exact Nat.le_trans (Nat.mul_le_mul zb (Nat.mul_le_mul x9 (show (ptW C e).natAbs ≤ 6 by omega))) (by decide)
    have ld := fZ_rg (show 0 < ptL C * 6 by omega) p1
    have lp : (0 : Int) < ((lenP C ch v e).den : Int) := by have := Nat.pos_of_ne_zero (lenP C ch v e).den_nz; omega
    have hT : lenP C ch v (e + 1) = lenP C ch v e + lenT C ch v e := rfl
    have hTT : lenT C ch v e = Rat.divInt ((prtQ C ch v e).num * cCh C ch e) (((prtQ C ch v e).den : Int) * (cEd C e 2 : Int)) := rfl
    have step : ∀ M4 : Mem, jMM m ad M0 S3 M4 → jo (jf_X1_measures_j91 N m (nI ch) (nI v) (nI e) (jI ((prtQ C ch v e).num * cCh C ch e)) (jI ((prtQ C ch v e).den : Int))) M4 (fun z M' => z = .inl (nI (e + 1)) ∧ ∃ S', jMM m ad M0 S' M' ∧ sW [] [22, 23] S S' ∧ jLQ S' (lenP C ch v (e + 1))) := by
      intro M4 h4
      unfold jf_X1_measures_j91
      refine jo_rd (jM_fR h4 (k := 0) rfl) (jo_eq (jr_wt (d := 1) h4 hC3 hW (.inl rfl) he) ?_)
      rw [show nI (cWt C 1 e) = iI ((cEd C e 2 : Nat) : Int) from rfl, iI_l (by omega) (by omega), jI_mul]
      refine jo_rd (jM_fJ h4 (k := 23) rfl) ?_
      rw [q3.2]
      generalize hB : ((prtQ C ch v e).den : Int) * (cEd C e 2 : Int) = B at *
      generalize hA : (prtQ C ch v e).num * cCh C ch e = A at *
      obtain ⟨g0, g1⟩ := gcd_rg (a := ((lenP C ch v e).den : Int)) (b := B) t4 t5
      have gz : ¬ jI ((Int.gcd ((lenP C ch v e).den : Int) B : Nat) : Int) = 0 := fun y => by
        have := (jI_0 (by omega)).mp y
        omega
      have q1 : jI B / jI ((Int.gcd ((lenP C ch v e).den : Int) B : Nat) : Int) = jI y := by
        rw [jI_tdv (by omega) (by omega)]
        congr 1
        conv => lhs; arg 1; rw [hy]
        exact Int.mul_tdiv_cancel_left _ (by omega)
      have q2 : jI ((lenP C ch v e).den : Int) / jI ((Int.gcd ((lenP C ch v e).den : Int) B : Nat) : Int) = jI u := by
        rw [jI_tdv (by omega) (by omega)]
        congr 1
        conv => lhs; arg 1; rw [hu]
        exact Int.mul_tdiv_cancel_left _ (by omega)
      refine jo_eq (jr_gcd (by omega) (by omega) (by omega)) ?_
      refine jo_rd (jM_fJ h4 (k := 22) rfl) (jo_ck gz (jo_rd (jM_fJ h4 (k := 23) rfl) (jo_ck gz ?_)))
      rw [q3.1, q3.2, q1, q2, jI_mul, jI_mul, jI_add]
      refine jM_puJ h4 (k := 22) (by decide) rfl (fun M5 h5 => ?_)
      refine jo_rd (jM_fJ h5 (k := 23) rfl) (jo_ck gz ?_)
      have f23 : (S3.1, S3.2.1, S3.2.2.1, va_up S3.2.2.2 22 (jI ((lenP C ch v e).num * y + A * u))).2.2.2 23 = jI ((lenP C ch v e).den : Int) := by
        rw [← q3.2]; exact sL_ne (k := 22) (by decide)
      rw [f23, q2, jI_mul]
      refine jM_puJ h5 (k := 23) (by decide) rfl (fun M6 h6' => ?_)
      have g22 : (sL (sL S3 22 (jI ((lenP C ch v e).num * y + A * u))) 23 (jI (u * B))).2.2.2 22 = jI ((lenP C ch v e).num * y + A * u) := by
        rw [sL_ne (by decide), sL_at]
      have g23 : (sL (sL S3 22 (jI ((lenP C ch v e).num * y + A * u))) 23 (jI (u * B))).2.2.2 23 = jI (u * B) := sL_at
      obtain ⟨s1, s2, s3⟩ := fr_sg (a := (lenP C ch v e).num * y + A * u) (b := u * B) (s := 1) (by omega) (by omega) (by omega) (by rw [if_pos (by omega)])
      rw [Int.mul_one] at s1 s2 s3
      rw [b3, ← hTT, ← hT] at s2 s3
      refine jo_rd (jM_fJ h6' (k := 22) rfl) (jo_rd (jM_fJ h6' (k := 23) rfl) ?_)
      refine jo_mono (show jo _ M6 (fun z M' => z = .inl (nI (e + 1)) ∧ ∃ S', jMM m ad M0 S' M' ∧ sW [] [22, 23] S S' ∧ jLQ S' (lenP C ch v (e + 1))) from ?_) (fun _ _ g => g)
      rw [show (((S3.1, S3.2.1, S3.2.2.1, va_up S3.2.2.2 22 (jI ((lenP C ch v e).num * y + A * u))) : MS).1, ((S3.1, S3.2.1, S3.2.2.1, va_up S3.2.2.2 22 (jI ((lenP C ch v e).num * y + A * u))) : MS).2.1, ((S3.1, S3.2.1, S3.2.2.1, va_up S3.2.2.2 22 (jI ((lenP C ch v e).num * y + A * u))) : MS).2.2.1, va_up ((S3.1, S3.2.1, S3.2.2.1, va_up S3.2.2.2 22 (jI ((lenP C ch v e).num * y + A * u))) : MS).2.2.2 23 (jI (u * B))) = sL (sL S3 22 (jI ((lenP C ch v e).num * y + A * u))) 23 (jI (u * B)) from rfl] at h6' ⊢
      rw [g22, g23]
      refine jo_eq (jr_gcd (by omega) (by omega) (by omega)) ?_
      refine jo_rd (jM_fJ h6' (k := 22) rfl) (jo_ck s1 ?_)
      rw [g22, s2]
      refine jM_puJ h6' (k := 22) (by decide) rfl (fun M7 h7 => ?_)
      refine jo_rd (jM_fJ h7 (k := 23) rfl) (jo_ck s1 ?_)
      have g23' : (sL (sL (sL S3 22 (jI ((lenP C ch v e).num * y + A * u))) 23 (jI (u * B))) 22 (jI (lenP C ch v (e + 1)).num)).2.2.2 23 = jI (u * B) := by
        rw [sL_ne (by decide), sL_at]
      refine jM_puJ h7 (k := 23) (by decide) rfl (fun M8 h8 => jo_ret ⟨by rw [nI_1], _, h8, ?_, ?_, ?_⟩)
      · exact (((w3.tr (sW_L (k := 22)) (by decide) (by decide)).tr (sW_L (k := 23)) (by decide) (by decide)).tr (sW_L (k := 22)) (by decide) (by decide)).tr (sW_L (k := 23)) (by decide) (by decide)
      · show (sL (sL (sL (sL S3 22 (jI ((lenP C ch v e).num * y + A * u))) 23 (jI (u * B))) 22 (jI (lenP C ch v (e + 1)).num)) 23 _).2.2.2 22 = _
        rw [sL_ne (by decide), sL_at]
      · refine Eq.trans sL_at ?_
        show (sL (sL (sL S3 22 (jI ((lenP C ch v e).num * y + A * u))) 23 (jI (u * B))) 22 (jI (lenP C ch v (e + 1)).num)).2.2.2 23 / _ = _
        rw [g23', s3]
    unfold jf_X1_measures_L23 jf_X1_measures_j74
    refine jo_rd (jM_fR h3 (k := 0) rfl) (jo_rd (jr_now1 h3 hC3 rfl) (jo_f (by rw [nI_leI (by omega) (by omega)]; omega) ?_))
    refine jo_rd (jM_fR h3 (k := 0) rfl) (jo_rd (jr_ch h3 hC3 hW hc he (by simp only [nI_lit, nI_mul, nI_add])) ?_)
    rw [iI_l (by omega) (by omega)]
    by_cases v3 : v = 3
    · subst v3
      have n3 : (prtQ C ch 3 e).num = cCh C ch e := by unfold prtQ; rfl
      have d3 : (prtQ C ch 3 e).den = 1 := by unfold prtQ; rfl
      rw [n3, d3] at step
      refine jo_t rfl (jo_t rfl ?_)
      rw [jI_mul]
      refine jo_mono (step M3 h3) ?_
      rintro z M4 ⟨rfl, z2⟩
      exact ⟨rfl, z2⟩
    · have hF := hq (by omega) e he
      have hF3 : S3.2.1 18 e = jI (prtQ C ch v e).num ∧ S3.2.1 19 e = jI (prtQ C ch v e).den := by
        rw [w3.2.2.1 18 (by decide), w3.2.2.1 19 (by decide)]; exact hF
      have nv : ¬ nI v = (3 : Int32) := by show ¬ nI v = nI 3; rw [nI_eq (by omega) (by omega)]; exact v3
      refine jo_f nv (jo_rd (jM_fR h3 (k := 18) rfl) (jo_rd (jM_ldJ h3 (k := 18) (by unfold jM_ja; omega) (jm_ixn (show e < jM_len 18 by show e < 6; omega) (by decide))) (jo_f nv (jo_rd (jM_fR h3 (k := 19) rfl) (jo_rd (jM_ldJ h3 (k := 19) (by unfold jM_ja; omega) (jm_ixn (show e < jM_len 19 by show e < 6; omega) (by decide))) ?_)))))
      rw [hF3.1, hF3.2, jI_mul, Int.mul_comm (cCh C ch e)]
      refine jo_mono (step M3 h3) ?_
      rintro z M4 ⟨rfl, z2⟩
      exact ⟨rfl, z2⟩
  · rintro z M3 ⟨rfl, S3, h3, w3, q3⟩
    have hC3 : jEnc C (S3.1 0) := by rw [w3.1]; exact hC
    unfold jf_X1_measures_L23
    exact jo_rd (jM_fR h3 (k := 0) rfl) (jo_rd (jr_now1 h3 hC3 rfl) (jo_t (by rw [nI_leI (by omega) (by omega)]; omega) (jo_ret ⟨S3, h3, w3, q3⟩)))
  · rintro _ M3 hx
    exact jo_ret hx
theorem jm_measures (h : jMM m ad M0 S M) (hC : jEnc C (S.1 0)) (hW : jWf C) (hN : 9223372036854775809 < N) {v ch : Nat} (hv : v < 4) (hc : ch < 3) :
    jo (jf_X1_measures N m (nI ch) (nI v)) M (fun _ M' => ∃ S', jMM m ad M0 S' M' ∧ sW [15, 16, 18, 19, 20, 21] [17, 22, 23] S S' ∧ jLQ S' (lenQ C ch v)) := by
  unfold jf_X1_measures
  by_cases v3 : v = 3
  · refine jo_t (by rw [v3]; decide) (jo_mono (jm_measuresL h hC hW hN hv hc (fun y => absurd v3 (by omega))) ?_)
    rintro _ M1 ⟨S1, h1, w1, q1⟩
    exact ⟨S1, h1, w1.up (by decide) (by decide), q1⟩
  · refine jo_f (by rw [show (3 : Int32) = nI 3 from rfl, nI_leI (by omega) (by omega)]; omega) (jo_rd (jM_cl h) (jo_bd (jo_mono (jm_laysPart h hC hW hN (by omega) hc) ?_)))
    rintro _ M1 ⟨S1, h1, w1, q1⟩
    have hC1 : jEnc C (S1.1 0) := by rw [w1.1]; exact hC
    refine jo_mono (jm_measuresL h1 hC1 hW hN hv hc (fun _ => q1)) ?_
    rintro _ M2 ⟨S2, h2, w2, q2⟩
    exact ⟨S2, h2, (w1.up (by decide) (by decide)).tr w2 (by decide) (by decide), q2⟩
end MS
