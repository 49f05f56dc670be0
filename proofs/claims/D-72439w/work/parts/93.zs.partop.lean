/-! PLAIN LAW, 93.zs: parts on both sides -/
section PO
variable {N x m : Nat} {ad : Nat → Nat} {md : Nat → Bool} {c s : Nat} {M0 M : Mem} {T : ST} {C : CX} {S : MS} {f : Nat → Int64}
/-- a fraction's own numbers -/
theorem ptQ_rg (hW : jWf C) {d ch e : Nat} (hd : d = 1 ∨ d = 2) (hc : ch < 3) (he : e < cE C) : (ptQ C d ch e).num.natAbs ≤ ptPA d ∧ 0 < (ptQ C d ch e).den ∧ (ptQ C d ch e).den ≤ ptPD d := by
  have hD := ptD_ne hW hd
  have bD := ptD_abs hW hd
  have bA := ptA_abs hW (ch := ch) hd hc he
  have h : fZ ((ptD C d).natAbs : Int) (ptQ C d ch e) (ptA C d ch e * (ptD C d).sign) := fZ_divInt hD sg_abs.symm
  have h0 : (0 : Int) < ((ptD C d).natAbs : Int) := by omega
  obtain ⟨r1, r2⟩ := fZ_rg h0 h
  rw [Int.natAbs_mul] at r1
  have := Nat.mul_le_mul bA (sg_le (D := ptD C d))
  refine ⟨by omega, Nat.pos_of_ne_zero (ptQ C d ch e).den_nz, by omega⟩
theorem prt_har (hW : jWf C) {ch e : Nat} (hc : ch < 3) (he : e < cE C) : (cCh C ch e * (((ptQ C 2 ch e).den : Int) * ((ptQ C 1 ch e).den : Int)) - (ptQ C 2 ch e).num * ((ptQ C 1 ch e).den : Int) - (ptQ C 1 ch e).num * ((ptQ C 2 ch e).den : Int)).natAbs < 9223372036854775808 ∧ (((ptQ C 2 ch e).den : Int) * ((ptQ C 1 ch e).den : Int)).natAbs < 9223372036854775808 ∧ ((ptQ C 2 ch e).den : Int) * ((ptQ C 1 ch e).den : Int) ≠ 0 ∧ Rat.divInt (cCh C ch e * (((ptQ C 2 ch e).den : Int) * ((ptQ C 1 ch e).den : Int)) - (ptQ C 2 ch e).num * ((ptQ C 1 ch e).den : Int) - (ptQ C 1 ch e).num * ((ptQ C 2 ch e).den : Int)) (((ptQ C 2 ch e).den : Int) * ((ptQ C 1 ch e).den : Int)) = prtQ C ch 2 e := by
  obtain ⟨a1, a2, a3⟩ := ptQ_rg hW (.inr rfl : (2 : Nat) = 1 ∨ 2 = 2) hc he
  obtain ⟨b1, b2, b3⟩ := ptQ_rg hW (.inl rfl : (1 : Nat) = 1 ∨ 1 = 2) hc he
  have x9 := cCh_abs hW hc he
  have hp : prtQ C ch 2 e = ((cCh C ch e : Int) : Rat) - ptQ C 2 ch e - ptQ C 1 ch e := by
    unfold prtQ
    rw [if_neg (by decide), if_neg (by decide), if_neg (by decide)]
  rw [hp]
  generalize ptQ C 2 ch e = r at *
  generalize ptQ C 1 ch e = t at *
  generalize cCh C ch e = y at *
  have a1 : r.num.natAbs ≤ 18345885696 := a1
  have a3 : r.den ≤ 84934656 := a3
  have b1 : t.num.natAbs ≤ 3779136 := b1
  have b3 : t.den ≤ 104976 := b3
  have m1 : (((r.den : Nat) : Int) * ((t.den : Nat) : Int)).natAbs ≤ 84934656 * 104976 := by
    rw [Int.natAbs_mul]; exact Nat.mul_le_mul (by omega) (by omega)
  have m2 : (y * (((r.den : Nat) : Int) * ((t.den : Nat) : Int))).natAbs ≤ 9 * (84934656 * 104976) := by
    rw [Int.natAbs_mul]; exact Nat.mul_le_mul x9 m1
  have m3 : (r.num * ((t.den : Nat) : Int)).natAbs ≤ 18345885696 * 104976 := by
    rw [Int.natAbs_mul]; exact Nat.mul_le_mul a1 (by omega)
  have m4 : (t.num * ((r.den : Nat) : Int)).natAbs ≤ 3779136 * 84934656 := by
    rw [Int.natAbs_mul]; exact Nat.mul_le_mul b1 (by omega)
  have nz : ((r.den : Nat) : Int) * ((t.den : Nat) : Int) ≠ 0 := Int.mul_ne_zero (by omega) (by omega)
  refine ⟨by omega, by omega, nz, ?_⟩
  have hr : r = (r.num : Rat) / (r.den : Rat) := by
    have := Rat.num_divInt_den r
    rw [Rat.divInt_eq_div] at this
    exact this.symm
  have ht : t = (t.num : Rat) / (t.den : Rat) := by
    have := Rat.num_divInt_den t
    rw [Rat.divInt_eq_div] at this
    exact this.symm
  have d1 : ((r.den : Nat) : Rat) ≠ 0 := fun z => by
    have : (((r.den : Nat) : Int) : Rat) = ((0 : Int) : Rat) := z
    have := Rat.intCast_inj.mp this
    omega
  have d2 : ((t.den : Nat) : Rat) ≠ 0 := fun z => by
    have : (((t.den : Nat) : Int) : Rat) = ((0 : Int) : Rat) := z
    have := Rat.intCast_inj.mp this
    omega
  have c1 : (((r.den : Nat) : Int) : Rat) = ((r.den : Nat) : Rat) := rfl
  have c2 : (((t.den : Nat) : Int) : Rat) = ((t.den : Nat) : Rat) := rfl
  rw [Rat.divInt_eq_div, Rat.intCast_sub, Rat.intCast_sub, Rat.intCast_mul, Rat.intCast_mul, Rat.intCast_mul, Rat.intCast_mul, c1, c2]
  generalize (r.num : Rat) = rn at *
  generalize (t.num : Rat) = tn at *
  generalize ((r.den : Nat) : Rat) = rd at *
  generalize ((t.den : Nat) : Rat) = td at *
  generalize (y : Rat) = y'
  rw [hr, ht]
  grind
theorem jm_laysPart (h : jMM m ad M0 S M) (hC : jEnc C (S.1 0)) (hW : jWf C) (hN : 9223372036854775809 < N) {v ch : Nat} (hv : v < 3) (hc : ch < 3) :
    jo (jf_X1_laysPart N m (nI ch) (nI v)) M (fun _ M' => ∃ S', jMM m ad M0 S' M' ∧ sW [15, 16, 18, 19, 20, 21] [17] S S' ∧ jFQ S' (cE C) (prtQ C ch v)) := by
  have h6 := hW.2.1
  unfold jf_X1_laysPart jf_X1_laysPart_j11
  by_cases v1 : v = 1
  · subst v1
    refine jo_t rfl (jo_rd (jM_cl h) (jo_bd (jo_mono (jm_spans (d := 1) h hC hW hN (.inl rfl) hc) ?_)))
    rintro _ M1 ⟨S1, h1, w1, q1⟩
    exact jo_f (by decide) (jo_ret ⟨S1, h1, w1.up (by decide) (by decide), q1⟩)
  · refine jo_f (show ¬ nI v = nI 1 by rw [nI_eq (by omega) (by omega)]; exact v1) (jo_rd (jM_cl h) (jo_bd (jo_mono (jm_spans (d := 2) h hC hW hN (.inr rfl) hc) ?_)))
    rintro _ M1 ⟨S1, h1, w1, q1⟩
    have w1' : sW [15, 16, 18, 19, 20, 21] [17] S S1 := w1.up (by decide) (by decide)
    by_cases v0 : v = 0
    · subst v0
      exact jo_f (by decide) (jo_ret ⟨S1, h1, w1', q1⟩)
    · obtain rfl : v = 2 := by omega
      refine jo_t (by decide) ?_
      refine jo_bd (jo_mono (jo_up (cE C) (fun e z M' => z = nI e ∧ ∃ S', jMM m ad M0 S' M' ∧ sW [15, 16, 18, 19, 20, 21] [17] S S' ∧ jFQ S' (cE C) (ptQ C 2 ch) ∧ ∀ e', e' < e → S'.2.1 20 e' = jI (ptQ C 2 ch e').num ∧ S'.2.1 21 e' = jI (ptQ C 2 ch e').den) (fun _ M' => ∃ S', jMM m ad M0 S' M' ∧ sW [15, 16, 18, 19, 20, 21] [17] S S' ∧ ∀ e', e' < cE C → S'.2.1 20 e' = jI (ptQ C 2 ch e').num ∧ S'.2.1 21 e' = jI (ptQ C 2 ch e').den) ?_ ?_ N 0 _ M1 ⟨rfl, S1, h1, w1', q1, fun e' he' => absurd he' (Nat.not_lt_zero _)⟩ (Nat.zero_le _) (by omega)) ?_)
      · rintro e z M2 he ⟨rfl, S2, h2, w2, q2, b2⟩
        have hC2 : jEnc C (S2.1 0) := by rw [w2.1]; exact hC
        have ix : ∀ k, jM_len k = 6 → jm_ix (nI e) (jM_len k) = some e := fun k hk => by rw [hk]; exact jm_ixn (by omega) (by decide)
        unfold jf_X1_laysPart_L23
        refine jo_rd (jM_fR h2 (k := 0) rfl) (jo_rd (jr_now1 h2 hC2 rfl) (jo_f (by rw [nI_leI (by omega) (by omega)]; omega) ?_))
        refine jo_rd (jM_fR h2 (k := 20) rfl) (jo_rd (jM_fR h2 (k := 18) rfl) (jo_rd (jM_ldJ h2 (k := 18) (by unfold jM_ja; omega) (ix 18 rfl)) ?_))
        refine jM_stJ h2 (k := 20) (by unfold jM_ja; omega) (ix 20 rfl) (fun M3 h3 => ?_)
        refine jo_rd (jM_fR h3 (k := 21) rfl) (jo_rd (jM_fR h3 (k := 19) rfl) (jo_rd (jM_ldJ h3 (k := 19) (by unfold jM_ja; omega) (ix 19 rfl)) ?_))
        refine jM_stJ h3 (k := 21) (by unfold jM_ja; omega) (ix 21 rfl) (fun M4 h4 => jo_ret ⟨by rw [nI_1], _, h4, (w2.tr (sW_J (k := 20)) (by decide) (by decide)).tr (sW_J (k := 21)) (by decide) (by decide), fun x hx => ?_, fun e' he' => ?_⟩)
        · show (sJ (sJ S2 20 _) 21 _).2.1 18 x = _ ∧ (sJ (sJ S2 20 _) 21 _).2.1 19 x = _
          rw [sJ_ne (by decide), sJ_ne (by decide), sJ_ne (by decide), sJ_ne (by decide)]
          exact q2 x hx
        · show (sJ (sJ S2 20 (vp_updL (S2.2.1 20) e (S2.2.1 18 e))) 21 (vp_updL ((sJ S2 20 (vp_updL (S2.2.1 20) e (S2.2.1 18 e))).2.1 21) e ((sJ S2 20 (vp_updL (S2.2.1 20) e (S2.2.1 18 e))).2.1 19 e))).2.1 20 e' = _ ∧ (sJ (sJ S2 20 (vp_updL (S2.2.1 20) e (S2.2.1 18 e))) 21 (vp_updL ((sJ S2 20 (vp_updL (S2.2.1 20) e (S2.2.1 18 e))).2.1 21) e ((sJ S2 20 (vp_updL (S2.2.1 20) e (S2.2.1 18 e))).2.1 19 e))).2.1 21 e' = _
          rw [sJ_ne (by decide), sJ_at, sJ_at, sJ_ne (by decide), sJ_ne (by decide)]
          unfold vp_updL
          by_cases c1 : e' = e
          · rw [if_pos c1, if_pos c1, c1]
            exact q2 e he
          · rw [if_neg c1, if_neg c1]
            exact b2 e' (by omega)
      · rintro z M2 ⟨rfl, S2, h2, w2, q2, b2⟩
        have hC2 : jEnc C (S2.1 0) := by rw [w2.1]; exact hC
        unfold jf_X1_laysPart_L23
        exact jo_rd (jM_fR h2 (k := 0) rfl) (jo_rd (jr_now1 h2 hC2 rfl) (jo_t (by rw [nI_leI (by omega) (by omega)]; omega) (jo_ret ⟨S2, h2, w2, b2⟩)))
      · rintro _ M2 ⟨S2, h2, w2, b2⟩
        have hC2 : jEnc C (S2.1 0) := by rw [w2.1]; exact hC
        unfold jf_X1_laysPart_k23_63 jf_X1_laysPart_k71_155
        refine jo_rd (jM_cl h2) (jo_bd (jo_mono (jm_spans (d := 1) h2 hC2 hW hN (.inl rfl) hc) ?_))
        rintro _ M3 ⟨S3, h3, w3, q3⟩
        have w23 := w2.tr w3 (by decide) (by decide)
        have b3 : ∀ e', e' < cE C → S3.2.1 20 e' = jI (ptQ C 2 ch e').num ∧ S3.2.1 21 e' = jI (ptQ C 2 ch e').den := fun e' he' => by
          rw [w3.2.2.1 20 (by decide), w3.2.2.1 21 (by decide)]
          exact b2 e' he'
        refine jo_bd (jo_mono (jo_up (cE C) (fun e z M' => z = nI e ∧ ∃ S', jMM m ad M0 S' M' ∧ sW [15, 16, 18, 19, 20, 21] [17] S S' ∧ jFQ S' (cE C) (fun x => if x < e then prtQ C ch 2 x else ptQ C 1 ch x) ∧ ∀ e', e' < cE C → S'.2.1 20 e' = jI (ptQ C 2 ch e').num ∧ S'.2.1 21 e' = jI (ptQ C 2 ch e').den) (fun _ M' => ∃ S', jMM m ad M0 S' M' ∧ sW [15, 16, 18, 19, 20, 21] [17] S S' ∧ jFQ S' (cE C) (prtQ C ch 2)) ?_ ?_ N 0 _ M3 ⟨rfl, S3, h3, w23, fun x hx => by dsimp only; rw [if_neg (Nat.not_lt_zero x)]; exact q3 x hx, b3⟩ (Nat.zero_le _) (by omega)) ?_)
        · rintro e z M4 he ⟨rfl, S4, h4, w4, q4, b4⟩
          have hC4 : jEnc C (S4.1 0) := by rw [w4.1]; exact hC
          have ix : ∀ k, jM_len k = 6 → jm_ix (nI e) (jM_len k) = some e := fun k hk => by rw [hk]; exact jm_ixn (by omega) (by decide)
          have hch := hW.2.2.2.2.2 ch e hc he
          obtain ⟨r1, r2, r3, r4⟩ := prt_har hW hc he
          have q4e := q4 e he
          dsimp only at q4e
          rw [if_neg (Nat.lt_irrefl e)] at q4e
          have ja : ∀ k, k = 18 ∨ k = 19 ∨ k = 20 ∨ k = 21 → jM_ja k := fun k hk => by unfold jM_ja; omega
          unfold jf_X1_laysPart_L71
          refine jo_rd (jM_fR h4 (k := 0) rfl) (jo_rd (jr_now1 h4 hC4 rfl) (jo_f (by rw [nI_leI (by omega) (by omega)]; omega) ?_))
          refine jo_rd (jM_fR h4 (k := 21) rfl) (jo_rd (jM_ldJ h4 (k := 21) (ja _ (by omega)) (ix 21 rfl)) ?_)
          refine jo_rd (jM_fR h4 (k := 19) rfl) (jo_rd (jM_ldJ h4 (k := 19) (ja _ (by omega)) (ix 19 rfl)) ?_)
          refine jo_rd (jM_fR h4 (k := 0) rfl) (jo_rd (jr_ch h4 hC4 hW hc he (by simp only [nI_lit, nI_mul, nI_add])) ?_)
          refine jo_rd (jM_fR h4 (k := 20) rfl) (jo_rd (jM_ldJ h4 (k := 20) (ja _ (by omega)) (ix 20 rfl)) ?_)
          refine jo_rd (jM_fR h4 (k := 19) rfl) (jo_rd (jM_ldJ h4 (k := 19) (ja _ (by omega)) (ix 19 rfl)) ?_)
          refine jo_rd (jM_fR h4 (k := 18) rfl) (jo_rd (jM_ldJ h4 (k := 18) (ja _ (by omega)) (ix 18 rfl)) ?_)
          refine jo_rd (jM_fR h4 (k := 21) rfl) (jo_rd (jM_ldJ h4 (k := 21) (ja _ (by omega)) (ix 21 rfl)) (jo_rd (jM_cl h4) ?_))
          rw [q4e.1, q4e.2, (b4 e he).1, (b4 e he).2, iI_l (by omega) (by omega), jI_mul, jI_mul, jI_mul, jI_mul, jI_sub, jI_sub]
          refine jo_bd (jo_mono (jm_tells (e := e) h4 (by omega) r1 r2 r3 (by omega)) ?_)
          rintro _ M5 h5
          refine jo_ret ⟨by rw [nI_1], _, h5, (w4.tr (sW_J (k := 18)) (by decide) (by decide)).tr (sW_J (k := 19)) (by decide) (by decide), jFQ_up (fun x hx xe => ?_) ?_, fun e' he' => ?_⟩
          · have := q4 x hx
            dsimp only at this ⊢
            by_cases c1 : x < e
            · rw [if_pos c1] at this
              rw [if_pos (by omega)]; exact this
            · rw [if_neg c1] at this
              rw [if_neg (by omega)]; exact this
          · show (if e < e + 1 then prtQ C ch 2 e else ptQ C 1 ch e) = _
            rw [if_pos (by omega), r4]
          · rw [sJ_ne (by decide), sJ_ne (by decide), sJ_ne (by decide), sJ_ne (by decide)]
            exact b4 e' he'
        · rintro z M4 ⟨rfl, S4, h4, w4, q4, b4⟩
          have hC4 : jEnc C (S4.1 0) := by rw [w4.1]; exact hC
          unfold jf_X1_laysPart_L71
          refine jo_rd (jM_fR h4 (k := 0) rfl) (jo_rd (jr_now1 h4 hC4 rfl) (jo_t (by rw [nI_leI (by omega) (by omega)]; omega) (jo_ret ⟨S4, h4, w4, fun x hx => ?_⟩)))
          have := q4 x hx
          dsimp only at this
          rw [if_pos hx] at this
          exact this
        · rintro _ M4 hx
          exact jo_ret hx
end PO
