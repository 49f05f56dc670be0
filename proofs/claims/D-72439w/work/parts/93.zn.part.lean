/-! PLAIN LAW, 93.zn: a part of a chain: numbers over one number; component -/
noncomputable def ptL (C : CX) : Int := ((ptD C 2).natAbs : Int) * ((ptD C 1).natAbs : Int)
/-- of each edge a fraction -/
noncomputable def prtQ (C : CX) (ch v e : Nat) : Rat := if v = 0 then ptQ C 2 ch e else if v = 1 then ptQ C 1 ch e else if v = 3 then ((cCh C ch e : Int) : Rat) else ((cCh C ch e : Int) : Rat) - ptQ C 2 ch e - ptQ C 1 ch e
section PA
variable {β : Type} {Q : β → Mem → Prop} {md : Nat → Bool} {N c s : Nat} {M0 M : Mem} {C : CX}
theorem ptL_rg (hW : jWf C) : 0 < ptL C ∧ (ptL C).natAbs ≤ 8916100448256 := by
  have h1 := ptD_ne hW (.inl rfl)
  have h2 := ptD_ne hW (.inr rfl)
  have b1 := ptD_abs hW (.inl rfl)
  have b2 := ptD_abs hW (.inr rfl)
  unfold ptL
  refine ⟨Int.mul_pos (by omega) (by omega), ?_⟩
  rw [Int.natAbs_mul]
  refine Nat.le_trans (Nat.mul_le_mul (show _ ≤ 84934656 from ?_) (show _ ≤ 104976 from ?_)) (by decide)
  · rw [Int.natAbs_natCast]; exact b2
  · rw [Int.natAbs_natCast]; exact b1
theorem sg_abs {D : Int} : D * D.sign = (D.natAbs : Int) := by
  rcases Int.lt_trichotomy D 0 with c | c | c
  · rw [Int.sign_eq_neg_one_of_neg c]; omega
  · subst c; rfl
  · rw [Int.sign_eq_one_of_pos c]; omega
theorem sg_le {D : Int} : D.sign.natAbs ≤ 1 := by
  rcases Int.lt_trichotomy D 0 with c | c | c
  · rw [Int.sign_eq_neg_one_of_neg c]; decide
  · subst c; decide
  · rw [Int.sign_eq_one_of_pos c]; decide
theorem ptQ_2 (hW : jWf C) {ch e : Nat} (hc : ch < 3) (he : e < cE C) : ∃ z, fZ (ptL C) (ptQ C 2 ch e) z ∧ z.natAbs ≤ 1925877696823296 := by
  refine ⟨_, fZ_divInt (m := (ptD C 2).sign * ((ptD C 1).natAbs : Int)) (ptD_ne hW (.inr rfl)) ?_, ?_⟩
  · unfold ptL
    rw [← Int.mul_assoc, sg_abs]
  · rw [Int.natAbs_mul, Int.natAbs_mul, Int.natAbs_natCast]
    have b1 := ptD_abs hW (.inl rfl)
    have b2 := ptA_abs hW (ch := ch) (.inr rfl) hc he
    exact Nat.le_trans (Nat.mul_le_mul b2 (Nat.mul_le_mul (sg_le (D := ptD C 2)) b1)) (by decide)
theorem ptQ_1 (hW : jWf C) {ch e : Nat} (hc : ch < 3) (he : e < cE C) : ∃ z, fZ (ptL C) (ptQ C 1 ch e) z ∧ z.natAbs ≤ 320979616137216 := by
  refine ⟨_, fZ_divInt (m := (ptD C 1).sign * ((ptD C 2).natAbs : Int)) (ptD_ne hW (.inl rfl)) ?_, ?_⟩
  · unfold ptL
    rw [← Int.mul_assoc, sg_abs, Int.mul_comm]
  · rw [Int.natAbs_mul, Int.natAbs_mul, Int.natAbs_natCast]
    have b1 := ptD_abs hW (.inr rfl)
    have b2 := ptA_abs hW (ch := ch) (.inl rfl) hc he
    exact Nat.le_trans (Nat.mul_le_mul b2 (Nat.mul_le_mul (sg_le (D := ptD C 1)) b1)) (by decide)
theorem ptQ_x (hW : jWf C) {ch e : Nat} (hc : ch < 3) (he : e < cE C) : fZ (ptL C) ((cCh C ch e : Int) : Rat) (cCh C ch e * ptL C) ∧ (cCh C ch e * ptL C).natAbs ≤ 80244904034304 := by
  refine ⟨fZ_int, ?_⟩
  rw [Int.natAbs_mul]
  exact Nat.le_trans (Nat.mul_le_mul (cCh_abs hW hc he) (ptL_rg hW).2) (by decide)
theorem prtQ_z (hW : jWf C) {ch v e : Nat} (hc : ch < 3) (he : e < cE C) : ∃ z, fZ (ptL C) (prtQ C ch v e) z ∧ z.natAbs ≤ 2400000000000000 := by
  obtain ⟨z2, a2, b2⟩ := ptQ_2 hW hc he
  obtain ⟨z1, a1, b1⟩ := ptQ_1 hW hc he
  obtain ⟨a3, b3⟩ := ptQ_x hW hc he
  unfold prtQ
  split
  · exact ⟨z2, a2, by omega⟩
  · split
    · exact ⟨z1, a1, by omega⟩
    · split
      · exact ⟨_, a3, by omega⟩
      · refine ⟨cCh C ch e * ptL C + -z2 + -z1, ?_, by omega⟩
        rw [Rat.sub_eq_add_neg, Rat.sub_eq_add_neg]
        exact fZ_add (fZ_add a3 (fZ_neg a2)) (fZ_neg a1)
theorem jQs_ld {q n i : Nat} {f : Nat → Rat} {p : Option Nat → jm_P β} (h : jQsP q n n f (jMk md M.2.2)) (hi : i < n) (hn : n < 2 ^ 31) (kk : ∀ b, jMk md M.2.2 b = some (jFr (f i)) → jo (p (some b)) M Q) : jo (jm_rd (jm_ldR 11 (some q) (nI i)) p) M Q := by
  obtain ⟨g, h1, h2⟩ := h
  obtain ⟨b, b1, b2⟩ := h2 i hi
  refine jo_ldR (mkg h1).2 rfl hi hn ?_
  rw [b1]
  exact kk b b2
theorem jx_driven (hM : ∀ a, md a = true → a < M0.1) (hE : jExt md c s M0 M) {a : Nat} (h : jCx a C (jMk md M.2.2)) (hW : jWf C) (hN : 100 < N) : jo (jf_X9_driven N a) M (jNew md (c + 30) (s + 160) M0 M (fun t H => jTb t (cE C) (cP C) (ptB C 1) H)) := by
  have h6 := hW.2.1
  have h5 := hW.1
  have m1 : cP C * cE C ≤ 5 * 6 := Nat.mul_le_mul h5 h6
  have m2 : cE C * cP C ≤ 6 * 5 := Nat.mul_le_mul h6 h5
  obtain ⟨va, ha⟩ := h.ob
  unfold jf_X9_driven
  refine jo_cl (mkg ha).2 (jo_bd (jo_mono (jx_table9 (d := 1) hM hE h hW (.inl rfl) hN) ?_))
  rintro r M1 ⟨t, rfl, s1, E1, ht⟩
  refine jo_cl (mkg (s1 _ _ ha)).2 (jo_bd (jo_mono (jx_weights (d := 1) hM E1 (h.kp s1.kp) hW (.inl rfl) hN) ?_))
  rintro r M2 ⟨q, rfl, s2, E2, g, g1, g2⟩
  refine jT_cl ((ht.sub s2).sub jMk.sub) (jo_bd (jo_mono (jx_weighed (W := cWt C 1) (R := cP C) (K := cE C) hM E2 (ht.sub s2) g1 (fun k hk => ⟨g2 k hk, cWt_lt hW (.inl rfl) hk⟩) (by omega) (by omega) hN) ?_))
  rintro r M3 ⟨t3, rfl, s3, E3, h3⟩
  refine jT_cl (h3.sub jMk.sub) (jo_bd (jo_mono (jx_turned hM E3 h3 (by omega) (by omega) hN) ?_))
  rintro r M4 ⟨t4, rfl, s4, E4, h4⟩
  refine jo_ret ⟨t4, rfl, s1.tr (s2.tr (s3.tr s4)), E4.mono (by omega) (by omega), ?_⟩
  refine h4.cg fun e p _ _ => ?_
  unfold ptB cTab cWt
  rw [if_pos rfl, if_pos rfl, if_pos rfl]
/-- tables of some columns of what spans the parts stay small -/
def jSmP (C : CX) : Prop := ∀ d, d = 1 ∨ d = 2 → jSmK (cE C) (ptN C d) (ptB C d)
theorem jx_part1 (hM : ∀ a, md a = true → a < M0.1) (hE : jExt md c s M0 M) {a v ch : Nat} (h : jCx a C (jMk md M.2.2)) (hW : jWf C) (hv : v = 0 ∨ v = 1) (hc : ch < 3) (hS : jSmP C) (hN : 1180591620717411303424 < N) :
    jo (jf_X9_part1 N a (nI ch) (nI v)) M (jNew md (c + 260) (s + 1260) M0 M (fun q H => jQsP q (cE C) (cE C) (prtQ C ch v) H)) := by
  obtain ⟨va, ha⟩ := h.ob
  unfold jf_X9_part1
  rcases hv with rfl | rfl
  · refine jo_t rfl (jo_cl (mkg ha).2 (jo_bd (jo_mono (jx_table9 (d := 2) hM hE h hW (.inr rfl) (by omega)) ?_)))
    rintro r M1 ⟨t, rfl, s1, E1, ht⟩
    refine jo_cl (mkg (s1 _ _ ha)).2 (jo_bd (jo_mono (jx_along (d := 2) hM E1 (h.kp s1.kp) hW (ht.cg fun e f _ _ => rfl) (.inr rfl) hc (hS 2 (.inr rfl)) hN) ?_))
    rintro r M2 ⟨q, rfl, s2, E2, g, g1, g2⟩
    exact jo_ret ⟨q, rfl, s1.tr s2, E2.mono (by omega) (by omega), g, g1, g2⟩
  · refine jo_f (by decide) (jo_t rfl (jo_cl (mkg ha).2 (jo_bd (jo_mono (jx_driven hM hE h hW (by omega)) ?_))))
    rintro r M1 ⟨t, rfl, s1, E1, ht⟩
    refine jo_cl (mkg (s1 _ _ ha)).2 (jo_bd (jo_mono (jx_along (d := 1) hM E1 (h.kp s1.kp) hW ht (.inl rfl) hc (hS 1 (.inl rfl)) hN) ?_))
    rintro r M2 ⟨q, rfl, s2, E2, g, g1, g2⟩
    exact jo_ret ⟨q, rfl, s1.tr s2, E2.mono (by omega) (by omega), g, g1, g2⟩
theorem jx_part (hM : ∀ a, md a = true → a < M0.1) (hE : jExt md c s M0 M) {a v ch : Nat} (h : jCx a C (jMk md M.2.2)) (hW : jWf C) (hv : v < 4) (hc : ch < 3) (hS : jSmP C) (hN : 1180591620717411303424 < N) :
    jo (jf_X9_part N a (nI ch) (nI v)) M (jNew md (c + 560) (s + 2700) M0 M (fun q H => jQsP q (cE C) (cE C) (prtQ C ch v) H)) := by
  have h6 := hW.2.1
  obtain ⟨l0, l1⟩ := ptL_rg hW
  obtain ⟨va, ha⟩ := h.ob
  by_cases v01 : v = 0 ∨ v = 1
  · have e : jf_X9_part N a (nI ch) (nI v) = jf_X9_part1 N a (nI ch) (nI v) := by
      unfold jf_X9_part jf_X9_part1
      rcases v01 with rfl | rfl
      · rw [if_pos (show nI 0 = 0 from rfl), if_pos (show nI 0 = 0 from rfl)]
      · rw [if_neg (show ¬ nI 1 = 0 by decide), if_neg (show ¬ nI 1 = 0 by decide), if_pos (show nI 1 = 1 from rfl), if_pos (show nI 1 = 1 from rfl)]
    rw [e]
    refine jo_mono (jx_part1 hM hE h hW v01 hc hS hN) ?_
    rintro r M1 ⟨q, rfl, s1, E1, h1⟩
    exact ⟨q, rfl, s1, E1.mono (by omega) (by omega), h1⟩
  · unfold jf_X9_part
    refine jo_f (show ¬ nI v = nI 0 by rw [nI_eq (by omega) (by omega)]; omega) (jo_f (show ¬ nI v = nI 1 by rw [nI_eq (by omega) (by omega)]; omega) ?_)
    refine jo_cl (mkg ha).2 (jo_bd (jo_mono (jx_part1 (v := 0) hM hE h hW (.inl rfl) hc hS hN) ?_))
    rintro r M1 ⟨q0, rfl, s1, E1, h1⟩
    refine jo_cl (mkg (s1 _ _ ha)).2 (jo_bd (jo_mono (jx_part1 (v := 1) hM E1 (h.kp s1.kp) hW (.inr rfl) hc hS hN) ?_))
    rintro r M2 ⟨q1, rfl, s2, E2, h2⟩
    have s12 := s1.tr s2
    have h1' := h1.sub s2
    refine jx_nE ((h.kp s12.kp).kp jMk.sub.kp) (jo_ck (ckL (by omega)) ?_)
    rw [nI_tc (by omega)]
    refine jX_al (E2.md hM) E2 fun q M3 hn _ e3 E3 => ?_
    have s3 : jSub (jMk md M2.2.2) (jMk md M3.2.2) := by rw [e3]; exact jSub.new hn
    refine jo_bd (jo_mono (jo_up (cE C) (fun i z M' => z = nI i ∧ jQsP q (cE C) i (prtQ C ch v) (jMk md M'.2.2) ∧ jSub (jMk md M2.2.2) (jMk md M'.2.2) ∧ jExt md (c + 521 + 5 * i) (s + 2526 + 10 * i) M0 M') (fun _ M' => jQsP q (cE C) (cE C) (prtQ C ch v) (jMk md M'.2.2) ∧ jSub (jMk md M2.2.2) (jMk md M'.2.2) ∧ jExt md (c + 560) (s + 2700) M0 M') ?_ ?_ N 0 _ M3 ⟨rfl, ⟨_, by rw [e3, va_up_self], fun e he => absurd he (Nat.not_lt_zero e)⟩, s3, E3.mono (by omega) (by show s + 1260 + 1260 + cE C ≤ _; omega)⟩ (Nat.zero_le _) (by omega)) ?_)
    · rintro i z M4 hi ⟨rfl, q4, s4, E4⟩
      have hC : jCx a C (jMk md M4.2.2) := h.kp (s12.tr s4).kp
      have hch := hW.2.2.2.2.2 ch i hc hi
      unfold jf_X9_part_L58 jf_X9_part_j119
      refine jx_nE (hC.kp jMk.sub.kp) (jo_f (by rw [nI_leI (by omega) (by omega)]; omega) ?_)
      refine jX_al (E4.md hM) E4 fun b M5 hb _ e5 E5 => ?_
      have s5 : jSub (jMk md M4.2.2) (jMk md M5.2.2) := by rw [e5]; exact jSub.new hb
      refine jx_ch ((hC.kp s5.kp).kp jMk.sub.kp) hW hc hi ?_
      rw [iI_l (by omega) (by omega), show (1 : Int64) = jI 1 from rfl]
      refine jX_in12 (by rw [e5, va_up_self]) (by omega) (by decide) (by decide) (by omega) E5 (fun M6 e6 E6 => ?_)
      have s6 : jSub (jMk md M4.2.2) (jMk md M6.2.2) := by rw [e6, e5, va_up2]; exact jSub.new hb
      have ex : Rat.divInt (cCh C ch i) 1 = ((cCh C ch i : Int) : Rat) := by
        rw [Rat.divInt_eq_div]
        generalize ((cCh C ch i : Int) : Rat) = y
        have : ((1 : Int) : Rat) = 1 := rfl
        rw [this]
        grind
      have hb6 : jMk md M6.2.2 b = some (jFr ((cCh C ch i : Int) : Rat)) := by rw [e6, va_up_self, ex]
      by_cases v3 : v = 3
      · subst v3
        refine jo_t rfl (jQsP_st (q4.sub s6) hb6 (s4.tr s6) hn hi (by omega) E6 (fun M7 q7 s7 E7 => jo_ret ⟨by rw [nI_1], q7, s7, E7.mono (by omega) (by show s + 2526 + 10 * i + 2 ≤ _; omega)⟩))
      · refine jo_f (show ¬ nI v = nI 3 by rw [nI_eq (by omega) (by omega)]; omega) ?_
        have s46 := s4.tr s6
        obtain ⟨z2, a2, b2⟩ := ptQ_2 hW hc hi
        obtain ⟨z1, a1, b1⟩ := ptQ_1 hW hc hi
        obtain ⟨a3, b3⟩ := ptQ_x hW hc hi
        refine jQs_ld (h1'.sub s46) hi (by omega) (fun b0 hb0 => jo_cl (mkg hb6).2 (jo_bd (jo_mono (jx_minus hM E6 l0 a3 a2 (by omega) (by omega) (by omega) hb6 hb0) ?_)))
        rintro r M7 ⟨b7, rfl, s7, E7, h7⟩
        have a4 := fZ_add a3 (fZ_neg a2)
        rw [← Rat.sub_eq_add_neg] at a4
        refine jQs_ld ((h2.sub s46).sub s7) hi (by omega) (fun b0' hb0' => jo_cl (mkg h7).2 (jo_bd (jo_mono (jx_minus hM E7 l0 a4 a1 (by omega) (by omega) (by omega) h7 hb0') ?_)))
        rintro r M8 ⟨b8, rfl, s8, E8, h8⟩
        have hp : prtQ C ch v i = ((cCh C ch i : Int) : Rat) - ptQ C 2 ch i - ptQ C 1 ch i := by
          unfold prtQ
          rw [if_neg (by omega), if_neg (by omega), if_neg v3]
        exact jQsP_st ((q4.sub s6).sub (s7.tr s8)) (by rw [h8, hp]) (s46.tr (s7.tr s8)) hn hi (by omega) E8 (fun M9 q9 s9 E9 => jo_ret ⟨by rw [nI_1], q9, s9, E9.mono (by omega) (by show s + 2526 + 10 * i + 2 + 4 + 4 ≤ _; omega)⟩)
    · rintro z M4 ⟨rfl, q4, s4, E4⟩
      have hC : jCx a C (jMk md M4.2.2) := h.kp (s12.tr s4).kp
      unfold jf_X9_part_L58
      exact jx_nE (hC.kp jMk.sub.kp) (jo_t (by rw [nI_leI (by omega) (by omega)]; omega) (jo_ret ⟨q4, s4, E4.mono (by omega) (by omega)⟩))
    · rintro _ M4 ⟨q4, s4, E4⟩
      unfold jf_X9_part_k58_126
      exact jo_ret ⟨q, rfl, s12.tr s4, E4, q4⟩
end PA
