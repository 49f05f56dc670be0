/-! PLAIN LAW, 93.zo: the length of a part: component -/
noncomputable def lenT (C : CX) (ch v e : Nat) : Rat := Rat.divInt ((prtQ C ch v e).num * cCh C ch e) (((prtQ C ch v e).den : Int) * (cEd C e 2 : Int))
noncomputable def lenP (C : CX) (ch v : Nat) : Nat → Rat
  | 0 => 0
  | i + 1 => lenP C ch v i + lenT C ch v i
noncomputable def lenQ (C : CX) (ch v : Nat) : Rat := lenP C ch v (cE C)
section LE
variable {β : Type} {Q : β → Mem → Prop} {md : Nat → Bool} {N c s : Nat} {M0 M : Mem} {C : CX}
theorem lenT_z (hW : jWf C) {ch v e : Nat} (hc : ch < 3) (he : e < cE C) : (∃ z, fZ (ptL C * 6) (lenT C ch v e) z ∧ z.natAbs ≤ 129600000000000000) ∧ ((prtQ C ch v e).num * cCh C ch e).natAbs < 9223372036854775808 ∧ (((prtQ C ch v e).den : Int) * (cEd C e 2 : Int)).natAbs < 9223372036854775808 ∧ ((prtQ C ch v e).den : Int) * (cEd C e 2 : Int) ≠ 0 := by
  obtain ⟨l0, l1⟩ := ptL_rg hW
  obtain ⟨z, h, hz⟩ := prtQ_z hW (v := v) hc he
  have hw := hW.2.2.2.1 e he
  obtain ⟨w6, w1, w2⟩ := ptW_6 hW he
  obtain ⟨r1, r2⟩ := fZ_rg l0 h
  have x9 := cCh_abs hW hc he
  have d0 := Nat.pos_of_ne_zero (prtQ C ch v e).den_nz
  have bz : ((prtQ C ch v e).den : Int) * (cEd C e 2 : Int) ≠ 0 := Int.mul_ne_zero (by omega) (by omega)
  obtain ⟨m, hm⟩ := fZ_den l0 h
  have e1 := fZ_z l0 h hm
  refine ⟨⟨_, fZ_divInt (m := m * ptW C e) bz ?_, ?_⟩, ?_, ?_, bz⟩
  · rw [hm, ← w6]; grind
  · have : (prtQ C ch v e).num * cCh C ch e * (m * ptW C e) = ((prtQ C ch v e).num * m) * (cCh C ch e * ptW C e) := by grind
    rw [this, e1, Int.natAbs_mul, Int.natAbs_mul]
    exact Nat.le_trans (Nat.mul_le_mul hz (Nat.mul_le_mul x9 (show (ptW C e).natAbs ≤ 6 by omega))) (by decide)
  · rw [Int.natAbs_mul]
    have := Nat.mul_le_mul (Nat.le_trans r1 hz) x9
    omega
  · rw [Int.natAbs_mul]
    have := Nat.mul_le_mul (show (((prtQ C ch v e).den : Int)).natAbs ≤ 8916100448256 by omega) (show ((cEd C e 2 : Int)).natAbs ≤ 3 by omega)
    omega
theorem lenP_z (hW : jWf C) {ch v : Nat} (hc : ch < 3) : ∀ i, i ≤ cE C → ∃ z, fZ (ptL C * 6) (lenP C ch v i) z ∧ z.natAbs ≤ i * 129600000000000000 := by
  intro i
  induction i with
  | zero =>
    intro _
    refine ⟨0, ?_, Nat.zero_le _⟩
    show (0 : Rat) * _ = 0
    exact Rat.zero_mul _
  | succ i ih =>
    intro hi
    obtain ⟨z, h1, h2⟩ := ih (by omega)
    obtain ⟨⟨z', h3, h4⟩, -⟩ := lenT_z hW (v := v) hc (show i < cE C by omega)
    refine ⟨z + z', fZ_add h1 h3, ?_⟩
    have := Int.natAbs_add_le z z'
    omega
theorem jx_length (hM : ∀ a, md a = true → a < M0.1) (hE : jExt md c s M0 M) {a v ch : Nat} (h : jCx a C (jMk md M.2.2)) (hW : jWf C) (hv : v < 4) (hc : ch < 3) (hS : jSmP C) (hN : 1180591620717411303424 < N) :
    jo (jf_X9_length N a (nI ch) (nI v)) M (jNew md (c + 580) (s + 2730) M0 M (fun q H => H q = some (jFr (lenQ C ch v)))) := by
  have h6 := hW.2.1
  obtain ⟨l0, l1⟩ := ptL_rg hW
  obtain ⟨va, ha⟩ := h.ob
  unfold jf_X9_length jf_X9_length_k21_85
  refine jo_cl (mkg ha).2 (jo_bd (jo_mono (jx_part hM hE h hW hv hc hS hN) ?_))
  rintro r M1 ⟨q1, rfl, s1, E1, h1⟩
  refine jX_al (E1.md hM) E1 fun q0 M2 hq0 _ e2 E2 => ?_
  refine jX_in12 (a := 0) (b := 1) (by rw [e2, va_up_self]) (by decide) (by decide) (by decide) (by omega) E2 (fun M3 e3 E3 => ?_)
  have s3 : jSub (jMk md M1.2.2) (jMk md M3.2.2) := by rw [e3, e2, va_up2]; exact jSub.new hq0
  have o3 : jMk md M3.2.2 q0 = some (jFr (lenP C ch v 0)) := by
    rw [e3, va_up_self]
    have : Rat.divInt 0 1 = (0 : Rat) := by decide
    rw [this]; rfl
  refine jo_bd (jo_mono (jo_up (cE C) (fun i z M' => ∃ b, z = (some b, nI i) ∧ jMk md M'.2.2 b = some (jFr (lenP C ch v i)) ∧ jSub (jMk md M3.2.2) (jMk md M'.2.2) ∧ jExt md (c + 561 + 2 * i) (s + 2702 + 4 * i) M0 M') (fun r M' => ∃ b, r = some b ∧ jMk md M'.2.2 b = some (jFr (lenQ C ch v)) ∧ jSub (jMk md M3.2.2) (jMk md M'.2.2) ∧ jExt md (c + 580) (s + 2730) M0 M') ?_ ?_ N 0 _ M3 ⟨q0, rfl, o3, jSub.rf, E3.mono (by omega) (by show s + 2700 + 2 ≤ _; omega)⟩ (Nat.zero_le _) (by omega)) ?_)
  · rintro i z M4 hi ⟨b, rfl, hb, s4, E4⟩
    have s34 := s3.tr s4
    have hC : jCx a C (jMk md M4.2.2) := h.kp (s1.tr s34).kp
    have hch := hW.2.2.2.2.2 ch i hc hi
    have hw := hW.2.2.2.1 i hi
    obtain ⟨⟨z', t1, t2⟩, t3, t4, t5⟩ := lenT_z hW (v := v) hc hi
    obtain ⟨z, p1, p2⟩ := lenP_z hW (v := v) hc i (by omega)
    have h4 := h1.sub s34
    unfold jf_X9_length_L21
    obtain ⟨g, g1, g2⟩ := id h4
    refine jo_len (mkg g1).2 rfl (jo_f (by rw [nI_leI (by omega) (by omega)]; omega) ?_)
    refine jX_al (E4.md hM) E4 fun n M5 hn _ e5 E5 => ?_
    have s5 : jSub (jMk md M4.2.2) (jMk md M5.2.2) := by rw [e5]; exact jSub.new hn
    have hC5 : jCx a C M5.2.2 := (hC.kp s5.kp).kp jMk.sub.kp
    refine jQs_ld (h4.sub s5) hi (by omega) (fun b1 hb1 => jo_fJ (mkg hb1).2 (by decide) rfl (jx_ch hC5 hW hc hi ?_))
    refine jQs_ld (h4.sub s5) hi (by omega) (fun b2 hb2 => jo_fJ (mkg hb2).2 (by decide) rfl (jx_ed hC5 hW hi fun b3 hb3 => jo_fI hb3 (mem_56 _ _) rfl ?_))
    rw [iI_l (by omega) (by omega), show nI (cEd C i 2) = iI ((cEd C i 2 : Nat) : Int) from rfl, iI_l (by omega) (by omega), jI_mul, jI_mul]
    refine jX_in12 (by rw [e5, va_up_self]) t3 t4 t5 (by omega) E5 (fun M6 e6 E6 => ?_)
    have s6 : jSub (jMk md M4.2.2) (jMk md M6.2.2) := by rw [e6, e5, va_up2]; exact jSub.new hn
    have o6 : jMk md M6.2.2 n = some (jFr (lenT C ch v i)) := by rw [e6, va_up_self]; rfl
    have i6 : i * 129600000000000000 ≤ 5 * 129600000000000000 := Nat.mul_le_mul_right _ (by omega)
    refine jo_cl (mkg (s6 _ _ hb)).2 (jo_bd (jo_mono (jx_plus hM E6 (show 0 < ptL C * 6 by omega) p1 t1 (by omega) (by omega) (by omega) (s6 _ _ hb) o6) ?_))
    rintro r M7 ⟨q7, rfl, s7, E7, h7⟩
    exact jo_ret ⟨q7, by rw [nI_1], h7, s4.tr (s6.tr s7), E7.mono (by omega) (by show s + 2702 + 4 * i + 2 + 2 ≤ _; omega)⟩
  · rintro z M4 ⟨b, rfl, hb, s4, E4⟩
    unfold jf_X9_length_L21
    obtain ⟨g, g1, g2⟩ := h1.sub (s3.tr s4)
    exact jo_len (mkg g1).2 rfl (jo_t (by rw [nI_leI (by omega) (by omega)]; omega) (jo_ret ⟨b, rfl, hb, s4, E4.mono (by omega) (by omega)⟩))
  · rintro r M4 ⟨b, rfl, hb, s4, E4⟩
    exact jo_ret ⟨b, rfl, s1.tr (s3.tr s4), E4, hb⟩
end LE
