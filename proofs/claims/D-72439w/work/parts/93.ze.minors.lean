/-! PLAIN LAW, 93.ze: minors on both sides -/
/-- near tables stay small -/
def jSmN (C : CX) : Prop := ∀ w, w < 3 → smallA (cNs C w) (cNs C w) (cNear C w)
noncomputable def mnR (C : CX) (w : Nat) : Nat := rkN (cRows C (nrD w)) (cCols C (nrD w)) (cTab C (nrD w))
noncomputable def mnV (C : CX) (w s : Nat) : Int := if sN s = mnR C w then mn (sN s) (fun a b => cNear C w (nt s a) (nt s b)) else 0
noncomputable def mnS (C : CX) (w : Nat) : Int := jsum (2 ^ cNs C w) (mnV C w)
section MI
variable {N x m n : Nat} {ad : Nat → Nat} {md : Nat → Bool} {c s : Nat} {M0 M : Mem} {T : ST} {C : CX} {S : MS} {f : Nat → Int64} {F : Nat → Nat → Int}
theorem cNs_le (hW : jWf C) {w : Nat} : cNs C w ≤ 6 := by
  have := hW.1
  have := hW.2.1
  unfold cNs
  split <;> omega
theorem jx_within (hM : ∀ a, md a = true → a < M0.1) (hE : jExt md c s M0 M) {t b : Nat} (h : jTb t n n F (jMk md M.2.2)) (hn : n ≤ 6) (hN : 100 < N) (hb : b < 2 ^ n) (hq : sN b ≤ 5) : jo (jf_X11_within N t (nI b)) M (jNew md (c + 29) (s + 143) M0 M (fun t' H => jTb t' (sN b) (sN b) (fun i j => F (nt b i) (nt b j)) H)) := by
  have m1 : n * sN b ≤ 6 * 5 := Nat.mul_le_mul hn hq
  have m2 : sN b * n ≤ 5 * 6 := Nat.mul_le_mul hq hn
  have m3 : sN b * sN b ≤ 5 * 5 := Nat.mul_le_mul hq hq
  unfold jf_X11_within
  refine jT_cl (h.sub jMk.sub) (jo_bd (jo_mono (jx_some hM hE h (by omega) hn hN hb) ?_))
  rintro r M1 ⟨t1, ar, rr, rf, rfl, h1, E1⟩
  refine jN_cl h1.md (jo_bd (jo_mono (jx_turned hM E1 h1.tb (by omega) (by omega) hN) ?_))
  rintro r M2 ⟨t2, rfl, s2, E2, h2⟩
  refine jT_cl (h2.sub jMk.sub) (jo_bd (jo_mono (jx_some hM E2 h2 (by omega) hn hN hb) ?_))
  rintro r M3 ⟨t3, ar3, rr3, rf3, rfl, h3, E3⟩
  refine jN_cl h3.md (jo_bd (jo_mono (jx_turned hM E3 h3.tb (by omega) (by omega) hN) ?_))
  rintro r M4 ⟨t4, rfl, s4, E4, h4⟩
  exact jo_ret ⟨t4, rfl, h1.2.2.2.2.tr (s2.tr (h3.2.2.2.2.tr s4)), E4.mono (by omega) (by omega), h4⟩
theorem jx_minors (hM : ∀ a, md a = true → a < M0.1) (hE : jExt md c s M0 M) {a w : Nat} (h : jCx a C (jMk md M.2.2)) (hW : jWf C) (hS : jSmN C) (hw : w < 3) (hN : 1180591620717411303424 < N) : jo (jf_X9_minors N a (nI w)) M (fun r M' => r = jI (mnS C w) ∧ jSub (jMk md M.2.2) (jMk md M'.2.2) ∧ jExt md (c + 3000) (s + 15000) M0 M') := by
  have hn6 := cNs_le hW (w := w)
  have nn : cNs C w * (cNs C w + 1) ≤ 6 * 7 := Nat.mul_le_mul hn6 (by omega)
  have pp : 2 ^ cNs C w ≤ 64 := Nat.pow_le_pow_right (n := 2) (by decide) hn6
  obtain ⟨va, ha⟩ := h.ob
  unfold jf_X9_minors jf_X9_minors_k17_61
  refine jo_cl (mkg ha).2 (jo_bd (jo_mono (jx_near9 hM hE h hW hw (by omega)) ?_))
  rintro r M1 ⟨t, rfl, s1, E1, ht⟩
  refine jT_cl (ht.sub jMk.sub) (jo_bd (jo_mono (jx_Trank hM E1 ht (by omega) (by omega) hN (hS w hw)) ?_))
  rintro r M3 ⟨⟨k, rfl, hk⟩, s3, E3⟩
  obtain ⟨k', hk'⟩ := isRk_ex (R := cRows C (nrD w)) (K := cCols C (nrD w)) (A := cTab C (nrD w))
  have hkk : k = k' := near_rk hW hw hk hk'
  subst hkk
  have hkr : k = mnR C w := rkN_eq hk'
  obtain ⟨k5, kb⟩ := jBd_near hW hw hk'
  refine jo_bd (jo_mono (jo_up (2 ^ cNs C w) (fun i z M' => z = (jI (jsum i (mnV C w)), nI i) ∧ jSub (jMk md M3.2.2) (jMk md M'.2.2) ∧ jExt md (c + 60 + 9 + 41 * i) (s + 500 + 210 * i) M0 M') (fun r M' => r = jI (mnS C w) ∧ jSub (jMk md M3.2.2) (jMk md M'.2.2) ∧ jExt md (c + 3000) (s + 15000) M0 M') ?_ ?_ N 0 _ M3 ⟨rfl, fun _ _ h => h, E3.mono (by omega) (by omega)⟩ (Nat.zero_le _) (by omega)) ?_)
  · rintro b z M4 hb ⟨rfl, s4, E4⟩
    have h64 : b < 64 := by omega
    have hT : jTb t (cNs C w) (cNs C w) (cNear C w) (jMk md M4.2.2) := (ht.sub s3).sub s4
    have fin : ∀ (M5 : Mem) (t1 : Int), t1 = mnV C w b → jSub (jMk md M3.2.2) (jMk md M5.2.2) → jExt md (c + 60 + 9 + 41 * (b + 1)) (s + 500 + 210 * (b + 1)) M0 M5 → jo (jf_X9_minors_j52 N (some t) (nI k) (nI b) (jI (jsum b (mnV C w))) (jI t1)) M5 (fun z M' => z = .inl (jI (jsum (b + 1) (mnV C w)), nI (b + 1)) ∧ jSub (jMk md M3.2.2) (jMk md M'.2.2) ∧ jExt md (c + 60 + 9 + 41 * (b + 1)) (s + 500 + 210 * (b + 1)) M0 M') := by
      rintro M5 t1 rfl s5 E5
      unfold jf_X9_minors_j52
      refine jo_ret ⟨?_, s5, E5⟩
      rw [nI_1, ds_succ, jI_add']
    unfold jf_X9_minors_L17
    refine jT_cols (hT.sub jMk.sub) ?_
    rw [shl_nI _ (by omega)]
    refine jo_f (by rw [nI_leI (by omega) (by omega)]; omega) (jo_eq (jx_bits h64) ?_)
    have hsN : sN b ≤ 6 := sN_le b h64
    by_cases c1 : sN b = k
    · refine jo_t (by rw [c1]) (jT_cl (hT.sub jMk.sub) (jo_bd (jo_mono (jx_within hM E4 hT hn6 (by omega) hb (by omega)) ?_)))
      rintro r M5 ⟨t2, rfl, s5, E5, h5⟩
      have q2 : sN b * sN b ≤ 5 * 5 := Nat.mul_le_mul (by omega) (by omega)
      refine jT_cl (h5.sub jMk.sub) (jo_bd (jo_mono (jx_det (Mx := nrM w) hM E5 h5 (by omega) (by omega) (fun i j hi hj => ?_) (by rw [c1]; exact kb)) ?_))
      · exact near_abs hW hw (nt_lt hb hn6 hi) (nt_lt hb hn6 hj)
      · rintro r M6 ⟨rfl, s6, E6⟩
        refine jo_mono (fin M6 _ ?_ (s4.tr (s5.tr s6)) (E6.mono (by omega) (by omega))) ?_
        · unfold mnV
          rw [if_pos (by rw [c1, hkr])]
        · rintro z M7 ⟨rfl, z2⟩
          exact ⟨rfl, z2⟩
    · refine jo_f (by rw [nI_eq (by omega) (by omega)]; exact c1) (jo_mono (fin M4 0 ?_ s4 (E4.mono (by omega) (by omega))) ?_)
      · unfold mnV
        rw [if_neg (by rw [← hkr]; exact c1)]
      · rintro z M7 ⟨rfl, z2⟩
        exact ⟨rfl, z2⟩
  · rintro z M4 ⟨rfl, s4, E4⟩
    have hT : jTb t (cNs C w) (cNs C w) (cNear C w) (jMk md M4.2.2) := (ht.sub s3).sub s4
    unfold jf_X9_minors_L17
    refine jT_cols (hT.sub jMk.sub) ?_
    rw [shl_nI _ (by omega)]
    refine jo_t (by rw [nI_leI (by omega) (by omega)]; omega) (jo_ret ⟨rfl, s4, E4.mono (by omega) (by omega)⟩)
  · rintro r M4 ⟨rfl, s4, E4⟩
    exact jo_ret ⟨rfl, (s1.tr s3).tr s4, E4⟩
theorem jm_minorsFill (h : jMM m ad M0 (s15 S f) M) (hC : jEnc C (S.1 0)) (hW : jWf C) (hN : 100 < N) {w b k : Nat} (hw : w < 3) (hb : b < 2 ^ cNs C w) (hk : sN b = k) (hk5 : k ≤ 5) {v3 : Int64} :
    jo (jm_it (fun z => jf_X1_minors_L71 N m (nI w) (nI k) v3 (nI b) z) N (0 : Int32)) M (fun _ M' => ∃ g, jMM m ad M0 (s15 S g) M' ∧ ∀ a b', a < k → b' < k → g (6 * a + b') = jI (cNear C w (nt b a) (nt b b'))) := by
  have hn6 := cNs_le hW (w := w)
  have pp : 2 ^ cNs C w ≤ 64 := Nat.pow_le_pow_right (n := 2) (by decide) hn6
  have hcs : b < 64 := by omega
  have kk : k * k ≤ 25 := Nat.mul_le_mul hk5 hk5
  refine jo_mono (jo_up (k * k) (fun q z M' => z = nI q ∧ ∃ g, jMM m ad M0 (s15 S g) M' ∧ ∀ a b', a < k → b' < k → a * k + b' < q → g (6 * a + b') = jI (cNear C w (nt b a) (nt b b'))) (fun _ M' => ∃ g, jMM m ad M0 (s15 S g) M' ∧ ∀ a b', a < k → b' < k → g (6 * a + b') = jI (cNear C w (nt b a) (nt b b'))) ?_ ?_ N 0 _ M ⟨rfl, f, h, fun a b _ _ hq => absurd hq (Nat.not_lt_zero _)⟩ (Nat.zero_le _) (by omega)) (fun _ _ g => g)
  · rintro q z M' hq ⟨rfl, g, h', e⟩
    have k0 : 0 < k := by
      rcases Nat.eq_zero_or_pos k with y | y
      · subst y; omega
      · exact y
    have qa : q / k < k := Nat.div_lt_of_lt_mul hq
    have qb : q % k < k := Nat.mod_lt _ k0
    have kz : ¬ nI k = 0 := by
      show ¬ nI k = nI 0
      rw [nI_eq (by omega) (by omega)]; omega
    unfold jf_X1_minors_L71
    rw [nI_mul]
    refine jo_f (by rw [nI_leI (by omega) (by omega)]; omega) (jo_rd (jM_fR h' (k := 15) rfl) (jo_ck kz (jo_ck kz (jo_ck kz ?_))))
    rw [nI_rem (by omega) k0 (by omega), nI_div (by omega) k0 (by omega)]
    refine jo_eq (jr_nth hcs (by omega) (by omega)) (jo_ck kz (jo_eq (jr_nth hcs (by omega) (by omega)) (jo_rd (jM_cl h') ?_)))
    have ri : nt b (q / k) < cNs C w := nt_lt hb hn6 (by omega)
    have cj : nt b (q % k) < cNs C w := nt_lt hb hn6 (by omega)
    refine jo_eq (jr_near h' hC hW hN hw ri cj) ?_
    have rg := near_abs hW hw ri cj
    have r192 : nrM w ≤ 192 := by unfold nrM; split; decide; split <;> decide
    refine jM_st15 h' (j := 6 * (q / k) + q % k) ix6 (by omega) (fun M1 h1 => jo_ret ⟨by rw [nI_1], _, h1, fun a b' ha hb' hl => ?_⟩)
    rw [upL, iI_l (by omega) (by omega)]
    by_cases ee : a = q / k ∧ b' = q % k
    · rw [if_pos (by rw [ee.1, ee.2]), ee.1, ee.2]
    · rw [if_neg (by rw [ij6 (by omega) (by omega)]; exact ee)]
      refine e a b' ha hb' ?_
      refine Nat.lt_of_le_of_ne (by omega) (fun eq => ee ?_)
      have : q = b' + a * k := by omega
      subst this
      rw [Nat.add_mul_div_right _ _ k0, Nat.add_mul_mod_self_right, Nat.div_eq_of_lt hb', Nat.mod_eq_of_lt hb']
      exact ⟨by omega, rfl⟩
  · rintro z M' ⟨rfl, g, h', e⟩
    unfold jf_X1_minors_L71
    rw [nI_mul]
    refine jo_t (by rw [nI_leI (by omega) (by omega)]; omega) (jo_ret ⟨g, h', fun a b ha hb => e a b ha hb ?_⟩)
    have : a * k + k ≤ k * k := by
      have := Nat.mul_le_mul_right k (show a + 1 ≤ k by omega)
      rw [Nat.succ_mul] at this
      exact this
    omega
theorem jm_minors9 (h : jMM m ad M0 (s15 S f) M) (hC : jEnc C (S.1 0)) (hW : jWf C) (hN : 9223372036854775809 < N) {w : Nat} (hw : w < 3) : jo (jf_X1_minors_j38 N m (nI w) (some m) (nI (nrD w))) M (fun r M' => r = jI (mnS C w) ∧ ∃ g, jMM m ad M0 (s15 S g) M') := by
  have hn6 := cNs_le hW (w := w)
  have pp : 2 ^ cNs C w ≤ 64 := Nat.pow_le_pow_right (n := 2) (by decide) hn6
  unfold jf_X1_minors_j38 jf_X1_minors_k47_140
  refine jo_rd (jM_cl h) (jo_bd (jo_mono (jm_rankAll h hC hW hN (by unfold nrD; split <;> omega)) ?_))
  rintro r M1 ⟨⟨k, rfl, hk⟩, w1, h1⟩
  have hkr : k = mnR C w := rkN_eq hk
  obtain ⟨k5, kb⟩ := jBd_near hW hw hk
  refine jo_bd (jo_mono (jo_up (2 ^ cNs C w) (fun i z M' => z = (jI (jsum i (mnV C w)), nI i) ∧ ∃ g, jMM m ad M0 (s15 S g) M') (fun r M' => r = jI (mnS C w) ∧ ∃ g, jMM m ad M0 (s15 S g) M') ?_ ?_ N 0 _ M1 ⟨rfl, w1, h1⟩ (Nat.zero_le _) (by omega)) ?_)
  · rintro b z M4 hb ⟨rfl, w4, h4⟩
    have h64 : b < 64 := by omega
    have hsN : sN b ≤ 6 := sN_le b h64
    unfold jf_X1_minors_L47 jf_X1_minors_k71_126 jf_X1_minors_j134
    refine jo_rd (jM_cl h4) (jo_eq (jr_nearSize h4 hC hw) ?_)
    rw [shl_nI _ (by omega)]
    refine jo_f (by rw [nI_leI (by omega) (by omega)]; omega) (jo_eq (jr_ones h64 (by omega)) ?_)
    by_cases c1 : sN b = k
    · refine jo_t (by rw [c1]) (jo_bd (jo_mono (jm_minorsFill h4 hC hW (by omega) hw hb c1 k5) ?_))
      rintro _ M5 ⟨g, h5, e5⟩
      refine jo_rd (jM_cl h5) (jo_bd (jo_mono (jm_det (n := k) (A := fun a b' => cNear C w (nt b a) (nt b b')) (Mx := nrM w) h5 (by omega) (by omega) e5 (fun i j hi hj => ?_) kb) ?_))
      · exact near_abs hW hw (nt_lt hb hn6 (by omega)) (nt_lt hb hn6 (by omega))
      · rintro r M6 ⟨rfl, h6⟩
        refine jo_ret ⟨?_, h6⟩
        rw [nI_1, ds_succ, jI_add']
        congr 4
        unfold mnV
        rw [if_pos (by rw [c1, hkr]), c1]
    · refine jo_f (by rw [nI_eq (by omega) (by omega)]; exact c1) (jo_ret ⟨?_, w4, h4⟩)
      have : mnV C w b = 0 := by unfold mnV; rw [if_neg (by rw [← hkr]; exact c1)]
      rw [nI_1, ds_succ, this, Int.add_zero]
  · rintro z M4 ⟨rfl, w4, h4⟩
    unfold jf_X1_minors_L47
    refine jo_rd (jM_cl h4) (jo_eq (jr_nearSize h4 hC hw) ?_)
    rw [shl_nI _ (by omega)]
    exact jo_t (by rw [nI_leI (by omega) (by omega)]; omega) (jo_ret ⟨rfl, w4, h4⟩)
  · rintro r M4 ⟨rfl, h4⟩
    exact jo_ret ⟨rfl, h4⟩
noncomputable def aMinors (C : CX) (w : Int32) : Int64 := if ¬ 0 < cP C then -1000002 else if ¬ (0 ≤ w.toInt ∧ w.toInt ≤ 2) then -1000001 else jI (mnS C (tn w))
theorem jx_minorsOp (h : jRX x T (jMk md M.2.2)) (hM : ∀ a, md a = true → a < M0.1) (hE : jExt md c s M0 M) (hW : jWfS T) (hS : jSmN (sC T)) (hN : 1180591620717411303424 < N) {w : Int32} : jo (jf_X0_minors N x w) M (fun r M' => r = aMinors (sC T) w ∧ jRX x T (jMk md M'.2.2) ∧ jExt md (c + 3000) (s + 15000) M0 M') := by
  have hR := h
  have hE' := hE.mono (show c ≤ c + 3000 by omega) (show s ≤ s + 15000 by omega)
  obtain ⟨its, tp, pa, im, tf, pf, mf, h⟩ := h
  unfold jf_X0_minors aMinors
  refine jo_fQ (r := its) (mkg h.ob).2 (by decide) rfl ?_
  have hcx := h.cx
  cases its with
  | none =>
    have z : cP (sC T) = 0 := hcx.1
    refine jo_t rfl (jo_ret ⟨?_, hR, hE'⟩)
    rw [if_pos (by omega)]
  | some q =>
    obtain ⟨hp, hq⟩ : 0 < cP (sC T) ∧ jCx q (sC T) (jMk md M.2.2) := hcx
    obtain ⟨va, ha⟩ := hq.ob
    refine jo_ne (jo_eq (in32X (a := 0) (b := 2) rfl rfl) (jo_bI (fun c1 => jo_ret ⟨?_, hR, hE'⟩) (fun c1 => ?_)))
    · rw [if_neg (fun y => y hp), if_pos c1]
    · obtain ⟨w', h1, rfl, h3⟩ := n_of (n := 2) c1.1 c1.2 (by decide)
      refine jo_fR (mkg h.ob).2 (by decide) rfl (jo_cl (mkg ha).2 (jo_bd (jo_mono (jx_minors hM hE hq hW.1 hS (by omega) hN) ?_)))
      rintro r M1 ⟨rfl, s1, E1⟩
      refine jo_ret ⟨?_, hR.sub s1, E1⟩
      rw [if_neg (fun y => y hp), if_neg (fun y => y c1), tn_nI (by omega)]
theorem jm_minors (h : jMM m ad M0 S M) (hC : jEnc C (S.1 0)) (hW : jWf C) (hN : 9223372036854775809 < N) {w : Int32} : jo (jf_X1_minors N m w) M (fun r M' => r = aMinors C w ∧ ∃ g, jMM m ad M0 (s15 S g) M') := by
  have h' : jMM m ad M0 (s15 S (S.2.1 15)) M := by rw [s15_self]; exact h
  unfold jf_X1_minors aMinors
  refine jo_rd (jM_cl h) (jo_eq (jr_isComplex h hC hW) (jo_bI (fun c0 => jo_ret ⟨?_, _, h'⟩) (fun c0 => jo_eq (in32 (a := 0) (b := 2) rfl rfl) (jo_bI (fun c1 => jo_ret ⟨?_, _, h'⟩) (fun c1 => ?_)))))
  · rw [if_pos c0]
  · rw [if_neg (fun y => y c0), if_pos c1]
  · obtain ⟨w', h1, rfl, h3⟩ := n_of (n := 2) c1.1 c1.2 (by decide)
    have hw : w' < 3 := by omega
    have e : (if ¬ 0 < cP C then (-1000002 : Int64) else if ¬ (0 ≤ (nI w').toInt ∧ (nI w').toInt ≤ 2) then -1000001 else jI (mnS C (tn (nI w')))) = jI (mnS C w') := by
      rw [if_neg (fun y => y c0), if_neg (fun y => y c1), tn_nI (by omega)]
    rw [e]
    by_cases c2 : w' = 2
    · subst c2
      exact jo_t rfl (jm_minors9 h' hC hW hN hw)
    · have := jm_minors9 h' hC hW hN hw
      unfold nrD at this
      rw [if_neg c2] at this
      refine jo_f (by rw [show (2 : Int32) = nI 2 from rfl, nI_eq (by omega) (by omega)]; exact c2) this
theorem jb_minors (hN : 1180591620717411303424 < N) (hS : ∀ C, jWf C → jSmN C) {p : Int32} : jBoth x m ad 3000 15000 (jf_X0_minors N x p) (jf_X1_minors N m p) := jBoth_val (fun T => aMinors (sC T) p) (fun _ _ h hM hE hW => jx_minorsOp h hM hE hW (hS _ hW.1) hN) (fun _ _ _ h hT hW => jm_minors h hT.1 hW.1 (by omega))
end MI
