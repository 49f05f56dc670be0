/-! PLAIN LAW, 93.zr: solving, spanning: model -/
section SP
variable {N m : Nat} {ad : Nat → Nat} {M0 M : Mem} {S : MS} {C : CX} {f : Nat → Int64}
theorem sJ_at {S : MS} {k : Nat} {f : Nat → Int64} : (sJ S k f).2.1 k = f := va_up_self S.2.1 k f
theorem sJ_ne {S : MS} {k j : Nat} {f : Nat → Int64} (h : j ≠ k) : (sJ S k f).2.1 j = S.2.1 j := va_up_ne _ _ h
theorem ptM_abs (hW : jWf C) {d i j : Nat} (hd : d = 1 ∨ d = 2) (hi : i < ptn C d) (hj : j < ptn C d) : (ptM C d i j).natAbs ≤ 324 := by
  have := ptG_abs hW hd (nt_ptS hW hi) (nt_ptS hW hj)
  unfold ptM
  split at this <;> omega
theorem jm_laysP (h : jMM m ad M0 (s15 S f) M) (hC : jEnc C (S.1 0)) (hW : jWf C) (hN : 100 < N) {d : Nat} (hd : d = 1 ∨ d = 2) :
    jo (jf_X1_laysProducts N m (nI d) (nI (ptS C d))) M (fun _ M' => ∃ g, jMM m ad M0 (s15 S g) M' ∧ ∀ a b', a < ptn C d → b' < ptn C d → g (6 * a + b') = jI (ptM C d a b')) := by
  have hk5 := ptn_le hW hd
  have h64 := ptS_64 hW (d := d)
  generalize hk : ptn C d = k at hk5 ⊢
  have hk' : sN (ptS C d) = k := hk
  have kk : k * k ≤ 16 := Nat.mul_le_mul hk5 hk5
  unfold jf_X1_laysProducts jf_X1_laysProducts_k8_60
  refine jo_eq (jr_ones h64 (by omega)) ?_
  rw [hk']
  refine jo_bd (jo_mono (jo_up (k * k) (fun q z M' => z = nI q ∧ ∃ g, jMM m ad M0 (s15 S g) M' ∧ ∀ a b', a < k → b' < k → a * k + b' < q → g (6 * a + b') = jI (ptM C d a b')) (fun _ M' => ∃ g, jMM m ad M0 (s15 S g) M' ∧ ∀ a b', a < k → b' < k → g (6 * a + b') = jI (ptM C d a b')) ?_ ?_ N 0 _ M ⟨rfl, f, h, fun a b _ _ hq => absurd hq (Nat.not_lt_zero _)⟩ (Nat.zero_le _) (by omega)) ?_)
  · rintro q z M' hq ⟨rfl, g, h', e⟩
    have k0 : 0 < k := by
      rcases Nat.eq_zero_or_pos k with y | y
      · subst y; omega
      · exact y
    have qa : q / k < k := Nat.div_lt_of_lt_mul hq
    have qb : q % k < k := Nat.mod_lt _ k0
    have kz : ¬ nI k = 0 := by
      show ¬ nI k = nI 0
      rw [nI_eq (by omega) (by omega)]; omega
    unfold jf_X1_laysProducts_L8
    rw [nI_mul]
    refine jo_f (by rw [nI_leI (by omega) (by omega)]; omega) (jo_rd (jM_fR h' (k := 15) rfl) (jo_ck kz (jo_ck kz (jo_ck kz ?_))))
    rw [nI_rem (by omega) k0 (by omega), nI_div (by omega) k0 (by omega)]
    refine jo_eq (jr_nth h64 (by omega) (by omega)) (jo_ck kz (jo_eq (jr_nth h64 (by omega) (by omega)) (jo_rd (jM_cl h') ?_)))
    refine jo_eq (jr_productM h' hC hW hN hd (nt_ptS hW (by omega)) (nt_ptS hW (by omega))) ?_
    refine jM_st15 h' (j := 6 * (q / k) + q % k) ix6 (by omega) (fun M1 h1 => jo_ret ⟨by rw [nI_1], _, h1, fun a b' ha hb' hl => ?_⟩)
    rw [upL]
    by_cases ee : a = q / k ∧ b' = q % k
    · rw [if_pos (by rw [ee.1, ee.2]), ee.1, ee.2]; rfl
    · rw [if_neg (by rw [ij6 (by omega) (by omega)]; exact ee)]
      refine e a b' ha hb' ?_
      refine Nat.lt_of_le_of_ne (by omega) (fun eq => ee ?_)
      have : q = b' + a * k := by omega
      subst this
      rw [Nat.add_mul_div_right _ _ k0, Nat.add_mul_mod_self_right, Nat.div_eq_of_lt hb', Nat.mod_eq_of_lt hb']
      exact ⟨by omega, rfl⟩
  · rintro z M' ⟨rfl, g, h', e⟩
    unfold jf_X1_laysProducts_L8
    rw [nI_mul]
    refine jo_t (by rw [nI_leI (by omega) (by omega)]; omega) (jo_ret ⟨g, h', fun a b ha hb => e a b ha hb ?_⟩)
    have : a * k + k ≤ k * k := by
      have := Nat.mul_le_mul_right k (show a + 1 ≤ k by omega)
      rw [Nat.succ_mul] at this
      exact this
    omega
  · rintro _ M' hx
    exact jo_ret hx
theorem jm_solves (h : jMM m ad M0 S M) (hC : jEnc C (S.1 0)) (hW : jWf C) (hN : 100 < N) {d ch : Nat} (hd : d = 1 ∨ d = 2) (hc : ch < 3) :
    jo (jf_X1_solves N m (nI d) (nI (ptS C d)) (nI ch)) M (fun _ M' => ∃ S', jMM m ad M0 S' M' ∧ sW [15, 16] [17] S S' ∧ S'.2.2.2 17 = jI (ptD C d) ∧ ∀ j, j < ptn C d → S'.2.1 16 j = jI (ptK C d ch j)) := by
  have hk5 := ptn_le hW hd
  have h64 := ptS_64 hW (d := d)
  have h' : jMM m ad M0 (s15 S (S.2.1 15)) M := by rw [s15_self]; exact h
  unfold jf_X1_solves jf_X1_solves_k25_98
  refine jo_eq (jr_ones h64 (by omega)) ?_
  show jo (jm_rd (jm_cl 1 (some m)) fun a8 => jm_bd (jf_X1_laysProducts N a8 (nI d) (nI (ptS C d))) fun x5 => jm_rd (jm_cl 1 (some m)) fun a14 => jm_bd (jf_X1_determinant N a14 (nI (ptn C d))) fun x11 => jm_wr (jm_put [1] 17 (.long x11) (some m)) <| jm_bd (jm_it (fun z => jf_X1_solves_L25 N m (nI d) (nI (ptS C d)) (nI ch) (nI (ptn C d)) z) N (0 : Int32)) fun y => jm_ret ()) M _
  refine jo_rd (jM_cl h') (jo_bd (jo_mono (jm_laysP h' hC hW hN hd) ?_))
  rintro _ M1 ⟨g1, h1, e1⟩
  refine jo_rd (jM_cl h1) (jo_bd (jo_mono (jm_det (n := ptn C d) (A := ptM C d) (Mx := 324) h1 (by omega) hN e1 (fun i j hi hj => ptM_abs hW hd hi hj) (jBd_pt _ hk5)) ?_))
  rintro _ M2 ⟨rfl, g2, h2⟩
  refine jM_puJ h2 (k := 17) (by decide) rfl (fun M3 h3 => ?_)
  have w3 : sW [15, 16] [17] S (sL (s15 S g2) 17 (jI (mn (ptn C d) (ptM C d)))) := (sW_15.up (by decide) (by decide)).tr (sW_L (k := 17)) (by decide) (by decide)
  refine jo_bd (jo_mono (jo_up (ptn C d) (fun j z M' => z = nI j ∧ ∃ S', jMM m ad M0 S' M' ∧ sW [15, 16] [17] S S' ∧ S'.2.2.2 17 = jI (ptD C d) ∧ ∀ j', j' < j → S'.2.1 16 j' = jI (ptK C d ch j')) (fun _ M' => ∃ S', jMM m ad M0 S' M' ∧ sW [15, 16] [17] S S' ∧ S'.2.2.2 17 = jI (ptD C d) ∧ ∀ j, j < ptn C d → S'.2.1 16 j = jI (ptK C d ch j)) ?_ ?_ N 0 _ M3 ⟨rfl, _, h3, w3, va_up_self (s15 S g2).2.2.2 17 (jI (ptD C d)), fun j' hj' => absurd hj' (Nat.not_lt_zero _)⟩ (Nat.zero_le _) (by omega)) ?_)
  · rintro j z M4 hj ⟨rfl, S4, h4, w4, d4, k4⟩
    have hC4 : jEnc C (S4.1 0) := by rw [w4.1]; exact hC
    have h4' : jMM m ad M0 (s15 S4 (S4.2.1 15)) M4 := by rw [s15_self]; exact h4
    unfold jf_X1_solves_L25 jf_X1_solves_k41_79
    refine jo_f (by rw [nI_leI (by omega) (by omega)]; omega) (jo_rd (jM_cl h4) (jo_bd (jo_mono (jm_laysP h4' hC4 hW hN hd) ?_)))
    rintro _ M5 ⟨g5, h5, e5⟩
    refine jo_bd (jo_mono (jo_up (ptn C d) (fun i z M' => z = nI i ∧ ∃ g, jMM m ad M0 (s15 S4 g) M' ∧ ∀ a b', a < ptn C d → b' < ptn C d → g (6 * a + b') = jI (if b' = j ∧ a < i then ptR C d ch (nt (ptS C d) a) else ptM C d a b')) (fun _ M' => ∃ g, jMM m ad M0 (s15 S4 g) M' ∧ ∀ a b', a < ptn C d → b' < ptn C d → g (6 * a + b') = jI (cwd (ptM C d) j (fun i => ptR C d ch (nt (ptS C d) i)) a b')) ?_ ?_ N 0 _ M5 ⟨rfl, g5, h5, fun a b' ha hb' => by rw [if_neg (fun y => absurd y.2 (Nat.not_lt_zero _))]; exact e5 a b' ha hb'⟩ (Nat.zero_le _) (by omega)) ?_)
    · rintro i z M6 hi ⟨rfl, g6, h6, e6⟩
      unfold jf_X1_solves_L41
      refine jo_f (by rw [nI_leI (by omega) (by omega)]; omega) (jo_rd (jM_fR h6 (k := 15) rfl) (jo_eq (jr_nth h64 hi (by omega)) (jo_rd (jM_cl h6) (jo_eq (jr_againstM h6 hC4 hW hN hd (nt_ptS hW hi) hc) ?_))))
      refine jM_st15 h6 (j := 6 * i + j) ix6 (by omega) (fun M7 h7 => jo_ret ⟨by rw [nI_1], _, h7, fun a b' ha hb' => ?_⟩)
      rw [upL]
      by_cases ee : a = i ∧ b' = j
      · rw [if_pos (by rw [ee.1, ee.2]), if_pos ⟨ee.2, by omega⟩, ee.1]
      · rw [if_neg (by rw [ij6 (by omega) (by omega)]; exact ee), e6 a b' ha hb']
        by_cases c1 : b' = j ∧ a < i
        · rw [if_pos c1, if_pos ⟨c1.1, by omega⟩]
        · rw [if_neg c1, if_neg (by omega)]
    · rintro z M6 ⟨rfl, g6, h6, e6⟩
      unfold jf_X1_solves_L41
      refine jo_t (by rw [nI_leI (by omega) (by omega)]; omega) (jo_ret ⟨g6, h6, fun a b' ha hb' => ?_⟩)
      rw [e6 a b' ha hb']
      unfold cwd
      by_cases c1 : b' = j
      · rw [if_pos ⟨c1, ha⟩, if_pos c1]
      · rw [if_neg (fun y => c1 y.1), if_neg c1]
    · rintro _ M6 ⟨g6, h6, e6⟩
      refine jo_rd (jM_fR h6 (k := 16) rfl) (jo_rd (jM_cl h6) (jo_bd (jo_mono (jm_det (n := ptn C d) (A := cwd (ptM C d) j (fun i => ptR C d ch (nt (ptS C d) i))) (Mx := 324) h6 (by omega) hN e6 (fun a b' ha hb' => ?_) (jBd_pt _ hk5)) ?_)))
      · unfold cwd
        split
        · have := ptR_abs hW (ch := ch) hd hc (nt_ptS hW ha)
          show (ptR C d ch (nt (ptS C d) a)).natAbs ≤ 324
          split at this <;> omega
        · exact ptM_abs hW hd ha hb'
      · rintro _ M7 ⟨rfl, g7, h7⟩
        refine jM_stJ h7 (k := 16) (by unfold jM_ja; omega) (jm_ixn (show j < jM_len 16 by show j < 6; omega) (by decide)) (fun M8 h8 => jo_ret ⟨by rw [nI_1], _, h8, (w4.tr sW_15 (by decide) (by decide)).tr (sW_J (k := 16)) (by decide) (by decide), d4, fun j' hj' => ?_⟩)
        show (sJ (s15 S4 g7) 16 (vp_updL ((s15 S4 g7).2.1 16) j (jI (ptK C d ch j)))).2.1 16 j' = _
        rw [sJ_at]
        have : (s15 S4 g7).2.1 16 = S4.2.1 16 := sJ_ne (k := 15) (by decide)
        rw [this]
        unfold vp_updL
        by_cases c1 : j' = j
        · rw [if_pos c1, c1]
        · rw [if_neg c1]; exact k4 j' (by omega)
  · rintro z M4 ⟨rfl, S4, h4, w4, d4, k4⟩
    unfold jf_X1_solves_L25
    exact jo_t (by rw [nI_leI (by omega) (by omega)]; omega) (jo_ret ⟨S4, h4, w4, d4, k4⟩)
  · rintro _ M4 hx
    exact jo_ret hx
/-- the model's rows above and below hold the fractions of the first edges -/
def jFQ (S : MS) (n : Nat) (q : Nat → Rat) : Prop := ∀ e, e < n → S.2.1 18 e = jI (q e).num ∧ S.2.1 19 e = jI (q e).den
theorem jFQ_up {S : MS} {n e : Nat} {q : Nat → Rat} {r : Rat} (h : ∀ x, x < n → x ≠ e → S.2.1 18 x = jI (q x).num ∧ S.2.1 19 x = jI (q x).den) (hr : q e = r) : jFQ (sJ (sJ S 18 (vp_updL (S.2.1 18) e (jI r.num))) 19 (vp_updL (S.2.1 19) e (jI r.den))) n q := by
  intro x hx
  have a1 : (sJ (sJ S 18 (vp_updL (S.2.1 18) e (jI r.num))) 19 (vp_updL (S.2.1 19) e (jI r.den))).2.1 18 = vp_updL (S.2.1 18) e (jI r.num) := by
    rw [sJ_ne (by decide), sJ_at]
  have a2 : (sJ (sJ S 18 (vp_updL (S.2.1 18) e (jI r.num))) 19 (vp_updL (S.2.1 19) e (jI r.den))).2.1 19 = vp_updL (S.2.1 19) e (jI r.den) := sJ_at
  rw [a1, a2]
  unfold vp_updL
  by_cases c : x = e
  · subst c
    rw [if_pos rfl, if_pos rfl, hr]
    exact ⟨rfl, rfl⟩
  · rw [if_neg c, if_neg c]
    exact h x hx c
theorem jm_spans (h : jMM m ad M0 S M) (hC : jEnc C (S.1 0)) (hW : jWf C) (hN : 9223372036854775809 < N) {d ch : Nat} (hd : d = 1 ∨ d = 2) (hc : ch < 3) :
    jo (jf_X1_spans N m (nI d) (nI ch)) M (fun _ M' => ∃ S', jMM m ad M0 S' M' ∧ sW [15, 16, 18, 19] [17] S S' ∧ jFQ S' (cE C) (ptQ C d ch)) := by
  have h6 := hW.2.1
  have hk5 := ptn_le hW hd
  have h64 := ptS_64 hW (d := d)
  have h' : jMM m ad M0 (s15 S (S.2.1 15)) M := by rw [s15_self]; exact h
  have bD := ptD_abs hW hd
  have hPD : ptPD d ≤ 84934656 := by rcases hd with rfl | rfl <;> decide
  have hPA : ptPA d ≤ 18345885696 := by rcases hd with rfl | rfl <;> decide
  unfold jf_X1_spans jf_X1_spans_k16_129
  refine jo_rd (jM_cl h') (jo_bd (jo_mono (jm_independent h' hC hW hN hd) ?_))
  rintro _ M1 ⟨rfl, g1, h1⟩
  have w1 : sW [15, 16, 18, 19] [17] S (s15 S g1) := sW_15.up (by decide) (by decide)
  refine jo_rd (jM_cl h1) (jo_bd (jo_mono (jm_solves h1 hC hW (by omega) hd hc) ?_))
  rintro _ M2 ⟨S2, h2, w2, d2, k2⟩
  have w12 := w1.tr w2 (by decide) (by decide)
  refine jo_bd (jo_mono (jo_up (cE C) (fun e z M' => z = nI e ∧ ∃ S', jMM m ad M0 S' M' ∧ sW [15, 16, 18, 19] [17] S S' ∧ S'.2.2.2 17 = jI (ptD C d) ∧ (∀ j, j < ptn C d → S'.2.1 16 j = jI (ptK C d ch j)) ∧ jFQ S' e (ptQ C d ch)) (fun _ M' => ∃ S', jMM m ad M0 S' M' ∧ sW [15, 16, 18, 19] [17] S S' ∧ jFQ S' (cE C) (ptQ C d ch)) ?_ ?_ N 0 _ M2 ⟨rfl, S2, h2, w12, d2, k2, fun e he => absurd he (Nat.not_lt_zero _)⟩ (Nat.zero_le _) (by omega)) ?_)
  · rintro e z M3 he ⟨rfl, S3, h3, w3, d3, k3, q3⟩
    have hC3 : jEnc C (S3.1 0) := by rw [w3.1]; exact hC
    unfold jf_X1_spans_L16 jf_X1_spans_k33_111
    refine jo_rd (jM_fR h3 (k := 0) rfl) (jo_rd (jr_now1 h3 hC3 rfl) (jo_f (by rw [nI_leI (by omega) (by omega)]; omega) ?_))
    refine jo_bd (jo_mono (jo_up (ptn C d) (fun j z M' => M' = M3 ∧ z = (jI (jsum j (fun j => ptB C d e (nt (ptS C d) j) * ptK C d ch j)), nI j)) (fun r M' => M' = M3 ∧ r = jI (ptA C d ch e)) ?_ ?_ N 0 _ M3 ⟨rfl, rfl⟩ (Nat.zero_le _) (by omega)) ?_)
    · rintro j z M' hj ⟨rfl, rfl⟩
      have fin : ∀ t0 : Int, t0 = ptB C d e (nt (ptS C d) j) → jo (jf_X1_spans_j88 N m (nI d) (nI (ptS C d)) (nI e) (jI (jsum j (fun j => ptB C d e (nt (ptS C d) j) * ptK C d ch j))) (nI j) (jI t0)) M' (fun x M1 => M1 = M' ∧ x = .inl (jI (jsum (j + 1) (fun j => ptB C d e (nt (ptS C d) j) * ptK C d ch j)), nI (j + 1))) := by
        rintro t0 rfl
        unfold jf_X1_spans_j88
        refine jo_rd (jM_fR h3 (k := 16) rfl) (jo_rd (jM_ldJ h3 (k := 16) (by unfold jM_ja; omega) (jm_ixn (show j < jM_len 16 by show j < 6; omega) (by decide))) (jo_ret ⟨rfl, ?_⟩))
        rw [k3 j hj, jI_mul, jI_add, nI_1]
        rfl
      unfold jf_X1_spans_L33
      refine jo_eq (jr_ones h64 (by omega)) (jo_f (by show ¬ nI (ptn C d) ≤ nI j; rw [nI_leI (by omega) (by omega)]; omega) ?_)
      have lt := nt_ptS hW hj
      rcases hd with rfl | rfl
      · have w := hW.2.2.2.1 e he
        have o := cOne_rg (C := C) (p := nt (ptS C 1) j) (e := e)
        have h5 := hW.1
        have lt' : nt (ptS C 1) j < cP C := lt
        refine jo_t rfl (jo_rd (jM_fR h3 (k := 0) rfl) (jo_eq (jr_wt (d := 1) h3 hC3 hW (.inl rfl) he) (jo_eq (jr_nth h64 hj (by omega)) (jo_rd (jM_cl h3) (jo_eq (jr_one h3 hC3 hW (by omega) he) ?_)))))
        have e1 : (nI (cWt C 1 e)).toInt64 * (iI (cOne C (nt (ptS C 1) j) e)).toInt64 = jI (ptB C 1 e (nt (ptS C 1) j)) := by
          show (iI ((cEd C e 2 : Nat) : Int)).toInt64 * _ = _
          rw [iI_l (by omega) (by omega), iI_l (by omega) (by omega), jI_mul]
          unfold ptB
          rw [if_pos rfl, Int.mul_comm]
        rw [e1]
        refine jo_mono (fin _ rfl) ?_
        rintro x M4 ⟨rfl, rfl⟩
        exact ⟨rfl, rfl⟩
      · have t1 := cTwo_rg hW (e := e) (show nt (ptS C 2) j < cF C from lt)
        refine jo_f (by decide) (jo_eq (jr_nth h64 hj (by omega)) (jo_rd (jM_cl h3) (jo_eq (jr_two h3 hC3 hW (by omega) (show nt (ptS C 2) j < cF C from lt) (by omega)) ?_)))
        have e1 : (iI (cTwo C e (nt (ptS C 2) j))).toInt64 = jI (ptB C 2 e (nt (ptS C 2) j)) := by
          rw [iI_l (by omega) (by omega)]
          rfl
        rw [e1]
        refine jo_mono (fin _ rfl) ?_
        rintro x M4 ⟨rfl, rfl⟩
        exact ⟨rfl, rfl⟩
    · rintro z M' ⟨rfl, rfl⟩
      unfold jf_X1_spans_L33
      exact jo_eq (jr_ones h64 (by omega)) (jo_t (by show nI (ptn C d) ≤ nI (ptn C d); rw [nI_leI (by omega) (by omega)]; omega) (jo_ret ⟨rfl, rfl⟩))
    · rintro r M4 ⟨rfl, rfl⟩
      have bA := ptA_abs hW (ch := ch) hd hc he
      refine jo_rd (jM_fJ h3 (k := 17) rfl) (jo_rd (jM_cl h3) ?_)
      rw [d3]
      refine jo_bd (jo_mono (jm_tells (e := e) h3 (by omega) (by omega) (by omega) (ptD_ne hW hd) (by omega)) ?_)
      rintro _ M5 h5
      refine jo_ret ⟨by rw [nI_1], _, h5, (w3.tr (sW_J (k := 18)) (by decide) (by decide)).tr (sW_J (k := 19)) (by decide) (by decide), d3, fun j hj => ?_, jFQ_up (fun x hx xe => q3 x (by omega)) rfl⟩
      rw [sJ_ne (by decide), sJ_ne (by decide)]
      exact k3 j hj
  · rintro z M3 ⟨rfl, S3, h3, w3, d3, k3, q3⟩
    have hC3 : jEnc C (S3.1 0) := by rw [w3.1]; exact hC
    unfold jf_X1_spans_L16
    exact jo_rd (jM_fR h3 (k := 0) rfl) (jo_rd (jr_now1 h3 hC3 rfl) (jo_t (by rw [nI_leI (by omega) (by omega)]; omega) (jo_ret ⟨S3, h3, w3, q3⟩)))
  · rintro _ M3 hx
    exact jo_ret hx
end SP
