/-! PLAIN LAW, 40: drawn, weigh, edge: the model -/
section ED
variable {N m a n : Nat} {ad : Nat → Nat} {M0 M : Mem} {S : MS} {C : CX} {T : ST}
theorem sdr_step {x : Int} (h0 : 0 ≤ x) (h1 : x < 2147483647) (n : Nat) : (jI (sdr x n) * (16807 : Int64)) - (jI (sdr x n) * (16807 : Int64)) / (2147483647 : Int64) * (2147483647 : Int64) = jI (sdr x (n + 1)) := by
  have hr := sdr_rg h0 h1 n
  rw [show (16807 : Int64) = jI 16807 from rfl, show (2147483647 : Int64) = jI 2147483647 from rfl, jI_mul, jI_rem (by omega) (by omega), Int.tmod_eq_emod_of_nonneg (by omega)]
  rfl
theorem sdr_row {x : Int} (h0 : 0 ≤ x) (h1 : x < 2147483647) (n : Nat) : ((jI (sdr x n) - jI (sdr x n) / (19 : Int64) * (19 : Int64)).toInt32) - (9 : Int32) = iI (sdr x n % 19 - 9) := by
  have hr := sdr_rg h0 h1 n
  rw [show (19 : Int64) = jI 19 from rfl, jI_rem (by omega) (by omega), Int.tmod_eq_emod_of_nonneg (by omega), show (jI (sdr x n % 19)).toInt32 = iI (sdr x n % 19) from Int64.toInt32_ofInt, show (9 : Int32) = iI 9 from rfl, iI_sub]
theorem jm_drawn (h : jMM m ad M0 S M) (hT : jRM T S) (hW : jWfS T) (hN : 1000 < N) {c x : Int32} : jo (jf_X1_drawn N m c x) M (jOM m ad M0 (oDrawn T c x)) := by
  have hT0 := hT
  obtain ⟨hC, -⟩ := hT
  have w1 := hW.1
  have w2 := w1.2.1
  unfold jf_X1_drawn oDrawn
  refine jo_rd (jM_cl h) (jo_eq (jr_isComplex h hC w1) ?_)
  refine jo_bI (fun c1 => jo_ret (jOM.same h hT0 (if_pos c1))) (fun c1 => ?_)
  rw [if_neg (show ¬ ¬ 0 < cP (sC T) from fun y => y c1)]
  refine jo_eq (in32 (a := 0) (b := 2) rfl rfl) ?_
  refine jo_bI (fun c2 => jo_ret (jOM.same h hT0 (if_pos (.inl c2)))) (fun c2 => ?_)
  refine jo_eq (in32 (a := 1) (b := 999999) rfl rfl) ?_
  refine jo_bI (fun c3 => jo_ret (jOM.same h hT0 (if_pos (.inr c3)))) (fun c3 => ?_)
  rw [if_neg (show ¬ (¬ (0 ≤ c.toInt ∧ c.toInt ≤ 2) ∨ ¬ (1 ≤ x.toInt ∧ x.toInt ≤ 999999)) from fun y => y.elim (fun z => z c2) (fun z => z c3))]
  obtain ⟨c', h1, rfl, h3⟩ := n_of (n := 2) c2.1 c2.2 (by decide)
  rw [tn_nI (by omega), i32_l x]
  generalize x.toInt = z at c3
  refine jo_rd (jM_cl h) (jo_bd (jo_mono (jr_notes h hT0 hW hN) ?_))
  rintro _ M2 ⟨S1, g1, g2, g3, g4⟩
  have hC1 : jEnc (sC T) (S1.1 0) := by rw [g3]; exact hC
  have hbase := g2 (sC T) hC
  refine jo_bd (jo_mono (jo_up (cE (sC T)) (fun i q M' => q = (jI (sdr z i), nI i) ∧ ∃ b, jMM m ad M0 (va_up S1.1 0 b, S1.2) M' ∧ jEnc (xDrawn (sC T) c' z i) b) (fun _ M' => ∃ b, jMM m ad M0 (va_up S1.1 0 b, S1.2) M' ∧ jEnc (xDrawn (sC T) c' z (cE (sC T))) b) ?_ ?_ N 0 _ M2 ⟨rfl, S1.1 0, g1.now0, ?_⟩ (Nat.zero_le _) (by omega)) ?_)
  · rintro i q M' hi ⟨rfl, b, k1, k2⟩
    have kW := jWf_drawn w1 (c := c') (x := z) (n := i)
    have k3 : jEnc (xDrawn (sC T) c' z i) ((va_up S1.1 0 b, S1.2).1 0) := by rw [va_now]; exact k2
    unfold jf_X1_drawn_L47
    refine jo_rd (jM_fR k1 (k := 0) rfl) (jo_rd (jr_now1 k1 k3 rfl) ?_)
    refine jo_f (show ¬ nI (cE (sC T)) ≤ nI i by rw [nI_leI (by omega) (by omega)]; omega) ?_
    dsimp only
    rw [sdr_step (by omega) (by omega)]
    refine jo_lt ?_
    refine jo_rd (jM_fR k1 (k := 0) rfl) ?_
    rw [sdr_row (by omega) (by omega)]
    refine jM_stI k1 (k := 0) (.inl rfl) rfl (j := 45 + 6 * c' + i) (by rw [show (45 : Int32) + (6 : Int32) * nI c' + nI i = nI (45 + 6 * c' + i) by simp only [nI_lit, nI_mul, nI_add]]; exact jm_ixn (by show _ < 63; omega) (by decide)) (fun M3 k4 => jo_ret ⟨?_, _, k4.now2, ?_⟩)
    · show (jI _, nI i + 1) = _
      rw [nI_1]
    · rw [va_now]
      exact jEnc_put' kW k2 (by omega) hi xPut_drawn
  · rintro q M' ⟨rfl, b, k1, k2⟩
    have k3 : jEnc (xDrawn (sC T) c' z (cE (sC T))) ((va_up S1.1 0 b, S1.2).1 0) := by rw [va_now]; exact k2
    unfold jf_X1_drawn_L47
    refine jo_rd (jM_fR k1 (k := 0) rfl) (jo_rd (jr_now1 k1 k3 rfl) ?_)
    exact jo_t (show nI (cE (sC T)) ≤ nI (cE (sC T)) by rw [nI_leI (by omega) (by omega)]; omega) (jo_ret ⟨b, k1, k2⟩)
  · have e : xDrawn (sC T) c' z 0 = sC T := by
      unfold xDrawn xCh
      have : (fun c'' e => if c'' = c' ∧ e < 0 then sdr z (e + 1) % 19 - 9 else cCh (sC T) c'' e) = cCh (sC T) := by
        funext c'' e
        rw [if_neg (by omega)]
      rw [this]
      rfl
    rw [e]
    exact hC1
  · rintro u M3 ⟨b, k1, k2⟩
    have kW := jWf_drawn w1 (c := c') (x := z) (n := cE (sC T))
    have k3 : jEnc (xDrawn (sC T) c' z (cE (sC T))) ((va_up S1.1 0 b, S1.2).1 0) := by rw [va_now]; exact k2
    unfold jf_X1_drawn_k47_98
    refine jo_rd (jM_cl k1) (jo_eq (jr_others k1 k3 kW (by omega) (c := c') (by omega)) (jo_ret ⟨rfl, _, k1, ?_⟩))
    exact jRM_now hbase k2
theorem jEnc_wgE {C : CX} {b : Nat → Int32} (hW : jWf C) (h : jEnc C b) {k w : Nat} (hk : k < cE C) : jEnc (xWgE C k w) (upd b (5 + 3 * k) (nI w)) := by
  obtain ⟨h0, h1, h2, h3, h4, h5⟩ := h
  have w1 := hW.2.1
  have w2 := hW.2.2.1
  have k1 : cE (xWgE C k w) = cE C := rfl
  have k2 : cF (xWgE C k w) = cF C := rfl
  have k3 : cFl (xWgE C k w) = cFl C := rfl
  refine ⟨by rw [upd_ne (by omega)]; exact h0, by rw [upd_ne (by omega)]; exact h1, by rw [upd_ne (by omega)]; exact h2, fun x q hx hq => ?_, fun f hf => ⟨?_, ?_, fun j hj => ?_⟩, fun c' e' hc' he' => ?_⟩
  · show _ = nI (if x = k ∧ q = 2 then w else cEd C x q)
    by_cases c : x = k ∧ q = 2
    · rw [if_pos c, show 3 + 3 * x + q = 5 + 3 * k by omega, upd_self]
    · rw [if_neg c, upd_ne (by omega)]; exact h3 x q hx hq
  · rw [upd_ne (by omega)]; exact (h4 f hf).1
  · rw [upd_ne (by omega)]; exact (h4 f hf).2.1
  · rw [upd_ne (by omega)]; exact (h4 f hf).2.2 j hj
  · rw [upd_ne (by omega)]; exact h5 c' e' hc' he'
theorem jEnc_wgF {C : CX} {b : Nat → Int32} (hW : jWf C) (h : jEnc C b) {k w : Nat} (hk : k < cF C) : jEnc (xWgF C k w) (upd b (21 + 6 * k) (nI w)) := by
  obtain ⟨h0, h1, h2, h3, h4, h5⟩ := h
  have w1 := hW.2.1
  have w2 := hW.2.2.1
  have k1 : cE (xWgF C k w) = cE C := rfl
  have k2 : cF (xWgF C k w) = cF C := rfl
  have k3 : cFl (xWgF C k w) = cFl C := rfl
  refine ⟨by rw [upd_ne (by omega)]; exact h0, by rw [upd_ne (by omega)]; exact h1, by rw [upd_ne (by omega)]; exact h2, fun x q hx hq => ?_, fun f hf => ⟨?_, ?_, fun j hj => ?_⟩, fun c' e' hc' he' => ?_⟩
  · rw [upd_ne (by omega)]; exact h3 x q hx hq
  · show _ = nI (if f = k then w else cFw C f)
    by_cases c : f = k
    · rw [if_pos c, c, upd_self]
    · rw [if_neg c, upd_ne (by omega)]; exact (h4 f hf).1
  · rw [upd_ne (by omega)]; exact (h4 f hf).2.1
  · have := (hW.2.2.2.2.1 f hf).2.2.2.1
    rw [k3] at hj
    rw [upd_ne (by omega)]; exact (h4 f hf).2.2 j hj
  · rw [upd_ne (by omega)]; exact h5 c' e' hc' he'
theorem jm_weigh (h : jMM m ad M0 S M) (hT : jRM T S) (hW : jWfS T) (hN : 1000 < N) {d k w : Int32} : jo (jf_X1_weigh N m d k w) M (jOM m ad M0 (oWeigh T d k w)) := by
  have hT0 := hT
  obtain ⟨hC, -⟩ := hT
  have w1 := hW.1
  have w2 := w1.2.1
  have w3 := w1.2.2.1
  unfold jf_X1_weigh oWeigh
  by_cases c0 : d = 0
  · exact jo_t c0 (jo_ret (jOM.same h hT0 (if_pos (.inl c0))))
  refine jo_f c0 (jo_rd (jM_cl h) (jo_eq (jr_isCell h hC w1) ?_))
  refine jo_bI (fun c1 => jo_ret (jOM.same h hT0 (if_pos (.inr (.inl c1))))) (fun c1 => ?_)
  refine jo_eq (in32 (a := 1) (b := 3) rfl rfl) ?_
  refine jo_bI (fun c2 => jo_ret (jOM.same h hT0 (if_pos (.inr (.inr c2))))) (fun c2 => ?_)
  rw [if_neg (show ¬ (d = 0 ∨ ¬ cIsCell (sC T) d k ∨ ¬ (1 ≤ w.toInt ∧ w.toInt ≤ 3)) from fun y => y.elim c0 (fun z => z.elim (fun q => q c1) (fun q => q c2)))]
  obtain ⟨d', k', h1, h2, rfl, rfl⟩ := cIsCell_of w1 c1
  obtain ⟨w', h3, rfl, h4⟩ := n_of (n := 3) (by omega) c2.2 (by decide)
  have hm := cMany_le w1 d'
  rw [tn_nI (by omega), tn_nI (by omega), tn_nI (by omega)]
  refine jo_rd (jM_cl h) (jo_bd (jo_mono (jr_notes h hT0 hW hN) ?_))
  rintro _ M2 ⟨S1, g1, g2, g3, g4⟩
  have hC1 : jEnc (sC T) (S1.1 0) := by rw [g3]; exact hC
  have hbase := g2 (sC T) hC
  rcases (show d' = 0 ∨ d' = 1 ∨ d' = 2 by omega) with rfl | rfl | rfl
  · exact absurd rfl c0
  · have h2 : k' < cE (sC T) := h2
    refine jo_rd (jM_fR g1 (k := 0) rfl) (jo_eq (jr_wt g1 hC1 w1 (.inl rfl) h2) (jo_rd (jM_fR g1 (k := 0) rfl) (jo_t (show nI 1 = 1 from rfl) ?_)))
    unfold jf_X1_weigh_j69
    refine jM_stI g1 (k := 0) (.inl rfl) rfl (j := 5 + 3 * k') (by rw [show (3 : Int32) + (3 : Int32) * nI k' + (2 : Int32) = nI (5 + 3 * k') by simp only [nI_lit, nI_mul, nI_add]; congr 1; omega]; exact jm_ixn (by show _ < 63; omega) (by decide)) (fun M3 k4 => jo_ret ⟨rfl, _, k4, ?_⟩)
    rw [if_pos (show nI 1 = 1 from rfl)]
    exact jRM_now hbase (jEnc_wgE w1 hC1 h2)
  · have h2 : k' < cF (sC T) := h2
    refine jo_rd (jM_fR g1 (k := 0) rfl) (jo_eq (jr_wt g1 hC1 w1 (.inr rfl) h2) (jo_rd (jM_fR g1 (k := 0) rfl) (jo_f (show ¬ nI 2 = 1 by decide +kernel) ?_)))
    unfold jf_X1_weigh_j69
    refine jM_stI g1 (k := 0) (.inl rfl) rfl (j := 21 + 6 * k') (by rw [show (21 : Int32) + (6 : Int32) * nI k' = nI (21 + 6 * k') by simp only [nI_lit, nI_mul, nI_add]]; exact jm_ixn (by show _ < 63; omega) (by decide)) (fun M3 k4 => jo_ret ⟨rfl, _, k4, ?_⟩)
    rw [if_neg (show ¬ nI 2 = 1 by decide +kernel)]
    exact jRM_now hbase (jEnc_wgF w1 hC1 h2)
/-- three cells of an edge and the count: as laysEdge lays them -/
def jle (b : Nat → Int32) (e : Nat) (p q w : Int32) : Nat → Int32 := upd (upd (upd (upd b (3 + 3 * e) p) (4 + 3 * e) q) (5 + 3 * e) w) 1 (nI (e + 1))
theorem jle_at {b : Nat → Int32} {e : Nat} {p q w : Int32} {j : Nat} : jle b e p q w j = if j = 1 then nI (e + 1) else if j = 5 + 3 * e then w else if j = 4 + 3 * e then q else if j = 3 + 3 * e then p else b j := rfl
theorem jm_laysEdge (h : jMM m ad M0 S M) {k : Nat} (hk : k = 0 ∨ k = 1) {e : Nat} (he : e < 6) (hE : S.1 k 1 = nI e) {p q w : Int32} : jo (jf_X1_laysEdge N (some (ad k)) p q w) M (fun _ M' => jMM m ad M0 (va_up S.1 k (jle (S.1 k) e p q w), S.2) M') := by
  have hi : jM_ia k := by rcases hk with rfl | rfl <;> simp [jM_ia]
  have hd : jM_kd k = 0 := by rcases hk with rfl | rfl <;> rfl
  have hl : jM_len k = 63 := by rcases hk with rfl | rfl <;> rfl
  have i1 : jm_ix (1 : Int32) (jM_len k) = some 1 := by rw [hl]; exact jm_ixn (by decide) (by decide)
  have e0 : (3 : Int32) + (3 : Int32) * nI e = nI (3 + 3 * e) := by simp only [nI_lit, nI_mul, nI_add]
  have s1 : ∀ (f : Nat → Int32), (va_up S.1 k f, S.2).1 k = f := fun f => va_up_self S.1 k f
  have s2 : ∀ (f g : Nat → Int32), ((va_up (va_up S.1 k f, S.2).1 k g, (va_up S.1 k f, S.2).2) : MS) = (va_up S.1 k g, S.2) := fun f g => by
    show (va_up (va_up S.1 k f) k g, S.2) = _
    rw [va_up2]
  unfold jf_X1_laysEdge
  refine jo_rd (jM_ldI h hi hd i1) ?_
  rw [hE, e0]
  refine jM_stI h hi hd (j := 3 + 3 * e) (by rw [hl]; exact jm_ixn (by omega) (by decide)) (fun M1 h1 => ?_)
  refine jM_stI h1 hi hd (j := 4 + 3 * e) (by rw [hl, show nI (3 + 3 * e) + (1 : Int32) = nI (4 + 3 * e) by rw [nI_1]; congr 1; omega]; exact jm_ixn (by omega) (by decide)) (fun M2 h2 => ?_)
  rw [s1, s2] at h2
  refine jM_stI h2 hi hd (j := 5 + 3 * e) (by rw [hl, show nI (3 + 3 * e) + (2 : Int32) = nI (5 + 3 * e) by rw [show (2 : Int32) = nI 2 from rfl, nI_add]; congr 1; omega]; exact jm_ixn (by omega) (by decide)) (fun M3 h3 => ?_)
  rw [s1, s2] at h3
  refine jo_rd (jM_ldI h3 hi hd i1) ?_
  refine jM_stI h3 hi hd i1 (fun M4 h4 => jo_ret ?_)
  rw [s1, s2] at h4
  have : upd (upd (upd (S.1 k) (3 + 3 * e) p) (4 + 3 * e) q) (5 + 3 * e) w 1 = nI e := by
    rw [upd_ne (by omega), upd_ne (by omega), upd_ne (by omega), hE]
  rw [this, nI_1] at h4
  exact h4
theorem jEnc_edge {C : CX} {b : Nat → Int32} (hW : jWf C) (h : jEnc C b) (h6 : cE C < 6) (hz : ∀ c, c < 3 → b (45 + 6 * c + cE C) = 0) {p q w : Nat} : jEnc (xEdge C p q w) (jle b (cE C) (nI p) (nI q) (nI w)) := by
  obtain ⟨h0, h1, h2, h3, h4, h5⟩ := h
  have w2 := hW.2.2.1
  have k2 : cF (xEdge C p q w) = cF C := rfl
  have k3 : cFl (xEdge C p q w) = cFl C := rfl
  refine ⟨?_, ?_, ?_, fun x k hx hk => ?_, fun f hf => ⟨?_, ?_, fun j hj => ?_⟩, fun c' e' hc' he' => ?_⟩
  · rw [jle_at, if_neg (by omega), if_neg (by omega), if_neg (by omega), if_neg (by omega)]; exact h0
  · rw [jle_at, if_pos rfl]; rfl
  · rw [jle_at, if_neg (by omega), if_neg (by omega), if_neg (by omega), if_neg (by omega)]; exact h2
  · have hx : x < cE C + 1 := hx
    show _ = nI (if x = cE C then (if k = 0 then p else if k = 1 then q else w) else cEd C x k)
    rw [jle_at, if_neg (by omega)]
    by_cases c : x = cE C
    · rw [if_pos c]
      rcases (show k = 0 ∨ k = 1 ∨ k = 2 by omega) with rfl | rfl | rfl
      · rw [if_neg (by omega), if_neg (by omega), if_pos (by omega), if_pos rfl]
      · rw [if_neg (by omega), if_pos (by omega), if_neg (by decide), if_pos rfl]
      · rw [if_pos (by omega), if_neg (by decide), if_neg (by decide)]
    · rw [if_neg c, if_neg (by omega), if_neg (by omega), if_neg (by omega)]
      exact h3 x k (by omega) hk
  · rw [jle_at, if_neg (by omega), if_neg (by omega), if_neg (by omega), if_neg (by omega)]; exact (h4 f hf).1
  · rw [jle_at, if_neg (by omega), if_neg (by omega), if_neg (by omega), if_neg (by omega)]; exact (h4 f hf).2.1
  · rw [jle_at, if_neg (by omega), if_neg (by omega), if_neg (by omega), if_neg (by omega)]; exact (h4 f hf).2.2 j hj
  · have he' : e' < cE C + 1 := he'
    show _ = iI (if e' = cE C then 0 else cCh C c' e')
    rw [jle_at, if_neg (by omega), if_neg (by omega), if_neg (by omega), if_neg (by omega)]
    by_cases c : e' = cE C
    · rw [if_pos c, c]; exact hz c' hc'
    · rw [if_neg c]; exact h5 c' e' hc' (by omega)
theorem jm_edge (h : jMM m ad M0 S M) (hT : jRM T S) (hW : jWfS T) (hN : 1000 < N) {p q w : Int32} : jo (jf_X1_edge N m p q w) M (jOM m ad M0 (oEdge T p q w)) := by
  have hT0 := hT
  obtain ⟨hC, -⟩ := hT
  have w1 := hW.1
  have w2 := w1.2.1
  have w3 := w1.2.2.1
  have w5 := w1.1
  unfold jf_X1_edge oEdge
  refine jo_rd (jM_cl h) (jo_eq (jr_isComplex h hC w1) ?_)
  refine jo_bI (fun c1 => jo_ret (jOM.same h hT0 (if_pos c1))) (fun c1 => ?_)
  rw [if_neg (show ¬ ¬ 0 < cP (sC T) from fun y => y c1)]
  refine jo_rd (jM_cl h) (jo_eq (jr_isCell h hC w1) ?_)
  refine jo_bI (fun c2 => jo_ret (jOM.same h hT0 (if_pos (.inl c2)))) (fun c2 => ?_)
  refine jo_rd (jM_cl h) (jo_eq (jr_isCell h hC w1) ?_)
  refine jo_bI (fun c3 => jo_ret (jOM.same h hT0 (if_pos (.inr (.inl c3))))) (fun c3 => ?_)
  refine jo_eq (in32 (a := 1) (b := 3) rfl rfl) ?_
  refine jo_bI (fun c4 => jo_ret (jOM.same h hT0 (if_pos (.inr (.inr c4))))) (fun c4 => ?_)
  rw [if_neg (show ¬ (¬ cIsCell (sC T) 0 p ∨ ¬ cIsCell (sC T) 0 q ∨ ¬ (1 ≤ w.toInt ∧ w.toInt ≤ 3)) from fun y => y.elim (fun z => z c2) (fun z => z.elim (fun u => u c3) (fun u => u c4)))]
  refine jo_rd (jM_fR h (k := 0) rfl) (jo_rd (jr_now1 h hC rfl) ?_)
  by_cases c5 : cE (sC T) = 6
  · rw [if_pos c5]
    exact jo_t (show nI (cE (sC T)) = nI 6 by rw [c5]) (jo_ret (jOM.same h hT0 rfl))
  rw [if_neg c5]
  refine jo_f (show ¬ nI (cE (sC T)) = nI 6 by rw [nI_eq (by omega) (by omega)]; exact c5) ?_
  obtain ⟨d1, p', h1, h2, e1, rfl⟩ := cIsCell_of w1 c2
  obtain ⟨d2, q', h3, h4, e2, rfl⟩ := cIsCell_of w1 c3
  obtain ⟨w', h5, rfl, h6⟩ := n_of (n := 3) (by omega) c4.2 (by decide)
  have m1 := cMany_le w1 d1
  have m2 := cMany_le w1 d2
  rw [tn_nI (by omega), tn_nI (by omega), tn_nI (by omega)]
  refine jo_rd (jM_cl h) (jo_bd (jo_mono (jr_notes h hT0 hW hN) ?_))
  rintro _ M2 ⟨S1, g1, g2, g3, g4⟩
  have hC1 : jEnc (sC T) (S1.1 0) := by rw [g3]; exact hC
  have hbase := g2 (sC T) hC
  refine jo_bd (jo_mono (jo_up 3 (fun i z M' => z = nI i ∧ ∃ b, jMM m ad M0 (va_up S1.1 0 b, S1.2) M' ∧ jEnc (sC T) b ∧ ∀ c, c < i → b (45 + 6 * c + cE (sC T)) = 0) (fun _ M' => ∃ b, jMM m ad M0 (va_up S1.1 0 b, S1.2) M' ∧ jEnc (sC T) b ∧ ∀ c, c < 3 → b (45 + 6 * c + cE (sC T)) = 0) ?_ ?_ N 0 _ M2 ⟨rfl, S1.1 0, g1.now0, hC1, fun c hc => absurd hc (Nat.not_lt_zero _)⟩ (Nat.zero_le _) (by omega)) ?_)
  · rintro i z M' hi ⟨rfl, b, k1, k2, k5⟩
    have k3 : jEnc (sC T) ((va_up S1.1 0 b, S1.2).1 0) := by rw [va_now]; exact k2
    unfold jf_X1_edge_L64
    refine jo_f (show ¬ nI 3 ≤ nI i by rw [nI_leI (by omega) (by omega)]; omega) ?_
    refine jo_rd (jM_fR k1 (k := 0) rfl) (jo_rd (jM_fR k1 (k := 0) rfl) (jo_rd (jr_now1 k1 k3 rfl) ?_))
    refine jM_stI k1 (k := 0) (.inl rfl) rfl (j := 45 + 6 * i + cE (sC T)) (by rw [show (45 : Int32) + (6 : Int32) * nI i + nI (cE (sC T)) = nI (45 + 6 * i + cE (sC T)) by simp only [nI_lit, nI_mul, nI_add]]; exact jm_ixn (by show _ < 63; omega) (by decide)) (fun M3 k4 => jo_ret ⟨nI_1 i, _, k4.now2, ?_, ?_⟩)
    · rw [va_now]
      obtain ⟨x0, x1, x2, x3, x4, x5⟩ := k2
      refine ⟨by rw [upd_ne (by omega)]; exact x0, by rw [upd_ne (by omega)]; exact x1, by rw [upd_ne (by omega)]; exact x2, fun x k hx hk => by rw [upd_ne (by omega)]; exact x3 x k hx hk, fun f hf => ⟨by rw [upd_ne (by omega)]; exact (x4 f hf).1, by rw [upd_ne (by omega)]; exact (x4 f hf).2.1, fun j hj => ?_⟩, fun c' e' hc' he' => by rw [upd_ne (by omega)]; exact x5 c' e' hc' he'⟩
      have := (w1.2.2.2.2.1 f hf).2.2.2.1
      rw [upd_ne (by omega)]; exact (x4 f hf).2.2 j hj
    · intro c hc
      rw [va_now]
      by_cases e : c = i
      · rw [e, upd_self]
      · rw [upd_ne (by omega)]; exact k5 c (by omega)
  · rintro z M' ⟨rfl, b, k1, k2, k5⟩
    unfold jf_X1_edge_L64
    exact jo_t (show nI 3 ≤ nI 3 by decide +kernel) (jo_ret ⟨b, k1, k2, k5⟩)
  · rintro u M3 ⟨b, k1, k2, k5⟩
    have k3 : (va_up S1.1 0 b, S1.2).1 0 1 = nI (cE (sC T)) := by rw [va_now]; exact k2.2.1
    unfold jf_X1_edge_k64_97
    refine jo_rd (jM_fR k1 (k := 0) rfl) (jo_bd (jo_mono (jm_laysEdge k1 (.inl rfl) (e := cE (sC T)) (by omega) k3) ?_))
    intro _ M4 k6
    rw [va_now] at k6
    have k6 := k6.now2
    have k7 := jEnc_edge w1 k2 (by omega) k5 (p := p') (q := q') (w := w')
    have k8 : jEnc (xEdge (sC T) p' q' w') ((va_up S1.1 0 (jle b (cE (sC T)) (nI p') (nI q') (nI w')), S1.2).1 0) := by rw [va_now]; exact k7
    refine jo_rd (jM_fR k6 (k := 0) rfl) (jo_rd (jr_now1 k6 k8 rfl) (jo_ret ⟨?_, _, k6, jRM_now hbase k7⟩))
    show nI (cE (sC T) + 1) - 1 = _
    exact nI_pred _
end ED
