/-! PLAIN LAW, 39: weigh, edge, bound, drawn: the model -/
theorem jI_div {a b : Int} (ha : -9223372036854775808 < a ∧ a < 9223372036854775808) (hb : -9223372036854775808 ≤ b ∧ b < 9223372036854775808) : jI a / jI b = jI (a.tdiv b) := by
  refine Int64.toInt_inj.mp ?_
  have hq : -9223372036854775808 < a.tdiv b ∧ a.tdiv b < 9223372036854775808 := by
    have := Int.natAbs_tdiv_le_natAbs a b
    omega
  rw [Int64.toInt_div_of_ne_left, jI_toInt (by omega) (by omega), jI_toInt (by omega) (by omega), jI_toInt (by omega) (by omega)]
  intro h
  have := congrArg Int64.toInt h
  rw [jI_toInt (by omega) (by omega)] at this
  have h2 : (Int64.minValue).toInt = -9223372036854775808 := by decide
  omega
/-- what is left of a division, as javac's irem -/
theorem jI_rem {a b : Int} (ha : -9223372036854775808 < a ∧ a < 9223372036854775808) (hb : -9223372036854775808 ≤ b ∧ b < 9223372036854775808) : jI a - jI a / jI b * jI b = jI (a.tmod b) := by
  rw [jI_div ha hb, jI_mul, jI_sub]
  congr 1
  have := Int.tdiv_mul_add_tmod a b
  omega
theorem nI_div {a d : Nat} (ha : a < 2 ^ 31) (h0 : 0 < d) (hd : d < 2 ^ 31) : nI a / nI d = nI (a / d) := by
  refine Int32.toInt_inj.mp ?_
  have h1 : a / d ≤ a := Nat.div_le_self a d
  rw [Int32.toInt_div_of_ne_right, nI_toInt ha, nI_toInt hd, nI_toInt (by omega)]
  · rw [Int.tdiv_eq_ediv_of_nonneg (by omega)]
    omega
  · intro h
    have := congrArg Int32.toInt h
    rw [nI_toInt hd] at this
    have h2 : (-1 : Int32).toInt = -1 := by decide
    omega
theorem nI_rem {a d : Nat} (ha : a < 2 ^ 31) (h0 : 0 < d) (hd : d < 2 ^ 31) : nI a - nI a / nI d * nI d = nI (a % d) := by
  have h1 : a / d * d ≤ a := Nat.div_mul_le_self a d
  rw [nI_div ha h0 hd, nI_mul, nI_sub h1]
  congr 1
  have := Nat.div_add_mod a d
  rw [Nat.mul_comm] at this
  omega
/-- an edge more -/
def xEdge (C : CX) (p q w : Nat) : CX := (cP C, cE C + 1, cF C, (fun e k => if e = cE C then (if k = 0 then p else if k = 1 then q else w) else cEd C e k), cFw C, cFl C, cLt C, fun c e => if e = cE C then 0 else cCh C c e)
def oEdge (T : ST) (p q w : Int32) : Int32 × ST := if ¬ 0 < cP (sC T) then (STATE, T) else if ¬ cIsCell (sC T) 0 p ∨ ¬ cIsCell (sC T) 0 q ∨ ¬ (1 ≤ w.toInt ∧ w.toInt ≤ 3) then (BAD, T) else if cE (sC T) = 6 then (FULL, T) else (nI (cE (sC T)), sPush T (xEdge (sC T) (tn p) (tn q) (tn w)))
def cBd (C : CX) (c f : Nat) (t : Int) (e : Nat) : Int := cCh C c e + t * cTwo C e f
def xBound (C : CX) (c f : Nat) (t : Int) (n : Nat) : CX := xCh C (fun c' e => if c' = c ∧ e < n then cBd C c f t e else cCh C c' e)
def cBdOk (C : CX) (c f : Nat) (t : Int) : Bool := jall (cE C) (fun e => decide (-9 ≤ cBd C c f t e ∧ cBd C c f t e ≤ 9))
def oBound (T : ST) (c f t : Int32) : Int32 × ST := if ¬ cIsChain (sC T) c ∨ ¬ cIsCell (sC T) 2 f ∨ ¬ (-9 ≤ t.toInt ∧ t.toInt ≤ 9) then (BAD, T) else if cBdOk (sC T) (tn c) (tn f) t.toInt = true then (iI (cOth (xBound (sC T) (tn c) (tn f) t.toInt (cE (sC T))) (tn c)), sPush T (xBound (sC T) (tn c) (tn f) t.toInt (cE (sC T)))) else (FULL, T)
/-- the numbers that are drawn -/
def sdr (x : Int) : Nat → Int
  | 0 => x
  | n + 1 => sdr x n * 16807 % 2147483647
def xDrawn (C : CX) (c : Nat) (x : Int) (n : Nat) : CX := xCh C (fun c' e => if c' = c ∧ e < n then sdr x (e + 1) % 19 - 9 else cCh C c' e)
def oDrawn (T : ST) (c x : Int32) : Int32 × ST := if ¬ 0 < cP (sC T) then (STATE, T) else if ¬ (0 ≤ c.toInt ∧ c.toInt ≤ 2) ∨ ¬ (1 ≤ x.toInt ∧ x.toInt ≤ 999999) then (BAD, T) else (iI (cOth (xDrawn (sC T) (tn c) x.toInt (cE (sC T))) (tn c)), sPush T (xDrawn (sC T) (tn c) x.toInt (cE (sC T))))
theorem xPut_bound {C : CX} {c f : Nat} {t : Int} {i : Nat} : xPut (xBound C c f t i) c i (cBd C c f t i) = xBound C c f t (i + 1) := by
  unfold xPut xBound xCh
  show (cP C, cE C, cF C, cEd C, cFw C, cFl C, cLt C, _) = _
  refine congrArg _ (congrArg _ (congrArg _ (congrArg _ (congrArg _ (congrArg _ (congrArg _ ?_))))))
  funext c' e'
  show (if c' = c ∧ e' = i then cBd C c f t i else if c' = c ∧ e' < i then cBd C c f t e' else cCh C c' e') = _
  by_cases h : c' = c ∧ e' = i
  · rw [if_pos h, if_pos (by omega), h.2]
  · rw [if_neg h]
    by_cases h2 : c' = c ∧ e' < i
    · rw [if_pos h2, if_pos (by omega)]
    · rw [if_neg h2, if_neg (by omega)]
theorem xPut_drawn {C : CX} {c : Nat} {x : Int} {i : Nat} : xPut (xDrawn C c x i) c i (sdr x (i + 1) % 19 - 9) = xDrawn C c x (i + 1) := by
  unfold xPut xDrawn xCh
  show (cP C, cE C, cF C, cEd C, cFw C, cFl C, cLt C, _) = _
  refine congrArg _ (congrArg _ (congrArg _ (congrArg _ (congrArg _ (congrArg _ (congrArg _ ?_))))))
  funext c' e'
  show (if c' = c ∧ e' = i then sdr x (i + 1) % 19 - 9 else if c' = c ∧ e' < i then sdr x (e' + 1) % 19 - 9 else cCh C c' e') = _
  by_cases h : c' = c ∧ e' = i
  · rw [if_pos h, if_pos (by omega), h.2]
  · rw [if_neg h]
    by_cases h2 : c' = c ∧ e' < i
    · rw [if_pos h2, if_pos (by omega)]
    · rw [if_neg h2, if_neg (by omega)]
/-- a complex whose chains alone are new -/
theorem jWf_ch {C : CX} (hW : jWf C) {g : Nat → Nat → Int} (h : ∀ c e, c < 3 → e < cE C → -9 ≤ g c e ∧ g c e ≤ 9) : jWf (xCh C g) := ⟨hW.1, hW.2.1, hW.2.2.1, hW.2.2.2.1, hW.2.2.2.2.1, h⟩
theorem jWf_bound {C : CX} (hW : jWf C) {c f : Nat} {t : Int} (h : cBdOk C c f t = true) {n : Nat} (hn : n ≤ cE C) : jWf (xBound C c f t n) := by
  refine jWf_ch hW (fun c' e hc he => ?_)
  split
  · rename_i q
    have := jall_iff.mp h e he
    simpa using this
  · exact hW.2.2.2.2.2 c' e hc he
theorem sdr_rg {x : Int} (h0 : 0 ≤ x) (h1 : x < 2147483647) (n : Nat) : 0 ≤ sdr x n ∧ sdr x n < 2147483647 := by
  induction n with
  | zero => exact ⟨h0, h1⟩
  | succ n ih => show 0 ≤ sdr x n * 16807 % 2147483647 ∧ sdr x n * 16807 % 2147483647 < 2147483647; omega
theorem jWf_drawn {C : CX} (hW : jWf C) {c : Nat} {x : Int} {n : Nat} : jWf (xDrawn C c x n) := by
  refine jWf_ch hW (fun c' e hc he => ?_)
  split
  · omega
  · exact hW.2.2.2.2.2 c' e hc he
theorem jEnc_put' {C C' : CX} {b : Nat → Int32} (hW : jWf C) (h : jEnc C b) {c e : Nat} (hc : c < 3) (he : e < cE C) {v : Int} (hx : xPut C c e v = C') : jEnc C' (upd b (45 + 6 * c + e) (iI v)) := hx ▸ jEnc_put hW h hc he v
section ED
variable {N m a n : Nat} {ad : Nat → Nat} {M0 M : Mem} {S : MS} {C : CX} {T : ST}
theorem va_now (S : MS) (f : Nat → Int32) : (va_up S.1 0 f, S.2).1 0 = f := va_up_self S.1 0 f
theorem jMM.now2 {f g : Nat → Int32} (h : jMM m ad M0 (va_up (va_up S.1 0 f, S.2).1 0 g, (va_up S.1 0 f, S.2).2) M) : jMM m ad M0 (va_up S.1 0 g, S.2) M := by
  have e : va_up (va_up S.1 0 f, S.2).1 0 g = va_up S.1 0 g := va_up2 S.1 0 f g
  rw [e] at h
  exact h
theorem jMM.now0 (h : jMM m ad M0 S M) : jMM m ad M0 (va_up S.1 0 (S.1 0), S.2) M := by
  have e : va_up S.1 0 (S.1 0) = S.1 := by funext j; unfold va_up; split <;> simp_all
  rw [e]
  exact h
theorem jm_bound (h : jMM m ad M0 S M) (hT : jRM T S) (hW : jWfS T) (hN : 1000 < N) {c f t : Int32} : jo (jf_X1_bound N m c f t) M (jOM m ad M0 (oBound T c f t)) := by
  have hT0 := hT
  obtain ⟨hC, -⟩ := hT
  have w1 := hW.1
  have w2 := w1.2.1
  unfold jf_X1_bound oBound
  refine jo_rd (jM_cl h) (jo_eq (jr_isChain h hC w1) ?_)
  refine jo_bI (fun c1 => jo_ret (jOM.same h hT0 (if_pos (.inl c1)))) (fun c1 => ?_)
  refine jo_rd (jM_cl h) (jo_eq (jr_isCell h hC w1) ?_)
  refine jo_bI (fun c2 => jo_ret (jOM.same h hT0 (if_pos (.inr (.inl c2))))) (fun c2 => ?_)
  refine jo_eq (in32 (a := -9) (b := 9) (by decide) (by decide)) ?_
  refine jo_bI (fun c3 => jo_ret (jOM.same h hT0 (if_pos (.inr (.inr c3))))) (fun c3 => ?_)
  rw [if_neg (show ¬ (¬ cIsChain (sC T) c ∨ ¬ cIsCell (sC T) 2 f ∨ ¬ (-9 ≤ t.toInt ∧ t.toInt ≤ 9)) from fun x => x.elim (fun y => y c1) (fun y => y.elim (fun z => z c2) (fun z => z c3)))]
  obtain ⟨c', h1, rfl, h3⟩ := n_of (n := 2) c1.2.1 c1.2.2 (by decide)
  obtain ⟨d', f', h4, h5, h6, rfl⟩ := cIsCell_of w1 c2
  have hd : d' = 2 := by
    have := congrArg tn h6
    rw [tn_nI (by omega)] at this
    exact this.symm
  subst hd
  have hf : f' < cF (sC T) := h5
  have hf4 := w1.2.2.1
  rw [tn_nI (by omega), tn_nI (by omega), iI_of t]
  have ht : (iI t.toInt).toInt = t.toInt := by rw [← iI_of]
  rw [ht]
  generalize t.toInt = z at c3
  have hb : ∀ e, e < cE (sC T) → -45 ≤ cBd (sC T) c' f' z e ∧ cBd (sC T) c' f' z e ≤ 45 := by
    intro e he
    have q1 := cTwo_le w1 (e := e) hf
    have q2 := w1.2.2.2.2.2 c' e (by omega) he
    unfold cBd
    rcases (show cTwo (sC T) e f' = -4 ∨ cTwo (sC T) e f' = -3 ∨ cTwo (sC T) e f' = -2 ∨ cTwo (sC T) e f' = -1 ∨ cTwo (sC T) e f' = 0 ∨ cTwo (sC T) e f' = 1 ∨ cTwo (sC T) e f' = 2 ∨ cTwo (sC T) e f' = 3 ∨ cTwo (sC T) e f' = 4 by omega) with x | x | x | x | x | x | x | x | x <;> rw [x] <;> omega
  have l1 : jo (jm_it (fun q => jf_X1_bound_L37 N m (nI c') (nI f') (iI z) q) N (0 : Int32)) M (fun r M' => M' = M ∧ (match r with
      | .inl _ => ¬ cBdOk (sC T) c' f' z = true
      | .inr _ => cBdOk (sC T) c' f' z = true)) := by
    refine jo_up (cE (sC T)) (fun i q M' => M' = M ∧ q = nI i ∧ jall i (fun e => decide (-9 ≤ cBd (sC T) c' f' z e ∧ cBd (sC T) c' f' z e ≤ 9)) = true) _ ?_ ?_ N 0 _ M ⟨rfl, rfl, rfl⟩ (Nat.zero_le _) (by omega)
    · rintro i q M' hi ⟨rfl, rfl, hall⟩
      unfold jf_X1_bound_L37
      refine jo_rd (jM_fR h (k := 0) rfl) (jo_rd (jr_now1 h hC rfl) ?_)
      refine jo_f (by rw [nI_leI (by omega) (by omega)]; omega) ?_
      refine jo_rd (jM_fR h (k := 0) rfl) (jo_rd (jr_ch (c := c') h hC w1 (by omega) hi (by simp only [nI_lit, nI_mul, nI_add])) ?_)
      refine jo_rd (jM_cl h) (jo_eq (jr_two h hC w1 (by omega) hf (by omega)) ?_)
      rw [iI_mul, iI_add]
      have q1 := hb i hi
      refine jo_eq (in32 (a := -9) (b := 9) (by decide) (by decide)) ?_
      rw [show cCh (sC T) c' i + z * cTwo (sC T) i f' = cBd (sC T) c' f' z i from rfl, iI_toInt (by omega) (by omega)]
      refine jo_bI (fun k => ?_) (fun k => ?_)
      · refine jo_ret ⟨rfl, fun x => ?_⟩
        have := jall_iff.mp x i hi
        simp at this
        exact k this
      · refine jo_ret ⟨rfl, nI_1 i, ?_⟩
        show (jall i _ && _) = true
        rw [hall]
        simpa using k
    · rintro q M' ⟨rfl, rfl, hall⟩
      unfold jf_X1_bound_L37
      refine jo_rd (jM_fR h (k := 0) rfl) (jo_rd (jr_now1 h hC rfl) ?_)
      exact jo_t (by rw [nI_leI (by omega) (by omega)]; omega) (jo_ret ⟨rfl, hall⟩)
  refine jo_bd (jo_mono l1 ?_)
  rintro r M1 ⟨rfl, hr⟩
  cases r with
  | inl u =>
    rw [if_neg hr]
    exact jo_ret (jOM.same h hT0 rfl)
  | inr u =>
    have hr : cBdOk (sC T) c' f' z = true := hr
    rw [if_pos hr]
    unfold jf_X1_bound_k37_95
    refine jo_rd (jM_cl h) (jo_bd (jo_mono (jr_notes h hT0 hW hN) ?_))
    rintro _ M2 ⟨S1, g1, g2, g3, g4⟩
    have hC1 : jEnc (sC T) (S1.1 0) := by rw [g3]; exact hC
    have hbase := g2 (sC T) hC
    refine jo_bd (jo_mono (jo_up (cE (sC T)) (fun i q M' => q = nI i ∧ ∃ b, jMM m ad M0 (va_up S1.1 0 b, S1.2) M' ∧ jEnc (xBound (sC T) c' f' z i) b) (fun _ M' => ∃ b, jMM m ad M0 (va_up S1.1 0 b, S1.2) M' ∧ jEnc (xBound (sC T) c' f' z (cE (sC T))) b) ?_ ?_ N 0 _ M2 ⟨rfl, S1.1 0, g1.now0, ?_⟩ (Nat.zero_le _) (by omega)) ?_)
    · rintro i q M' hi ⟨rfl, b, k1, k2⟩
      have kW := jWf_bound w1 hr (n := i) (by omega)
      have k3 : jEnc (xBound (sC T) c' f' z i) ((va_up S1.1 0 b, S1.2).1 0) := by rw [va_now]; exact k2
      unfold jf_X1_bound_L102
      refine jo_rd (jM_fR k1 (k := 0) rfl) (jo_rd (jr_now1 k1 k3 rfl) ?_)
      refine jo_f (show ¬ nI (cE (sC T)) ≤ nI i by rw [nI_leI (by omega) (by omega)]; omega) ?_
      refine jo_rd (jM_fR k1 (k := 0) rfl) (jo_rd (jr_ch (c := c') k1 k3 kW (by omega) hi (by simp only [nI_lit, nI_mul, nI_add])) ?_)
      refine jo_rd (jM_cl k1) (jo_eq (jr_two k1 k3 kW (by omega) hf (by omega)) ?_)
      rw [iI_mul, iI_add]
      refine jM_stI k1 (k := 0) (.inl rfl) rfl (j := 45 + 6 * c' + i) (by rw [show (45 : Int32) + (6 : Int32) * nI c' + nI i = nI (45 + 6 * c' + i) by simp only [nI_lit, nI_mul, nI_add]]; exact jm_ixn (by show _ < 63; omega) (by decide)) (fun M3 k4 => jo_ret ⟨nI_1 i, _, k4.now2, ?_⟩)
      rw [va_now]
      refine jEnc_put' kW k2 (by omega) hi ?_
      have : cCh (xBound (sC T) c' f' z i) c' i = cCh (sC T) c' i := by
        show (if c' = c' ∧ i < i then _ else _) = _
        rw [if_neg (by omega)]
      rw [this]
      exact xPut_bound
    · rintro q M' ⟨rfl, b, k1, k2⟩
      have k3 : jEnc (xBound (sC T) c' f' z (cE (sC T))) ((va_up S1.1 0 b, S1.2).1 0) := by rw [va_now]; exact k2
      unfold jf_X1_bound_L102
      refine jo_rd (jM_fR k1 (k := 0) rfl) (jo_rd (jr_now1 k1 k3 rfl) ?_)
      exact jo_t (show nI (cE (sC T)) ≤ nI (cE (sC T)) by rw [nI_leI (by omega) (by omega)]; omega) (jo_ret ⟨b, k1, k2⟩)
    · have e : xBound (sC T) c' f' z 0 = sC T := by
        unfold xBound xCh
        have : (fun c'' e => if c'' = c' ∧ e < 0 then cBd (sC T) c' f' z e else cCh (sC T) c'' e) = cCh (sC T) := by
          funext c'' e
          rw [if_neg (by omega)]
        rw [this]
        rfl
      rw [e]
      exact hC1
    · rintro u M3 ⟨b, k1, k2⟩
      have kW := jWf_bound w1 hr (n := cE (sC T)) (Nat.le_refl _)
      have k3 : jEnc (xBound (sC T) c' f' z (cE (sC T))) ((va_up S1.1 0 b, S1.2).1 0) := by rw [va_now]; exact k2
      unfold jf_X1_bound_k102_146
      refine jo_rd (jM_cl k1) (jo_eq (jr_others k1 k3 kW (by omega) (c := c') (by omega)) (jo_ret ⟨rfl, _, k1, ?_⟩))
      exact jRM_now hbase k2
end ED
