/-! PLAIN LAW, 41: drop: the model -/
/-- the place behind one that is taken out -/
def sk (k x : Nat) : Nat := if x < k then x else x + 1
/-- a letter when edge k is taken out -/
def lDn (k : Nat) (L : Int) : Int := if k < lEd L then (if L < 0 then L + 1 else L - 1) else L
def xDropE (C : CX) (k : Nat) : CX := (cP C, cE C - 1, cF C, (fun e q => cEd C (sk k e) q), cFw C, cFl C, (fun f j => lDn k (cLt C f j)), fun c e => cCh C c (sk k e))
def xDropF (C : CX) (k : Nat) : CX := (cP C, cE C, cF C - 1, cEd C, (fun f => cFw C (sk k f)), (fun f => cFl C (sk k f)), (fun f j => cLt C (sk k f) j), cCh C)
/-- whether an edge is in a word -/
def cSp (C : CX) (e : Nat) : Prop := ∃ f j, f < cF C ∧ j < cFl C f ∧ lEd (cLt C f j) = e
def cSpB (C : CX) (e : Nat) : Bool := ! jall (4 * cF C) (fun k => ! (decide (k % 4 < cFl C (k / 4)) && decide (lEd (cLt C (k / 4) (k % 4)) = e)))

def oDrop (T : ST) (d k : Int32) : Int32 × ST := if d = 0 ∨ ¬ cIsCell (sC T) d k then (BAD, T) else if d = 1 ∧ cSpB (sC T) (tn k) = true then (STATE, T) else if d = 1 then (nI (cE (sC T) - 1), sPush T (xDropE (sC T) (tn k))) else (nI (cF (sC T) - 1), sPush T (xDropF (sC T) (tn k)))
def lAt (k : Nat) : Nat := 23 + 6 * (k / 4) + k % 4
def jsft (b : Nat → Int32) (lo d i : Nat) : Nat → Int32 := fun j => if lo ≤ j ∧ j < i then b (j + d) else b j
theorem jsft_0 {b : Nat → Int32} {lo d : Nat} : jsft b lo d lo = b := by
  funext j
  unfold jsft
  rw [if_neg (by omega)]
theorem jsft_up {b : Nat → Int32} {lo d i : Nat} (hd : 0 < d) (hi : lo ≤ i) : upd (jsft b lo d i) i (jsft b lo d i (i + d)) = jsft b lo d (i + 1) := by
  funext j
  by_cases c : j = i
  · rw [c, upd_self]
    unfold jsft
    rw [if_neg (by omega), if_pos (by omega)]
  · rw [upd_ne c]
    unfold jsft
    by_cases e : lo ≤ j ∧ j < i
    · rw [if_pos e, if_pos (by omega)]
    · rw [if_neg e, if_neg (by omega)]
def jch (b : Nat → Int32) (e i : Nat) : Nat → Int32 := fun j => if 45 ≤ j ∧ j < 45 + i then (if (j - 45) % 6 < e then b j else if (j - 45) % 6 < 5 then b (j + 1) else 0) else b j
theorem jch_0 {b : Nat → Int32} {e : Nat} : jch b e 0 = b := by
  funext j
  unfold jch
  rw [if_neg (by omega)]
section ED
variable {N m a n : Nat} {ad : Nat → Nat} {M0 M : Mem} {S : MS} {C : CX} {T : ST}
theorem jr_isSpelled (h : jMM m ad M0 S M) (hC : jEnc C (S.1 0)) (hW : jWf C) (hN : 100 < N) {e : Nat} (he : e < 100) : (∃ c : Bool, (c = true ↔ cSp C e) ∧ (jf_X1_isSpelled N m (nI e)).1 M = some (bI (c = true), M)) := by
  have h4 := hW.2.2.1
  have h6 := hW.2.1
  have key : jo (jm_it (fun z => jf_X1_isSpelled_L4 N m (nI e) z.1 z.2) N ((0 : Int32), (0 : Int32))) M (fun r M' => M' = M ∧ ∃ c : Bool, r = bI (c = true) ∧ (c = true ↔ cSp C e)) := by
    refine jo_up (4 * cF C) (fun i z M' => M' = M ∧ ∃ c : Bool, z = (bI (c = true), nI i) ∧ (c = true ↔ ∃ k, k < i ∧ k % 4 < cFl C (k / 4) ∧ lEd (cLt C (k / 4) (k % 4)) = e)) _ ?_ ?_ N 0 _ M ⟨rfl, false, rfl, ⟨fun x => (by cases x), fun ⟨k, hk, _⟩ => absurd hk (Nat.not_lt_zero _)⟩⟩ (Nat.zero_le _) (by omega)
    · rintro i z M' hi ⟨rfl, c, rfl, hc⟩
      unfold jf_X1_isSpelled_L4 jf_X1_isSpelled_j56 jf_X1_isSpelled_j60 jf_X1_isSpelled_j61
      refine jo_rd (jM_fR h (k := 0) rfl) (jo_rd (jr_now2 h hC rfl) ?_)
      refine jo_f (show ¬ nI 4 * nI (cF C) ≤ nI i by rw [nI_mul, nI_leI (by omega) (by omega)]; omega) ?_
      dsimp only
      have ed : nI i / (4 : Int32) = nI (i / 4) := nI_div (d := 4) (by omega) (by decide) (by decide)
      have er : nI i - nI i / (4 : Int32) * (4 : Int32) = nI (i % 4) := nI_rem (d := 4) (by omega) (by decide) (by decide)
      have hf : i / 4 < cF C := by omega
      have hfl := hW.2.2.2.2.1 (i / 4) hf
      refine jo_bI (c := c = true) (fun hcf => ?_) (fun hct => ?_)
      · rw [er, ed]
        refine jo_rd (jM_fR h (k := 0) rfl) (jo_eq (jr_mn h hC hW hf) ?_)
        by_cases g1 : i % 4 < cFl C (i / 4)
        · refine jo_f (by rw [nI_leI (by omega) (by omega)]; omega) ?_
          have hL := hfl.2.2.2.2 _ g1
          refine jo_rd (jM_fR h (k := 0) rfl) (jo_eq (jr_lt h hC hW hf g1) (jo_eq (jr_edgeOf (by omega) (by omega) hL.1) ?_))
          have hle : lEd (cLt C (i / 4) (i % 4)) < 100 := by unfold lEd; split <;> omega
          by_cases g2 : lEd (cLt C (i / 4) (i % 4)) = e
          · refine jo_t (by rw [g2]) (jo_ret ⟨rfl, true, ?_, ⟨fun _ => ⟨i, Nat.lt_succ_self i, g1, g2⟩, fun _ => rfl⟩⟩)
            show (1, nI i + 1) = _
            rw [nI_1]; rfl
          · refine jo_f (by rw [nI_eq (by omega) (by omega)]; exact g2) (jo_ret ⟨rfl, false, ?_, ⟨fun x => (by cases x), fun ⟨k, hk, hk1, hk2⟩ => ?_⟩⟩)
            · show (0, nI i + 1) = _
              rw [nI_1]; rfl
            · rcases Nat.lt_or_eq_of_le (Nat.le_of_lt_succ hk) with q | q
              · exact absurd (hc.mpr ⟨k, q, hk1, hk2⟩) hcf
              · rw [q] at hk2; exact absurd hk2 g2
        · refine jo_t (by rw [nI_leI (by omega) (by omega)]; omega) (jo_ret ⟨rfl, false, ?_, ⟨fun x => (by cases x), fun ⟨k, hk, hk1, hk2⟩ => ?_⟩⟩)
          · show (0, nI i + 1) = _
            rw [nI_1]; rfl
          · rcases Nat.lt_or_eq_of_le (Nat.le_of_lt_succ hk) with q | q
            · exact absurd (hc.mpr ⟨k, q, hk1, hk2⟩) hcf
            · rw [q] at hk1; exact absurd hk1 g1
      · obtain ⟨k, hk, hk1, hk2⟩ := hc.mp hct
        refine jo_ret ⟨rfl, true, ?_, ⟨fun _ => ⟨k, Nat.lt_succ_of_lt hk, hk1, hk2⟩, fun _ => rfl⟩⟩
        show (1, nI i + 1) = _
        rw [nI_1]; rfl
    · rintro z M' ⟨rfl, c, rfl, hc⟩
      unfold jf_X1_isSpelled_L4
      refine jo_rd (jM_fR h (k := 0) rfl) (jo_rd (jr_now2 h hC rfl) ?_)
      refine jo_t (show nI 4 * nI (cF C) ≤ nI (4 * cF C) by rw [nI_mul, nI_leI (by omega) (by omega)]; omega) (jo_ret ⟨rfl, c, rfl, hc.trans ?_⟩)
      constructor
      · rintro ⟨k, hk, hk1, hk2⟩
        exact ⟨k / 4, k % 4, by omega, hk1, hk2⟩
      · rintro ⟨f, j, hf, hj, he2⟩
        have := (hW.2.2.2.2.1 f hf).2.2.2.1
        have q1 : (4 * f + j) / 4 = f := by omega
        have q2 : (4 * f + j) % 4 = j := by omega
        exact ⟨4 * f + j, by omega, by rw [q1, q2]; exact hj, by rw [q1, q2]; exact he2⟩
  obtain ⟨r, M', e1, rfl, c, rfl, hc⟩ := key
  refine ⟨c, hc, jo_out ?_⟩
  unfold jf_X1_isSpelled jf_X1_isSpelled_k4_68
  exact jo_eq e1 (jo_ck (b01 _) (jo_ret ⟨rfl, rfl⟩))
theorem lAt_inj {i k : Nat} (h : lAt i = lAt k) : i = k := by unfold lAt at h; omega
theorem jm_dropsEdge (h : jMM m ad M0 S M) (hC : jEnc C (S.1 0)) (hW : jWf C) (hN : 1000 < N) {e : Nat} (he : e < cE C) (hs : ¬ cSp C e) : jo (jf_X1_dropsEdge N m (nI e)) M (fun _ M' => ∃ b, jMM m ad M0 (va_up S.1 0 b, S.2) M' ∧ jEnc (xDropE C e) b) := by
  have h4 := hW.2.2.1
  have h6 := hW.2.1
  have mk : ∀ {f : Nat → Int32} {M'}, jMM m ad M0 (va_up S.1 0 f, S.2) M' → ∀ {j : Nat}, (va_up S.1 0 f, S.2).1 0 j = f j := fun _ _ => by rw [va_now]
  unfold jf_X1_dropsEdge
  have e1 : (3 : Int32) + (3 : Int32) * nI e = nI (3 + 3 * e) := by simp only [nI_lit, nI_mul, nI_add]
  rw [e1]
  refine jo_bd (jo_mono (jo_up 18 (fun i z M' => z = nI i ∧ 3 + 3 * e ≤ i ∧ jMM m ad M0 (va_up S.1 0 (jsft (S.1 0) (3 + 3 * e) 3 i), S.2) M') (fun _ M' => jMM m ad M0 (va_up S.1 0 (jsft (S.1 0) (3 + 3 * e) 3 18), S.2) M') ?_ ?_ N (3 + 3 * e) _ M ⟨rfl, Nat.le_refl _, by rw [jsft_0]; exact h.now0⟩ (by omega) (by omega)) ?_)
  · rintro i z M' hi ⟨rfl, hlo, k1⟩
    unfold jf_X1_dropsEdge_L6
    refine jo_f (show ¬ nI 18 ≤ nI i by rw [nI_leI (by omega) (by omega)]; omega) ?_
    refine jo_rd (jM_fR k1 (k := 0) rfl) (jo_rd (jM_fR k1 (k := 0) rfl) ?_)
    refine jo_rd (jM_ldI k1 (k := 0) (.inl rfl) rfl (j := i + 3) (by rw [show nI i + (3 : Int32) = nI (i + 3) from nI_add i 3]; exact jm_ixn (by show _ < 63; omega) (by decide))) ?_
    refine jM_stI k1 (k := 0) (.inl rfl) rfl (j := i) (jm_ixn (by show _ < 63; omega) (by decide)) (fun M3 k4 => jo_ret ⟨nI_1 i, by omega, ?_⟩)
    have k4 := k4.now2
    rw [va_now, jsft_up (by decide) hlo] at k4
    exact k4
  · rintro z M' ⟨rfl, hlo, k1⟩
    unfold jf_X1_dropsEdge_L6
    exact jo_t (show nI 18 ≤ nI 18 by decide +kernel) (jo_ret k1)
  intro _ M1 k1
  generalize hb1 : jsft (S.1 0) (3 + 3 * e) 3 18 = b1 at k1
  unfold jf_X1_dropsEdge_k6_32
  refine jo_bd (jo_mono (jo_up 18 (fun i z M' => z = nI i ∧ jMM m ad M0 (va_up S.1 0 (jch b1 e i), S.2) M') (fun _ M' => jMM m ad M0 (va_up S.1 0 (jch b1 e 18), S.2) M') ?_ ?_ N 0 _ M1 ⟨rfl, by rw [jch_0]; exact k1⟩ (Nat.zero_le _) (by omega)) ?_)
  · rintro i z M' hi ⟨rfl, k2⟩
    have er : nI i - nI i / (6 : Int32) * (6 : Int32) = nI (i % 6) := nI_rem (d := 6) (by omega) (by decide) (by decide)
    have e45 : (45 : Int32) + nI i = nI (45 + i) := nI_add 45 i
    have st : ∀ t0 : Int32, (¬ i % 6 < e → t0 = if i % 6 < 5 then b1 (45 + i + 1) else 0) → jo (jf_X1_dropsEdge_j63 N m (nI e) (nI i) t0) M' (fun x M1 => match x with
        | .inl s' => s' = nI (i + 1) ∧ jMM m ad M0 (va_up S.1 0 (jch b1 e (i + 1)), S.2) M1
        | .inr _ => jMM m ad M0 (va_up S.1 0 (jch b1 e 18), S.2) M1) := by
      intro t0 ht
      have fin : ∀ t : Int32, t = (if i % 6 < e then b1 (45 + i) else if i % 6 < 5 then b1 (45 + i + 1) else 0) → jo (jf_X1_dropsEdge_j93 N m (nI e) (nI i) (some (ad 0)) ((45 : Int32) + nI i) t) M' (fun x M1 => match x with
          | .inl s' => s' = nI (i + 1) ∧ jMM m ad M0 (va_up S.1 0 (jch b1 e (i + 1)), S.2) M1
          | .inr _ => jMM m ad M0 (va_up S.1 0 (jch b1 e 18), S.2) M1) := by
        intro t htt
        unfold jf_X1_dropsEdge_j93
        rw [e45]
        refine jM_stI k2 (k := 0) (.inl rfl) rfl (j := 45 + i) (jm_ixn (by show _ < 63; omega) (by decide)) (fun M3 k4 => jo_ret ⟨nI_1 i, ?_⟩)
        have k4 := k4.now2
        have : upd ((va_up S.1 0 (jch b1 e i), S.2).1 0) (45 + i) t = jch b1 e (i + 1) := by
          rw [va_now]
          funext j
          by_cases c : j = 45 + i
          · rw [c, upd_self]
            unfold jch
            rw [if_pos (show 45 ≤ 45 + i ∧ 45 + i < 45 + (i + 1) by omega), Nat.add_sub_cancel_left]
            exact htt
          · rw [upd_ne c]
            unfold jch
            by_cases d : 45 ≤ j ∧ j < 45 + i
            · rw [if_pos d, if_pos (show 45 ≤ j ∧ j < 45 + (i + 1) by omega)]
            · rw [if_neg d, if_neg (show ¬ (45 ≤ j ∧ j < 45 + (i + 1)) by omega)]
        rw [this] at k4
        exact k4
      unfold jf_X1_dropsEdge_j63
      refine jo_rd (jM_fR k2 (k := 0) rfl) ?_
      rw [er]
      by_cases c : i % 6 < e
      · refine jo_f (by rw [nI_leI (by omega) (by omega)]; omega) (jo_rd (jM_fR k2 (k := 0) rfl) ?_)
        rw [e45]
        refine jo_rd (jM_ldI k2 (k := 0) (.inl rfl) rfl (j := 45 + i) (jm_ixn (by show _ < 63; omega) (by decide))) ?_
        rw [← e45]
        refine fin _ ?_
        rw [if_pos c, va_now]
        unfold jch
        rw [if_neg (by omega)]
      · refine jo_t (by rw [nI_leI (by omega) (by omega)]; omega) (fin _ ?_)
        rw [if_neg c, ht c]
    unfold jf_X1_dropsEdge_L34
    refine jo_f (show ¬ nI 18 ≤ nI i by rw [nI_leI (by omega) (by omega)]; omega) ?_
    rw [er]
    by_cases c : i % 6 < 5
    · refine jo_f (show ¬ nI 5 ≤ nI (i % 6) by rw [nI_leI (by omega) (by omega)]; omega) (jo_rd (jM_fR k2 (k := 0) rfl) ?_)
      refine jo_rd (jM_ldI k2 (k := 0) (.inl rfl) rfl (j := 45 + i + 1) (by rw [e45, nI_1]; exact jm_ixn (by show _ < 63; omega) (by decide))) (jo_mono (st _ (fun _ => ?_)) (fun r M' hr => by cases r <;> exact hr))
      rw [if_pos c, va_now]
      unfold jch
      rw [if_neg (by omega)]
    · refine jo_t (show nI 5 ≤ nI (i % 6) by rw [nI_leI (by omega) (by omega)]; omega) (jo_mono (st _ (fun _ => ?_)) (fun r M' hr => by cases r <;> exact hr))
      rw [if_neg c]
  · rintro z M' ⟨rfl, k2⟩
    unfold jf_X1_dropsEdge_L34
    exact jo_t (show nI 18 ≤ nI 18 by decide +kernel) (jo_ret k2)
  intro _ M2 k2
  generalize hb2 : jch b1 e 18 = b2 at k2
  -- what b2 holds
  have p0 : ∀ j, j < 3 + 3 * e → b2 j = S.1 0 j := fun j hj => by
    rw [← hb2, ← hb1]; unfold jch jsft; rw [if_neg (by omega), if_neg (by omega)]
  have p1 : ∀ j, 3 + 3 * e ≤ j → j < 18 → b2 j = S.1 0 (j + 3) := fun j hj hj2 => by
    rw [← hb2, ← hb1]; unfold jch jsft; rw [if_neg (by omega), if_pos (by omega)]
  have p2 : ∀ j, 18 ≤ j → j < 45 → b2 j = S.1 0 j := fun j hj hj2 => by
    rw [← hb2, ← hb1]; unfold jch jsft; rw [if_neg (by omega), if_neg (by omega)]
  have p3 : ∀ c x, c < 3 → x + 1 < cE C → b2 (45 + 6 * c + x) = S.1 0 (45 + 6 * c + sk e x) := fun c x hc hx => by
    rw [← hb2, ← hb1]
    unfold jch jsft sk
    rw [if_pos (by omega)]
    have q : (45 + 6 * c + x - 45) % 6 = x := by omega
    rw [q]
    by_cases c1 : x < e
    · rw [if_pos c1, if_pos c1, if_neg (by omega)]
    · rw [if_neg c1, if_neg c1, if_pos (by omega), if_neg (by omega)]
      congr 1
  unfold jf_X1_dropsEdge_k34_100
  have hmany : ∀ f, f < cF C → b2 (22 + 6 * f) = nI (cFl C f) := fun f hf => by rw [p2 _ (by omega) (by omega)]; exact (hC.2.2.2.2.1 f hf).2.1
  have hF : b2 2 = nI (cF C) := by rw [p0 2 (by omega)]; exact hC.2.2.1
  have nat : ∀ (k : Nat) (j : Nat), (j < 23 ∨ 45 ≤ j ∨ (j - 21) % 6 < 2) → j ≠ lAt k ∨ 16 ≤ k := fun k j hj => by unfold lAt; omega
  refine jo_bd (jo_mono (jo_up (4 * cF C) (fun i z M' => z = nI i ∧ ∃ b, jMM m ad M0 (va_up S.1 0 b, S.2) M' ∧ (∀ j, (∀ k, k < i → j ≠ lAt k) → b j = b2 j) ∧ (∀ k, k < i → k % 4 < cFl C (k / 4) → b (lAt k) = iI (lDn e (cLt C (k / 4) (k % 4))))) (fun _ M' => ∃ b, jMM m ad M0 (va_up S.1 0 b, S.2) M' ∧ (∀ j, (∀ k, k < 4 * cF C → j ≠ lAt k) → b j = b2 j) ∧ (∀ k, k < 4 * cF C → k % 4 < cFl C (k / 4) → b (lAt k) = iI (lDn e (cLt C (k / 4) (k % 4))))) ?_ ?_ N 0 _ M2 ⟨rfl, b2, k2, fun _ _ => rfl, fun k hk => absurd hk (Nat.not_lt_zero _)⟩ (Nat.zero_le _) (by omega)) ?_)
  · rintro i z M' hi ⟨rfl, b, k3, q1, q2⟩
    have hf : i / 4 < cF C := by omega
    have hfl := hW.2.2.2.2.1 (i / 4) hf
    have ed : nI i / (4 : Int32) = nI (i / 4) := nI_div (d := 4) (by omega) (by decide) (by decide)
    have er : nI i - nI i / (4 : Int32) * (4 : Int32) = nI (i % 4) := nI_rem (d := 4) (by omega) (by decide) (by decide)
    have i2 : (va_up S.1 0 b, S.2).1 0 2 = nI (cF C) := by
      rw [va_now, q1 2 (fun k hk => by unfold lAt; omega)]; exact hF
    have im : (va_up S.1 0 b, S.2).1 0 (22 + 6 * (i / 4)) = nI (cFl C (i / 4)) := by
      rw [va_now, q1 _ (fun k hk => by unfold lAt; omega)]; exact hmany _ hf
    have il : (va_up S.1 0 b, S.2).1 0 (lAt i) = S.1 0 (lAt i) := by
      rw [va_now, q1 _ (fun k hk e => by have := lAt_inj e; omega), p2 _ (by unfold lAt; omega) (by unfold lAt; omega)]
    have hat : (21 : Int32) + (6 : Int32) * nI (i / 4) + (2 : Int32) + nI (i % 4) = nI (lAt i) := by
      simp only [nI_lit, nI_mul, nI_add]
      congr 1
      unfold lAt
      omega
    have hxa : jm_ix (nI (lAt i)) (jM_len 0) = some (lAt i) := jm_ixn (by show _ < 63; unfold lAt; omega) (by decide)
    -- the end of a step
    have fin : ∀ t : Int32, (i % 4 < cFl C (i / 4) → S.1 0 (lAt i) + t = iI (lDn e (cLt C (i / 4) (i % 4)))) → jo (jf_X1_dropsEdge_j188 N m (nI e) (nI i) (some (ad 0)) (nI (lAt i)) (S.1 0 (lAt i)) t) M' (fun x M1 => match x with
        | .inl s' => s' = nI (i + 1) ∧ ∃ b, jMM m ad M0 (va_up S.1 0 b, S.2) M1 ∧ (∀ j, (∀ k, k < i + 1 → j ≠ lAt k) → b j = b2 j) ∧ (∀ k, k < i + 1 → k % 4 < cFl C (k / 4) → b (lAt k) = iI (lDn e (cLt C (k / 4) (k % 4))))
        | .inr _ => ∃ b, jMM m ad M0 (va_up S.1 0 b, S.2) M1 ∧ (∀ j, (∀ k, k < 4 * cF C → j ≠ lAt k) → b j = b2 j) ∧ (∀ k, k < 4 * cF C → k % 4 < cFl C (k / 4) → b (lAt k) = iI (lDn e (cLt C (k / 4) (k % 4))))) := by
      intro t ht
      unfold jf_X1_dropsEdge_j188
      refine jM_stI k3 (k := 0) (.inl rfl) rfl hxa (fun M3 k4 => jo_ret ⟨nI_1 i, _, k4.now2, fun j hj => ?_, fun k hk hk2 => ?_⟩)
      · rw [va_now, upd_ne (hj i (Nat.lt_succ_self i))]
        exact q1 j (fun k hk => hj k (Nat.lt_succ_of_lt hk))
      · rw [va_now]
        by_cases c : k = i
        · subst c
          rw [upd_self]
          exact ht hk2
        · rw [upd_ne (fun e => c (lAt_inj e))]
          exact q2 k (by omega) hk2
    unfold jf_X1_dropsEdge_L102
    refine jo_rd (jM_fR k3 (k := 0) rfl) (jo_rd (jM_ldI k3 (k := 0) (.inl rfl) rfl (j := 2) (jm_ixn (by decide) (by decide))) ?_)
    rw [i2]
    refine jo_f (show ¬ nI 4 * nI (cF C) ≤ nI i by rw [nI_mul, nI_leI (by omega) (by omega)]; omega) ?_
    rw [er, ed, hat]
    refine jo_lt ?_
    refine jo_rd (jM_fR k3 (k := 0) rfl) (jo_rd (jM_ldI k3 (k := 0) (.inl rfl) rfl hxa) ?_)
    have mid : ∀ t : Int32, (i % 4 < cFl C (i / 4) → e < lEd (cLt C (i / 4) (i % 4)) → S.1 0 (lAt i) + t = iI (lDn e (cLt C (i / 4) (i % 4)))) → jo (jf_X1_dropsEdge_j144 N m (nI e) (nI i) (nI (lAt i)) t) M' (fun x M1 => match x with
        | .inl s' => s' = nI (i + 1) ∧ ∃ b, jMM m ad M0 (va_up S.1 0 b, S.2) M1 ∧ (∀ j, (∀ k, k < i + 1 → j ≠ lAt k) → b j = b2 j) ∧ (∀ k, k < i + 1 → k % 4 < cFl C (k / 4) → b (lAt k) = iI (lDn e (cLt C (k / 4) (k % 4))))
        | .inr _ => ∃ b, jMM m ad M0 (va_up S.1 0 b, S.2) M1 ∧ (∀ j, (∀ k, k < 4 * cF C → j ≠ lAt k) → b j = b2 j) ∧ (∀ k, k < 4 * cF C → k % 4 < cFl C (k / 4) → b (lAt k) = iI (lDn e (cLt C (k / 4) (k % 4))))) := by
      intro t ht
      unfold jf_X1_dropsEdge_j144 jf_X1_dropsEdge_j187
      refine jo_rd (jM_fR k3 (k := 0) rfl) (jo_rd (jM_ldI k3 (k := 0) (.inl rfl) rfl hxa) (jo_rd (jM_fR k3 (k := 0) rfl) ?_))
      rw [er, ed, il]
      refine jo_eq (jr_many (jM_now k3) (by decide) (by omega)) ?_
      rw [im]
      by_cases g1 : i % 4 < cFl C (i / 4)
      · have hL := hfl.2.2.2.2 _ g1
        have hS : S.1 0 (lAt i) = iI (cLt C (i / 4) (i % 4)) := (hC.2.2.2.2.1 _ hf).2.2 _ g1
        refine jo_f (by rw [nI_leI (by omega) (by omega)]; omega) (jo_rd (jM_fR k3 (k := 0) rfl) (jo_rd (jM_ldI k3 (k := 0) (.inl rfl) rfl hxa) ?_))
        rw [il]
        conv => arg 1; rw [hS]
        refine jo_eq (jr_edgeOf (by omega) (by omega) hL.1) ?_
        rw [← hS]
        have hle : lEd (cLt C (i / 4) (i % 4)) < 100 := by unfold lEd; split <;> omega
        by_cases g2 : e < lEd (cLt C (i / 4) (i % 4))
        · exact jo_f (by rw [nI_leI (by omega) (by omega)]; omega) (fin t (fun _ => ht g1 g2))
        · refine jo_t (by rw [nI_leI (by omega) (by omega)]; omega) (fin 0 (fun _ => ?_))
          rw [hS, show (0 : Int32) = iI 0 from rfl, iI_add, Int.add_zero]
          unfold lDn
          rw [if_neg g2]
      · exact jo_t (by rw [nI_leI (by omega) (by omega)]; omega) (fin 0 (fun x => absurd x g1))
    rw [il]
    by_cases g0 : (0 : Int32) ≤ S.1 0 (lAt i)
    · refine jo_t g0 (jo_mono (mid _ (fun g1 g2 => ?_)) (fun r M' hr => by cases r <;> exact hr))
      have hL := hfl.2.2.2.2 _ g1
      have hS : S.1 0 (lAt i) = iI (cLt C (i / 4) (i % 4)) := (hC.2.2.2.2.1 _ hf).2.2 _ g1
      rw [hS, show (0 : Int32) = iI 0 from rfl, iI_leI (by omega) (by omega)] at g0
      rw [hS, show (-1 : Int32) = iI (-1) from rfl, iI_add]
      unfold lDn
      rw [if_pos g2, if_neg (by omega)]
      rfl
    · refine jo_f g0 (jo_mono (mid _ (fun g1 g2 => ?_)) (fun r M' hr => by cases r <;> exact hr))
      have hL := hfl.2.2.2.2 _ g1
      have hS : S.1 0 (lAt i) = iI (cLt C (i / 4) (i % 4)) := (hC.2.2.2.2.1 _ hf).2.2 _ g1
      rw [hS, show (0 : Int32) = iI 0 from rfl, iI_leI (by omega) (by omega)] at g0
      rw [hS, show (1 : Int32) = iI 1 from rfl, iI_add]
      unfold lDn
      rw [if_pos g2, if_pos (by omega)]
  · rintro z M' ⟨rfl, b, k3, q1, q2⟩
    have i2 : (va_up S.1 0 b, S.2).1 0 2 = nI (cF C) := by
      rw [va_now, q1 2 (fun k hk => by unfold lAt; omega)]; exact hF
    unfold jf_X1_dropsEdge_L102
    refine jo_rd (jM_fR k3 (k := 0) rfl) (jo_rd (jM_ldI k3 (k := 0) (.inl rfl) rfl (j := 2) (jm_ixn (by decide) (by decide))) ?_)
    rw [i2]
    exact jo_t (show nI 4 * nI (cF C) ≤ nI (4 * cF C) by rw [nI_mul, nI_leI (by omega) (by omega)]; omega) (jo_ret ⟨b, k3, q1, q2⟩)
  rintro _ M3 ⟨b, k3, q1, q2⟩
  have q3 : ∀ j, (j < 23 ∨ 45 ≤ j ∨ (j - 21) % 6 < 2) → b j = b2 j := fun j hj => q1 j (fun k hk => by unfold lAt; omega)
  unfold jf_X1_dropsEdge_k102_196
  refine jo_rd (jM_fR k3 (k := 0) rfl) (jo_rd (jM_ldI k3 (k := 0) (.inl rfl) rfl (j := 1) (jm_ixn (by decide) (by decide))) ?_)
  have i1 : (va_up S.1 0 b, S.2).1 0 1 = nI (cE C) := by
    rw [va_now, q3 1 (by omega), p0 1 (by omega)]; exact hC.2.1
  rw [i1]
  refine jM_stI k3 (k := 0) (.inl rfl) rfl (j := 1) (jm_ixn (by decide) (by decide)) (fun M4 k4 => jo_ret ⟨_, k4.now2, ?_⟩)
  rw [va_now]
  obtain ⟨x0, x1, x2, x3, x4, x5⟩ := hC
  refine ⟨?_, ?_, ?_, fun x q hx hq => ?_, fun f hf => ⟨?_, ?_, fun j hj => ?_⟩, fun c x hc hx => ?_⟩
  · rw [upd_ne (by decide), q3 0 (by omega), p0 0 (by omega)]; exact x0
  · rw [upd_self]; exact nI_sub (b := 1) (by omega)
  · rw [upd_ne (by decide), q3 2 (by omega), p0 2 (by omega)]; exact x2
  · have hx : x < cE C - 1 := hx
    rw [upd_ne (by omega), q3 _ (by omega)]
    show _ = nI (cEd C (sk e x) q)
    unfold sk
    by_cases c : x < e
    · rw [if_pos c, p0 _ (by omega)]; exact x3 x q (by omega) hq
    · rw [if_neg c, p1 _ (by omega) (by omega), show 3 + 3 * x + q + 3 = 3 + 3 * (x + 1) + q by omega]
      exact x3 (x + 1) q (by omega) hq
  · have hf : f < cF C := hf
    rw [upd_ne (by omega), q3 _ (by omega), p2 _ (by omega) (by omega)]; exact (x4 f hf).1
  · have hf : f < cF C := hf
    rw [upd_ne (by omega), q3 _ (by omega), p2 _ (by omega) (by omega)]; exact (x4 f hf).2.1
  · have hf : f < cF C := hf
    have hj : j < cFl C f := hj
    have := (hW.2.2.2.2.1 f hf).2.2.2.1
    have y1 : (4 * f + j) / 4 = f := by omega
    have y2 : (4 * f + j) % 4 = j := by omega
    have y3 : lAt (4 * f + j) = 23 + 6 * f + j := by unfold lAt; rw [y1, y2]
    have := q2 (4 * f + j) (by omega) (by rw [y1, y2]; exact hj)
    rw [y1, y2, y3] at this
    rw [upd_ne (by omega)]
    exact this
  · have hx : x < cE C - 1 := hx
    rw [upd_ne (by omega), q3 _ (by omega), p3 c x hc (by omega)]
    show _ = iI (cCh C c (sk e x))
    refine x5 c _ hc ?_
    unfold sk
    split <;> omega
end ED
