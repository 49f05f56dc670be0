/-! PLAIN LAW, 42: drop, the operation: the model -/
theorem cSpB_iff {C : CX} (hW : jWf C) {e : Nat} : cSpB C e = true ↔ cSp C e := by
  unfold cSpB
  rw [Bool.not_eq_true', ← Bool.not_eq_true, jall_iff]
  constructor
  · intro h
    refine Classical.byContradiction fun q => h (fun k hk => ?_)
    refine Classical.byContradiction fun q2 => q ?_
    simp at q2
    exact ⟨k / 4, k % 4, by omega, q2.1, q2.2⟩
  · rintro ⟨f, j, hf, hj, he⟩ h
    have := (hW.2.2.2.2.1 f hf).2.2.2.1
    have q1 : (4 * f + j) / 4 = f := by omega
    have q2 : (4 * f + j) % 4 = j := by omega
    have := h (4 * f + j) (by omega)
    rw [q1, q2] at this
    simp [hj, he] at this
section ED
variable {N m a n : Nat} {ad : Nat → Nat} {M0 M : Mem} {S : MS} {C : CX} {T : ST}
theorem jEnc_dropF {C : CX} {b : Nat → Int32} (hW : jWf C) (h : jEnc C b) {k : Nat} (hk : k < cF C) : jEnc (xDropF C k) (upd (jsft b (21 + 6 * k) 6 39) 2 (nI (cF C - 1))) := by
  obtain ⟨x0, x1, x2, x3, x4, x5⟩ := h
  have w1 := hW.2.1
  have w2 := hW.2.2.1
  have lo : ∀ j, j < 21 + 6 * k → jsft b (21 + 6 * k) 6 39 j = b j := fun j hj => by unfold jsft; rw [if_neg (by omega)]
  have hi : ∀ j, 39 ≤ j → jsft b (21 + 6 * k) 6 39 j = b j := fun j hj => by unfold jsft; rw [if_neg (by omega)]
  have md : ∀ j, 21 + 6 * k ≤ j → j < 39 → jsft b (21 + 6 * k) 6 39 j = b (j + 6) := fun j h1 h2 => by unfold jsft; rw [if_pos (by omega)]
  refine ⟨?_, ?_, ?_, fun x q hx hq => ?_, fun f hf => ?_, fun c x hc hx => ?_⟩
  · rw [upd_ne (by decide), lo 0 (by omega)]; exact x0
  · rw [upd_ne (by decide), lo 1 (by omega)]; exact x1
  · rw [upd_self]; rfl
  · have hx : x < cE C := hx
    rw [upd_ne (by omega), lo _ (by omega)]; exact x3 x q hx hq
  · have hf : f < cF C - 1 := hf
    by_cases c : f < k
    · have s : sk k f = f := if_pos c
      have y := x4 f (by omega)
      have z := hW.2.2.2.2.1 f (by omega)
      refine ⟨?_, ?_, fun j hj => ?_⟩
      · rw [upd_ne (by omega), lo _ (by omega)]; show _ = nI (cFw C (sk k f)); rw [s]; exact y.1
      · rw [upd_ne (by omega), lo _ (by omega)]; show _ = nI (cFl C (sk k f)); rw [s]; exact y.2.1
      · have hj : j < cFl C (sk k f) := hj
        rw [s] at hj
        rw [upd_ne (by omega), lo _ (by omega)]; show _ = iI (cLt C (sk k f) j); rw [s]; exact y.2.2 j hj
    · have s : sk k f = f + 1 := if_neg c
      have y := x4 (f + 1) (by omega)
      have z := hW.2.2.2.2.1 (f + 1) (by omega)
      refine ⟨?_, ?_, fun j hj => ?_⟩
      · rw [upd_ne (by omega), md _ (by omega) (by omega)]; show _ = nI (cFw C (sk k f)); rw [s, ← y.1]; congr 1
      · rw [upd_ne (by omega), md _ (by omega) (by omega)]; show _ = nI (cFl C (sk k f)); rw [s, ← y.2.1]; congr 1
      · have hj : j < cFl C (sk k f) := hj
        rw [s] at hj
        rw [upd_ne (by omega), md _ (by omega) (by omega)]; show _ = iI (cLt C (sk k f) j); rw [s, ← y.2.2 j hj]; congr 1; omega
  · have hx : x < cE C := hx
    rw [upd_ne (by omega), hi _ (by omega)]; exact x5 c x hc hx
theorem jm_drop (h : jMM m ad M0 S M) (hT : jRM T S) (hW : jWfS T) (hN : 1000 < N) {d k : Int32} : jo (jf_X1_drop N m d k) M (jOM m ad M0 (oDrop T d k)) := by
  have hT0 := hT
  obtain ⟨hC, -⟩ := hT
  have w1 := hW.1
  have w2 := w1.2.1
  have w3 := w1.2.2.1
  unfold jf_X1_drop oDrop
  by_cases c0 : d = 0
  · exact jo_t c0 (jo_ret (jOM.same h hT0 (if_pos (.inl c0))))
  refine jo_f c0 (jo_rd (jM_cl h) (jo_eq (jr_isCell h hC w1) ?_))
  refine jo_bI (fun c1 => jo_ret (jOM.same h hT0 (if_pos (.inr c1)))) (fun c1 => ?_)
  rw [if_neg (show ¬ (d = 0 ∨ ¬ cIsCell (sC T) d k) from fun y => y.elim c0 (fun z => z c1))]
  obtain ⟨d', k', h1, h2, rfl, rfl⟩ := cIsCell_of w1 c1
  have hm := cMany_le w1 d'
  rw [tn_nI (by omega)]
  rcases (show d' = 0 ∨ d' = 1 ∨ d' = 2 by omega) with rfl | rfl | rfl
  · exact absurd rfl c0
  · have h2 : k' < cE (sC T) := h2
    refine jo_t (show nI 1 = 1 from rfl) ?_
    obtain ⟨c, hc, e1⟩ := jr_isSpelled (N := N) h hC w1 (by omega) (e := k') (by omega)
    refine jo_rd (jM_cl h) (jo_eq e1 ?_)
    refine jo_bI (c := c = true) (fun c2 => ?_) (fun c2 => ?_)
    · have ns : ¬ cSp (sC T) k' := fun x => c2 (hc.mpr x)
      rw [if_neg (show ¬ (nI 1 = 1 ∧ cSpB (sC T) k' = true) from fun x => ns ((cSpB_iff w1).mp x.2)), if_pos (show nI 1 = 1 from rfl)]
      unfold jf_X1_drop_j32
      refine jo_rd (jM_cl h) (jo_bd (jo_mono (jr_notes h hT0 hW hN) ?_))
      rintro _ M2 ⟨S1, g1, g2, g3, g4⟩
      have hC1 : jEnc (sC T) (S1.1 0) := by rw [g3]; exact hC
      have hbase := g2 (sC T) hC
      refine jo_t (show nI 1 = 1 from rfl) (jo_rd (jM_cl g1) (jo_bd (jo_mono (jm_dropsEdge g1 hC1 w1 hN h2 ns) ?_)))
      rintro _ M3 ⟨b, k1, k2⟩
      have k3 : jEnc (xDropE (sC T) k') ((va_up S1.1 0 b, S1.2).1 0) := by rw [va_now]; exact k2
      exact jo_rd (jM_fR k1 (k := 0) rfl) (jo_rd (jr_now1 k1 k3 rfl) (jo_ret ⟨rfl, _, k1, jRM_now hbase k2⟩))
    · rw [if_pos (show nI 1 = 1 ∧ cSpB (sC T) k' = true from ⟨rfl, (cSpB_iff w1).mpr (hc.mp c2)⟩)]
      exact jo_ret (jOM.same h hT0 rfl)
  · have h2 : k' < cF (sC T) := h2
    have ne : ¬ nI 2 = 1 := by decide +kernel
    rw [if_neg (show ¬ (nI 2 = 1 ∧ cSpB (sC T) k' = true) from fun x => ne x.1)]
    refine jo_f ne ?_
    rw [if_neg ne]
    unfold jf_X1_drop_j32
    refine jo_rd (jM_cl h) (jo_bd (jo_mono (jr_notes h hT0 hW hN) ?_))
    rintro _ M2 ⟨S1, g1, g2, g3, g4⟩
    have hC1 : jEnc (sC T) (S1.1 0) := by rw [g3]; exact hC
    have hbase := g2 (sC T) hC
    refine jo_f ne ?_
    have e1 : (21 : Int32) + (6 : Int32) * nI k' = nI (21 + 6 * k') := by simp only [nI_lit, nI_mul, nI_add]
    rw [e1]
    refine jo_bd (jo_mono (jo_up 39 (fun i z M' => z = nI i ∧ 21 + 6 * k' ≤ i ∧ jMM m ad M0 (va_up S1.1 0 (jsft (S1.1 0) (21 + 6 * k') 6 i), S1.2) M') (fun _ M' => jMM m ad M0 (va_up S1.1 0 (jsft (S1.1 0) (21 + 6 * k') 6 39), S1.2) M') ?_ ?_ N (21 + 6 * k') _ M2 ⟨rfl, Nat.le_refl _, by rw [jsft_0]; exact g1.now0⟩ (by omega) (by omega)) ?_)
    · rintro i z M' hi ⟨rfl, hlo, k1⟩
      unfold jf_X1_drop_L61
      refine jo_f (show ¬ nI 39 ≤ nI i by rw [nI_leI (by omega) (by omega)]; omega) ?_
      refine jo_rd (jM_fR k1 (k := 0) rfl) (jo_rd (jM_fR k1 (k := 0) rfl) ?_)
      refine jo_rd (jM_ldI k1 (k := 0) (.inl rfl) rfl (j := i + 6) (by rw [show nI i + (6 : Int32) = nI (i + 6) from nI_add i 6]; exact jm_ixn (by show _ < 63; omega) (by decide))) ?_
      refine jM_stI k1 (k := 0) (.inl rfl) rfl (j := i) (jm_ixn (by show _ < 63; omega) (by decide)) (fun M3 k4 => jo_ret ⟨nI_1 i, by omega, ?_⟩)
      have k4 := k4.now2
      rw [va_now, jsft_up (by decide) hlo] at k4
      exact k4
    · rintro z M' ⟨rfl, hlo, k1⟩
      unfold jf_X1_drop_L61
      exact jo_t (show nI 39 ≤ nI 39 by decide +kernel) (jo_ret k1)
    intro _ M3 k1
    have i2 : (va_up S1.1 0 (jsft (S1.1 0) (21 + 6 * k') 6 39), S1.2).1 0 2 = nI (cF (sC T)) := by
      rw [va_now]
      unfold jsft
      rw [if_neg (by omega)]
      exact hC1.2.2.1
    unfold jf_X1_drop_k61_88
    refine jo_rd (jM_fR k1 (k := 0) rfl) (jo_rd (jM_ldI k1 (k := 0) (.inl rfl) rfl (j := 2) (jm_ixn (by decide) (by decide))) ?_)
    rw [i2, show nI (cF (sC T)) - (1 : Int32) = nI (cF (sC T) - 1) from nI_sub (b := 1) (by omega)]
    refine jM_stI k1 (k := 0) (.inl rfl) rfl (j := 2) (jm_ixn (by decide) (by decide)) (fun M4 k4 => ?_)
    have k4 := k4.now2
    rw [va_now] at k4
    have k5 := jEnc_dropF w1 hC1 h2
    have k6 : jEnc (xDropF (sC T) k') ((va_up S1.1 0 (upd (jsft (S1.1 0) (21 + 6 * k') 6 39) 2 (nI (cF (sC T) - 1))), S1.2).1 0) := by rw [va_now]; exact k5
    exact jo_rd (jM_fR k4 (k := 0) rfl) (jo_rd (jr_now2 k4 k6 rfl) (jo_ret ⟨rfl, _, k4, jRM_now hbase k5⟩))
end ED
