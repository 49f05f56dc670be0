/-! PLAIN LAW, 93.zu: part, length on both sides -/
section PL
variable {N x m : Nat} {ad : Nat → Nat} {md : Nat → Bool} {c s : Nat} {M0 M : Mem} {T : ST} {C : CX} {S : MS} {f : Nat → Int64}
theorem jRM_W {ks ls : List Nat} {S' : MS} (h : jRM T S) (w : sW ks ls S S') : jRM T S' := by
  unfold jRM at *
  rw [w.1, w.2.1]
  exact h
theorem jBoth_valW {α : Type} {p0 p1 : jm_P α} (v : ST → α)
    (h0 : ∀ T M, jRX x T (jMk (mdf m ad) M.2.2) → (∀ a, mdf m ad a = true → a < M.1) → jExt (mdf m ad) 0 0 M M → jWfS T → jo p0 M (fun r M' => r = v T ∧ jRX x T (jMk (mdf m ad) M'.2.2) ∧ jExt (mdf m ad) (0 + c) (0 + s) M M'))
    (h1 : ∀ T S M, jMM m ad M S M → jRM T S → jWfS T → jo p1 M (fun r M' => r = v T ∧ ∃ S', jMM m ad M S' M' ∧ ∃ ks ls, sW ks ls S S')) : jBoth x m ad c s p0 p1 := by
  refine jBoth_gen v id (fun T M hI => ?_) (fun T S M h hT hW => jo_mono (h1 T S M h hT hW) (fun _ _ g => ?_)) (fun _ h => h)
  · obtain ⟨hR, -, -, hW, hn, hm⟩ := hI
    have := h0 T M hR hm (jExt.rf hn) hW
    rw [Nat.zero_add, Nat.zero_add] at this
    exact this
  · obtain ⟨g1, S', g2, ks, ls, g3⟩ := g
    exact ⟨g1, S', g2, jRM_W hT g3⟩
noncomputable def aPart (C : CX) (a v e w : Int32) : Int64 := if (0 ≤ a.toInt ∧ a.toInt ≤ 2) ∧ (0 ≤ v.toInt ∧ v.toInt ≤ 2) ∧ cIsCell C 1 e ∧ (0 ≤ w.toInt ∧ w.toInt ≤ 1) then (if w = 0 then jI (prtQ C (tn a) (tn v) (tn e)).num else jI (prtQ C (tn a) (tn v) (tn e)).den) else -1000001
theorem cell1 {C : CX} {e : Int32} (hW : jWf C) (h : cIsCell C 1 e) : ∃ k, k < cE C ∧ e = nI k := by
  obtain ⟨d', k', h4, h5, h6, h7⟩ := cIsCell_of hW h
  have hd : d' = 1 := by
    have := congrArg tn h6
    rw [tn_nI (by omega)] at this
    exact this.symm
  subst hd
  exact ⟨k', h5, h7⟩
theorem jx_partOp (h : jRX x T (jMk md M.2.2)) (hM : ∀ a, md a = true → a < M0.1) (hE : jExt md c s M0 M) (hW : jWfS T) (hS : jSmP (sC T)) (hN : 1180591620717411303424 < N) {a v e w : Int32} : jo (jf_X0_part N x a v e w) M (fun r M' => r = aPart (sC T) a v e w ∧ jRX x T (jMk md M'.2.2) ∧ jExt md (c + 560) (s + 2700) M0 M') := by
  have hR := h
  have hE' := hE.mono (show c ≤ c + 560 by omega) (show s ≤ s + 2700 by omega)
  have hw := hW.1
  have h6 := hw.2.1
  obtain ⟨its, tp, pa, im, tf, pf, mf, h⟩ := h
  unfold jf_X0_part aPart
  refine jo_eq jx_isChain (jo_bI (fun c1 => jo_ret ⟨(if_neg (fun y => c1 y.1)).symm, hR, hE'⟩) (fun c1 => ?_))
  refine jo_eq (in32X (a := 0) (b := 2) rfl rfl) (jo_bI (fun c2 => jo_ret ⟨(if_neg (fun y => c2 y.2.1)).symm, hR, hE'⟩) (fun c2 => ?_))
  refine jo_cl (mkg h.ob).2 (jo_eq (jx_isCell (hR.sub jMk.sub) hw) (jo_bI (fun c3 => jo_ret ⟨(if_neg (fun y => c3 y.2.2.1)).symm, hR, hE'⟩) (fun c3 => ?_)))
  refine jo_eq jx_isHalf (jo_bI (fun c4 => jo_ret ⟨(if_neg (fun y => c4 y.2.2.2)).symm, hR, hE'⟩) (fun c4 => ?_))
  rw [if_pos ⟨c1, c2, c3, c4⟩]
  have hp := cell_pos hW.2.1 c3
  obtain ⟨q, rfl, hq⟩ := h.ge hp
  obtain ⟨a', a1, rfl, a3⟩ := n_of (n := 2) c1.1 c1.2 (by decide)
  obtain ⟨v', v1, rfl, v3⟩ := n_of (n := 2) c2.1 c2.2 (by decide)
  obtain ⟨e', e1, rfl⟩ := cell1 hw c3
  obtain ⟨vc, hvc⟩ := hq.ob
  rw [tn_nI (by omega), tn_nI (by omega), tn_nI (by omega)]
  refine jo_fR (mkg h.ob).2 (by decide) rfl (jo_cl (mkg hvc).2 (jo_bd (jo_mono (jx_part hM hE hq hw (by omega) (by omega) hS hN) ?_)))
  rintro r M1 ⟨q1, rfl, s1, E1, h1⟩
  refine jQs_ld h1 e1 (by omega) (fun b hb => jo_cl (mkg hb).2 (jo_bd ?_))
  unfold jf_X12_told
  by_cases w0 : w = 0
  · exact jo_t w0 (jo_fJ (mkg hb).2 (by decide) rfl (jo_ret (jo_ret ⟨by rw [if_pos w0], hR.sub s1, E1⟩)))
  · exact jo_f w0 (jo_fJ (mkg hb).2 (by decide) rfl (jo_ret (jo_ret ⟨by rw [if_neg w0], hR.sub s1, E1⟩)))
theorem jm_partOp (h : jMM m ad M0 S M) (hT : jRM T S) (hW : jWfS T) (hN : 9223372036854775809 < N) {a v e w : Int32} : jo (jf_X1_part N m a v e w) M (fun r M' => r = aPart (sC T) a v e w ∧ ∃ S', jMM m ad M0 S' M' ∧ ∃ ks ls, sW ks ls S S') := by
  have hC := hT.1
  have hw := hW.1
  have h6 := hw.2.1
  unfold jf_X1_part aPart
  have sf : ∃ S', jMM m ad M0 S' M ∧ ∃ ks ls, sW ks ls S S' := ⟨S, h, [], [], sW.rf⟩
  refine jo_rd (jM_cl h) (jo_eq (jr_isChain h hC hw) (jo_bI (fun c1 => jo_ret ⟨(if_neg (fun y => c1 ⟨cell_pos hW.2.1 y.2.2.1, y.1⟩)).symm, sf⟩) (fun c1 => ?_)))
  refine jo_eq (in32 (a := 0) (b := 2) rfl rfl) (jo_bI (fun c2 => jo_ret ⟨(if_neg (fun y => c2 y.2.1)).symm, sf⟩) (fun c2 => ?_))
  refine jo_rd (jM_cl h) (jo_eq (jr_isCell h hC hw) (jo_bI (fun c3 => jo_ret ⟨(if_neg (fun y => c3 y.2.2.1)).symm, sf⟩) (fun c3 => ?_)))
  refine jo_eq (in32 (a := 0) (b := 1) rfl rfl) (jo_bI (fun c4 => jo_ret ⟨(if_neg (fun y => c4 y.2.2.2)).symm, sf⟩) (fun c4 => ?_))
  obtain ⟨a', a1, rfl, a3⟩ := n_of (n := 2) c1.2.1 c1.2.2 (by decide)
  obtain ⟨v', v1, rfl, v3⟩ := n_of (n := 2) c2.1 c2.2 (by decide)
  obtain ⟨e', e1, rfl⟩ := cell1 hw c3
  have ev : aPart (sC T) (nI a') (nI v') (nI e') w = if w = 0 then jI (prtQ (sC T) a' v' e').num else jI (prtQ (sC T) a' v' e').den := by
    unfold aPart
    rw [if_pos ⟨c1.2, c2, c3, c4⟩, tn_nI (by omega), tn_nI (by omega), tn_nI (by omega)]
  show jo _ M (fun r M' => r = aPart (sC T) (nI a') (nI v') (nI e') w ∧ ∃ S', jMM m ad M0 S' M' ∧ ∃ ks ls, sW ks ls S S')
  rw [ev]
  refine jo_rd (jM_cl h) (jo_bd (jo_mono (jm_laysPart h hC hw hN (by omega) (by omega)) ?_))
  rintro _ M1 ⟨S1, h1, w1, q1⟩
  have q := q1 e' e1
  by_cases w0 : w = 0
  · refine jo_t w0 (jo_rd (jM_fR h1 (k := 18) rfl) (jo_rd (jM_ldJ h1 (k := 18) (by unfold jM_ja; omega) (jm_ixn (show e' < jM_len 18 by show e' < 6; omega) (by decide))) (jo_ret ⟨?_, S1, h1, ⟨_, _, w1⟩⟩)))
    rw [if_pos w0, q.1]
  · refine jo_f w0 (jo_rd (jM_fR h1 (k := 19) rfl) (jo_rd (jM_ldJ h1 (k := 19) (by unfold jM_ja; omega) (jm_ixn (show e' < jM_len 19 by show e' < 6; omega) (by decide))) (jo_ret ⟨?_, S1, h1, ⟨_, _, w1⟩⟩)))
    rw [if_neg w0, q.2]
theorem jb_part (hN : 1180591620717411303424 < N) (hS : ∀ C, jWf C → jSmP C) {a v e w : Int32} : jBoth x m ad 560 2700 (jf_X0_part N x a v e w) (jf_X1_part N m a v e w) := jBoth_valW (fun T => aPart (sC T) a v e w) (fun _ _ h hM hE hW => jx_partOp h hM hE hW (hS _ hW.1) hN) (fun _ _ _ h hT hW => jm_partOp h hT hW (by omega))
noncomputable def aLength (C : CX) (a v w : Int32) : Int64 := if ¬ 0 < cP C then -1000002 else if ¬ (0 ≤ a.toInt ∧ a.toInt ≤ 2) then -1000001 else if ¬ (0 ≤ v.toInt ∧ v.toInt ≤ 3) then -1000001 else if ¬ (0 ≤ w.toInt ∧ w.toInt ≤ 1) then -1000001 else if w = 0 then jI (lenQ C (tn a) (tn v)).num else jI (lenQ C (tn a) (tn v)).den
theorem jx_lengthOp (h : jRX x T (jMk md M.2.2)) (hM : ∀ a, md a = true → a < M0.1) (hE : jExt md c s M0 M) (hW : jWfS T) (hS : jSmP (sC T)) (hN : 1180591620717411303424 < N) {a v w : Int32} : jo (jf_X0_length N x a v w) M (fun r M' => r = aLength (sC T) a v w ∧ jRX x T (jMk md M'.2.2) ∧ jExt md (c + 580) (s + 2730) M0 M') := by
  have hR := h
  have hE' := hE.mono (show c ≤ c + 580 by omega) (show s ≤ s + 2730 by omega)
  have hw := hW.1
  obtain ⟨its, tp, pa, im, tf, pf, mf, h⟩ := h
  unfold jf_X0_length aLength
  refine jo_fQ (r := its) (mkg h.ob).2 (by decide) rfl ?_
  have hcx := h.cx
  cases its with
  | none =>
    have z : cP (sC T) = 0 := hcx.1
    refine jo_t rfl (jo_ret ⟨?_, hR, hE'⟩)
    rw [if_pos (by omega)]
  | some q =>
    obtain ⟨hp, hq⟩ : 0 < cP (sC T) ∧ jCx q (sC T) (jMk md M.2.2) := hcx
    obtain ⟨va, ha⟩ := hq.ob
    refine jo_ne (jo_eq jx_isChain (jo_bI (fun c1 => jo_ret ⟨?_, hR, hE'⟩) (fun c1 => jo_eq (in32X (a := 0) (b := 3) rfl rfl) (jo_bI (fun c2 => jo_ret ⟨?_, hR, hE'⟩) (fun c2 => jo_eq jx_isHalf (jo_bI (fun c3 => jo_ret ⟨?_, hR, hE'⟩) (fun c3 => ?_)))))))
    · rw [if_neg (fun y => y hp), if_pos c1]
    · rw [if_neg (fun y => y hp), if_neg (fun y => y c1), if_pos c2]
    · rw [if_neg (fun y => y hp), if_neg (fun y => y c1), if_neg (fun y => y c2), if_pos c3]
    · obtain ⟨a', a1, rfl, a3⟩ := n_of (n := 2) c1.1 c1.2 (by decide)
      obtain ⟨v', v1, rfl, v3⟩ := n_of (n := 3) c2.1 c2.2 (by decide)
      refine jo_fR (mkg h.ob).2 (by decide) rfl (jo_cl (mkg ha).2 (jo_bd (jo_mono (jx_length hM hE hq hw (by omega) (by omega) hS hN) ?_)))
      rintro r M1 ⟨b, rfl, s1, E1, hb⟩
      rw [if_neg (fun y => y hp), if_neg (fun y => y c1), if_neg (fun y => y c2), if_neg (fun y => y c3), tn_nI (by omega), tn_nI (by omega)]
      refine jo_cl (mkg hb).2 (jo_bd ?_)
      unfold jf_X12_told
      by_cases w0 : w = 0
      · exact jo_t w0 (jo_fJ (mkg hb).2 (by decide) rfl (jo_ret (jo_ret ⟨by rw [if_pos w0], hR.sub s1, E1⟩)))
      · exact jo_f w0 (jo_fJ (mkg hb).2 (by decide) rfl (jo_ret (jo_ret ⟨by rw [if_neg w0], hR.sub s1, E1⟩)))
theorem jm_lengthOp (h : jMM m ad M0 S M) (hT : jRM T S) (hW : jWfS T) (hN : 9223372036854775809 < N) {a v w : Int32} : jo (jf_X1_length N m a v w) M (fun r M' => r = aLength (sC T) a v w ∧ ∃ S', jMM m ad M0 S' M' ∧ ∃ ks ls, sW ks ls S S') := by
  have hC := hT.1
  have hw := hW.1
  unfold jf_X1_length aLength
  have sf : ∃ S', jMM m ad M0 S' M ∧ ∃ ks ls, sW ks ls S S' := ⟨S, h, [], [], sW.rf⟩
  refine jo_rd (jM_cl h) (jo_eq (jr_isComplex h hC hw) (jo_bI (fun c0 => jo_ret ⟨?_, sf⟩) (fun c0 => jo_eq (in32 (a := 0) (b := 2) rfl rfl) (jo_bI (fun c1 => jo_ret ⟨?_, sf⟩) (fun c1 => jo_eq (in32 (a := 0) (b := 3) rfl rfl) (jo_bI (fun c2 => jo_ret ⟨?_, sf⟩) (fun c2 => jo_eq (in32 (a := 0) (b := 1) rfl rfl) (jo_bI (fun c3 => jo_ret ⟨?_, sf⟩) (fun c3 => ?_)))))))))
  · rw [if_pos c0]
  · rw [if_neg (fun y => y c0), if_pos c1]
  · rw [if_neg (fun y => y c0), if_neg (fun y => y c1), if_pos c2]
  · rw [if_neg (fun y => y c0), if_neg (fun y => y c1), if_neg (fun y => y c2), if_pos c3]
  · obtain ⟨a', a1, rfl, a3⟩ := n_of (n := 2) c1.1 c1.2 (by decide)
    obtain ⟨v', v1, rfl, v3⟩ := n_of (n := 3) c2.1 c2.2 (by decide)
    have ev : aLength (sC T) (nI a') (nI v') w = if w = 0 then jI (lenQ (sC T) a' v').num else jI (lenQ (sC T) a' v').den := by
      unfold aLength
      rw [if_neg (fun y => y c0), if_neg (fun y => y c1), if_neg (fun y => y c2), if_neg (fun y => y c3), tn_nI (by omega), tn_nI (by omega)]
    show jo _ M (fun r M' => r = aLength (sC T) (nI a') (nI v') w ∧ ∃ S', jMM m ad M0 S' M' ∧ ∃ ks ls, sW ks ls S S')
    rw [ev]
    refine jo_rd (jM_cl h) (jo_bd (jo_mono (jm_measures h hC hw hN (by omega) (by omega)) ?_))
    rintro _ M1 ⟨S1, h1, w1, q1⟩
    by_cases w0 : w = 0
    · refine jo_t w0 (jo_rd (jM_fJ h1 (k := 22) rfl) (jo_ret ⟨?_, S1, h1, ⟨_, _, w1⟩⟩))
      rw [if_pos w0, q1.1]
    · refine jo_f w0 (jo_rd (jM_fJ h1 (k := 23) rfl) (jo_ret ⟨?_, S1, h1, ⟨_, _, w1⟩⟩))
      rw [if_neg w0, q1.2]
theorem jb_length (hN : 1180591620717411303424 < N) (hS : ∀ C, jWf C → jSmP C) {a v w : Int32} : jBoth x m ad 580 2730 (jf_X0_length N x a v w) (jf_X1_length N m a v w) := jBoth_valW (fun T => aLength (sC T) a v w) (fun _ _ h hM hE hW => jx_lengthOp h hM hE hW (hS _ hW.1) hN) (fun _ _ _ h hT hW => jm_lengthOp h hT hW (by omega))
end PL
