/-! PLAIN LAW, 93.q: holes on both sides -/
noncomputable def aHoles (C : CX) (d p : Int32) : Int32 := if ¬ 0 < cP C then STATE else @ite Int32 ((0 ≤ d.toInt ∧ d.toInt ≤ 2) ∧ isP0 p) (Classical.propDecidable _) (if tn d = 0 then nI (cP C) - nI (cRk C 1 (tn p)) else if tn d = 1 then nI (cE C) - nI (cRk C 1 (tn p)) - nI (cRk C 2 (tn p)) else nI (cF C) - nI (cRk C 2 (tn p))) BAD
theorem i_sub0 (a : Int32) : a - 0 = a := by simp
section HO
variable {N x m : Nat} {ad : Nat → Nat} {md : Nat → Bool} {c s : Nat} {M0 M : Mem} {T : ST} {C : CX} {S : MS}
theorem jx_holes (h : jRX x T (jMk md M.2.2)) (hM : ∀ a, md a = true → a < M0.1) (hE : jExt md c s M0 M) (hW : jWfS T) (hS : jSm (sC T)) (hN : 1180591620717411303424 < N) {d p : Int32} : jo (jf_X0_holes N x d p) M (jOX x md (c + 60) (s + 300) M0 (aHoles (sC T) d p, T)) := by
  have hR := h
  have hE' := hE.mono (show c ≤ c + 60 by omega) (show s ≤ s + 300 by omega)
  obtain ⟨its, tp, pa, im, tf, pf, mf, h⟩ := h
  unfold jf_X0_holes aHoles
  refine jo_fQ (r := its) (mkg h.ob).2 (by decide) rfl ?_
  have hcx := h.cx
  cases its with
  | none =>
    have z : cP (sC T) = 0 := hcx.1
    refine jo_t rfl (jo_ret ⟨?_, hR, hE'⟩)
    dsimp only
    rw [if_pos (by omega)]; rfl
  | some q =>
    obtain ⟨hp, hq⟩ : 0 < cP (sC T) ∧ jCx q (sC T) (jMk md M.2.2) := hcx
    refine jo_ne (jo_eq (in32X (a := 0) (b := 2) rfl rfl) (jo_bI (fun c1 => jo_ret ⟨?_, hR, hE'⟩) (fun c1 => jo_primeX (fun c2 => jo_ret ⟨?_, hR, hE'⟩) (fun c2 => ?_))))
    · rw [if_neg (fun y => y hp), if_neg (fun y => c1 y.1)]; rfl
    · rw [if_neg (fun y => y hp), if_neg (fun y => c2 y.2)]; rfl
    · obtain ⟨d', h1, rfl, h3⟩ := n_of (n := 2) c1.1 c1.2 (by decide)
      obtain ⟨p', rfl, h4, h5⟩ := isP0_of c2
      obtain ⟨va, ha⟩ := hq.ob
      refine jo_fR (mkg h.ob).2 (by decide) rfl (jo_cl (mkg ha).2 ?_)
      have key : jo (jf_X9_holes N q (nI d') (nI p')) M (fun r M' => r = (if d' = 0 then nI (cP (sC T)) - nI (cRk (sC T) 1 p') else if d' = 1 then nI (cE (sC T)) - nI (cRk (sC T) 1 p') - nI (cRk (sC T) 2 p') else nI (cF (sC T)) - nI (cRk (sC T) 2 p')) ∧ jSub (jMk md M.2.2) (jMk md M'.2.2) ∧ jExt md (c + 60) (s + 300) M0 M') := by
        unfold jf_X9_holes
        refine jo_cl (mkg ha).2 (jo_eq (jx_many (hq.kp jMk.sub.kp) hW.1 (by omega)) ?_)
        rcases (show d' = 0 ∨ d' = 1 ∨ d' = 2 by omega) with rfl | rfl | rfl
        · refine jo_t (by decide) ?_
          unfold jf_X9_holes_j19 jf_X9_holes_j37
          refine jo_f (by decide) (jo_cl (mkg ha).2 ?_)
          rw [show nI 0 + (1 : Int32) = nI 1 from rfl]
          refine jo_bd (jo_mono (jx_rank9 hM hE hq hW.1 hS (.inl rfl) h4 hN) ?_)
          rintro r M1 ⟨rfl, s1, E1⟩
          refine jo_ret ⟨?_, s1, E1.mono (by omega) (by omega)⟩
          rw [if_pos rfl]
          show nI (cP (sC T)) - 0 - _ = _
          rw [i_sub0]
        · refine jo_f (by decide) (jo_cl (mkg ha).2 (jo_bd (jo_mono (jx_rank9 hM hE hq hW.1 hS (.inl rfl) h4 hN) ?_)))
          rintro r M1 ⟨rfl, s1, E1⟩
          unfold jf_X9_holes_j19 jf_X9_holes_j37
          refine jo_f (by decide) (jo_cl (mkg (s1 _ _ ha)).2 ?_)
          rw [show nI 1 + (1 : Int32) = nI 2 from rfl]
          refine jo_bd (jo_mono (jx_rank9 hM E1 (hq.kp s1.kp) hW.1 hS (.inr rfl) h4 hN) ?_)
          rintro r M2 ⟨rfl, s2, E2⟩
          refine jo_ret ⟨?_, s1.tr s2, E2.mono (by omega) (by omega)⟩
          rfl
        · refine jo_f (by decide) (jo_cl (mkg ha).2 (jo_bd (jo_mono (jx_rank9 hM hE hq hW.1 hS (.inr rfl) h4 hN) ?_)))
          rintro r M1 ⟨rfl, s1, E1⟩
          unfold jf_X9_holes_j19 jf_X9_holes_j37
          refine jo_t (by decide) (jo_ret ⟨?_, s1, E1.mono (by omega) (by omega)⟩)
          show _ - _ - 0 = _
          rw [i_sub0]
          rfl
      refine jo_bd (jo_mono key ?_)
      rintro r M1 ⟨rfl, s1, E1⟩
      refine jo_ret ⟨?_, hR.sub s1, E1⟩
      dsimp only
      rw [tn_nI (by omega), tn_nI (by omega), if_neg (show ¬ ¬ 0 < cP (sC T) from fun y => y hp), if_pos (show (0 ≤ (nI d').toInt ∧ (nI d').toInt ≤ 2) ∧ isP0 (nI p') from ⟨c1, c2⟩)]
theorem jm_holes (h : jMM m ad M0 S M) (hC : jEnc C (S.1 0)) (hW : jWf C) (hN : 9223372036854775809 < N) {d p : Int32} : jo (jf_X1_holes N m d p) M (fun r M' => r = aHoles C d p ∧ ∃ g, jMM m ad M0 (s15 S g) M') := by
  have h' : jMM m ad M0 (s15 S (S.2.1 15)) M := by rw [s15_self]; exact h
  unfold jf_X1_holes aHoles
  refine jo_rd (jM_cl h) (jo_eq (jr_isComplex h hC hW) (jo_bI (fun c0 => jo_ret ⟨?_, _, h'⟩) (fun c0 => jo_eq (in32 (a := 0) (b := 2) rfl rfl) (jo_bI (fun c1 => jo_ret ⟨?_, _, h'⟩) (fun c1 => jo_primeM (fun c2 => jo_ret ⟨?_, _, h'⟩) (fun c2 => ?_))))))
  · rw [if_pos c0]; rfl
  · rw [if_neg (fun y => y c0), if_neg (fun y => c1 y.1)]; rfl
  · rw [if_neg (fun y => y c0), if_neg (fun y => c2 y.2)]; rfl
  · obtain ⟨d', h1, rfl, h3⟩ := n_of (n := 2) c1.1 c1.2 (by decide)
    obtain ⟨p', rfl, h4, h5⟩ := isP0_of c2
    refine jo_rd (jM_cl h) (jo_bd (jo_mono (jm_rankFor (d := 1) h' hC hW hN (.inl rfl) h4) ?_))
    rintro x M1 ⟨rfl, w, h1⟩
    refine jo_rd (jM_cl h1) (jo_bd (jo_mono (jm_rankFor (d := 2) h1 hC hW hN (.inr rfl) h4) ?_))
    rintro x M2 ⟨rfl, w2, h2⟩
    rw [if_neg (show ¬ ¬ 0 < cP C from fun y => y c0), if_pos (show (0 ≤ (nI d').toInt ∧ (nI d').toInt ≤ 2) ∧ isP0 (nI p') from ⟨c1, c2⟩), tn_nI (by omega), tn_nI (by omega)]
    rcases (show d' = 0 ∨ d' = 1 ∨ d' = 2 by omega) with rfl | rfl | rfl
    · exact jo_t rfl (jo_rd (jM_fR h2 (k := 0) rfl) (jo_rd (jr_now0 h2 hC rfl) (jo_ret ⟨rfl, w2, h2⟩)))
    · exact jo_f (by decide) (jo_t rfl (jo_rd (jM_fR h2 (k := 0) rfl) (jo_rd (jr_now1 h2 hC rfl) (jo_ret ⟨rfl, w2, h2⟩))))
    · exact jo_f (by decide) (jo_f (by decide) (jo_rd (jM_fR h2 (k := 0) rfl) (jo_rd (jr_now2 h2 hC rfl) (jo_ret ⟨rfl, w2, h2⟩))))
theorem jb_holes (hN : 1180591620717411303424 < N) (hS : ∀ C, jWf C → jSm C) {d p : Int32} : jBoth x m ad 60 300 (jf_X0_holes N x d p) (jf_X1_holes N m d p) := jBoth_act (fun T => (aHoles (sC T) d p, T)) (fun _ _ h hM hE hW => jx_holes h hM hE hW (hS _ hW.1) hN) (fun _ _ _ h hT hW => jo_mono (jm_holes h hT.1 hW.1 (by omega)) (fun _ _ g => ⟨g.1, _, g.2.choose_spec, jRM_15 hT⟩)) (fun _ h => h)
end HO
