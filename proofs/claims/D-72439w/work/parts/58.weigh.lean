/-! PLAIN LAW, 58: weigh: component -/
section WG
variable {N x : Nat} {md : Nat → Bool} {c s : Nat} {M0 M : Mem} {T : ST}
theorem jx_weigh (h : jRX x T (jMk md M.2.2)) (hM : ∀ a, md a = true → a < M0.1) (hE : jExt md c s M0 M) (hW : jWfS T) (hN : 1000 < N) {d k w : Int32} : jo (jf_X0_weigh N x d k w) M (jOX x md (c + 3) (s + 13) M0 (oWeigh T d k w)) := by
  have hR := h
  have w1 := hW.1
  have hE' := hE.mono (show c ≤ c + 3 by omega) (show s ≤ s + 13 by omega)
  obtain ⟨its, tp, pa, im, tf, pf, mf, h⟩ := h
  unfold jf_X0_weigh oWeigh
  by_cases c0 : d = 0
  · refine jo_t c0 (jo_ret ⟨?_, ?_, hE'⟩)
    · rw [if_pos (.inl c0)]; rfl
    · rw [if_pos (.inl c0)]; exact hR
  refine jo_f c0 ?_
  refine jo_cl (mkg h.ob).2 (jo_eq (jx_isCell (hR.sub jMk.sub) w1) ?_)
  refine jo_bI (fun c2 => ?_) (fun c2 => ?_)
  · rw [if_pos (.inr (.inl c2))]; exact jo_ret ⟨rfl, hR, hE'⟩
  refine jo_eq jx_isWeight ?_
  refine jo_bI (fun c4 => ?_) (fun c4 => ?_)
  · rw [if_pos (.inr (.inr c4))]; exact jo_ret ⟨rfl, hR, hE'⟩
  rw [if_neg (show ¬ (d = 0 ∨ ¬ cIsCell (sC T) d k ∨ ¬ (1 ≤ w.toInt ∧ w.toInt ≤ 3)) from fun y => by
    rcases y with y | y | y
    · exact c0 y
    · exact y c2
    · exact y c4)]
  have hp := cell_pos hW.2.1 c2
  obtain ⟨q, rfl, hq⟩ := h.ge hp
  obtain ⟨d', k', d2, k2, rfl, rfl⟩ := cIsCell_of w1 c2
  obtain ⟨w', w2, rfl, w3⟩ := n_of (n := 3) (show 0 ≤ w.toInt by omega) c4.2 (by decide)
  have hd : d' = 1 ∨ d' = 2 := by
    have : d' ≠ 0 := fun y => c0 (by rw [y]; rfl)
    omega
  have h6 := Nat.lt_of_lt_of_le k2 (cMany_le w1 d')
  rw [tn_nI (by omega), tn_nI (by omega), tn_nI (by omega)]
  obtain ⟨vq, b1⟩ := hq.ob
  rcases hd with rfl | rfl
  · have k2 : k' < cE (sC T) := k2
    have he6 := w1.2.1
    have eA : ∀ (A B : CX), (if nI 1 = 1 then A else B) = A := fun A B => if_pos rfl
    rw [eA]
    refine jo_t (show nI 1 = 1 from rfl) (jo_fR (mkg h.ob).2 (by decide) rfl (jx_ed (hq.kp jMk.sub.kp) w1 k2 fun a ha => jo_fI ha (mem_56 _ _) rfl ?_))
    unfold jf_X0_weigh_j55
    refine jo_t (show nI 1 = 1 from rfl) (jo_fR (mkg h.ob).2 (by decide) rfl (jo_fR (mkg h.ob).2 (by decide) rfl ?_))
    have hq0 := hq
    obtain ⟨eA, fA, cA, b1, ⟨er, b2, b9⟩, b3, cr, b4, b5⟩ := hq
    obtain ⟨z, z1, z2⟩ := b9 k' k2
    refine jo_fR (mkg b1).2 (by decide) rfl (jo_ldR (mkg b2).2 rfl k2 (by omega) ?_)
    rw [z1]
    refine jo_bd (jo_mono (jx_D5with (hE.md hM) hE z2) ?_)
    rintro r M1 ⟨b, rfl, s1, E1, hb⟩
    refine jo_cl (mkg (s1 _ _ b1)).2 ?_
    refine jo_bd (jo_mono (jx_withEdge (C' := xWgE (sC T) k' w') (e := k') hM E1 (hq0.kp s1.kp) w1 (by omega) (by omega) hb rfl ?_ ⟨rfl, rfl, rfl, rfl⟩ ⟨?_, ?_, ?_, ?_⟩ ?_) ?_)
    · rw [if_pos k2]; rfl
    · show (if k' = k' ∧ 0 = 2 then _ else _) = _
      rw [if_neg (by omega)]
    · show (if k' = k' ∧ 1 = 2 then _ else _) = _
      rw [if_neg (by omega)]
    · show (if k' = k' ∧ 2 = 2 then _ else _) = _
      rw [if_pos ⟨rfl, rfl⟩]
    · intro i j hi ei
      show (if i = k' ∧ j = 2 then _ else _) = _
      rw [if_neg (fun y => ei y.1)]
    · intro i j hi hj
      rfl
    · rintro r M3 ⟨q', rfl, s3, E3, hq'⟩
      have s4 := s1.tr s3
      unfold jf_X0_weigh_j108
      exact jo_cl (mkg (s4 _ _ h.ob)).2 (jx_acts E3 (hR.sub s4) hW hN hp hq' hp (fun M4 h4 E4 _ => jo_ret ⟨rfl, h4, E4.mono (by omega) (by omega)⟩))
  · have k2 : k' < cF (sC T) := k2
    have he6 := w1.2.2.1
    have eA : ∀ (A B : CX), (if nI 2 = 1 then A else B) = B := fun A B => if_neg (by decide)
    rw [eA]
    refine jo_f (show ¬ nI 2 = 1 by decide) (jo_fR (mkg h.ob).2 (by decide) rfl (jx_fc (hq.kp jMk.sub.kp) w1 k2 fun a ha => ?_))
    obtain ⟨wa, g, ha1, -⟩ := ha
    refine jo_fI ha1 (mem_78 _) rfl ?_
    unfold jf_X0_weigh_j55
    refine jo_f (show ¬ nI 2 = 1 by decide) (jo_fR (mkg h.ob).2 (by decide) rfl (jo_fR (mkg h.ob).2 (by decide) rfl ?_))
    have hq0 := hq
    obtain ⟨eA, fA, cA, b1, b3, ⟨fr, b2, b9⟩, b4⟩ := hq
    obtain ⟨z, z1, z2⟩ := b9 k' k2
    refine jo_fR (mkg b1).2 (by decide) rfl (jo_ldR (mkg b2).2 rfl k2 (by omega) ?_)
    rw [z1]
    refine jo_bd (jo_mono (jx_D7with (hE.md hM) hE z2) ?_)
    rintro r M1 ⟨b, rfl, s1, E1, hb⟩
    refine jo_cl (mkg (s1 _ _ b1)).2 ?_
    refine jo_bd (jo_mono (jx_withFace (C' := xWgF (sC T) k' w') (f := k') hM E1 (hq0.kp s1.kp) w1 (by omega) (by omega) hb rfl ?_ ⟨rfl, rfl, rfl⟩ ⟨?_, rfl, rfl, ?_⟩) ?_)
    · rw [if_pos k2]; rfl
    · show (if k' = k' then _ else _) = _
      rw [if_pos rfl]
    · intro i hi ei
      refine ⟨?_, rfl, rfl⟩
      show (if i = k' then _ else _) = _
      rw [if_neg ei]
    · rintro r M3 ⟨q', rfl, s3, E3, hq'⟩
      have s4 := s1.tr s3
      unfold jf_X0_weigh_j108
      exact jo_cl (mkg (s4 _ _ h.ob)).2 (jx_acts E3 (hR.sub s4) hW hN hp hq' hp (fun M4 h4 E4 _ => jo_ret ⟨rfl, h4, E4.mono (by omega) (by omega)⟩))
end WG
