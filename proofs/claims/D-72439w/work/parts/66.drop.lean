/-! PLAIN LAW, 66: drop: component -/
theorem sk_lt {k i n : Nat} (h : i < n - 1) : sk k i < n := by unfold sk; split <;> omega
theorem jWf_dropE {C : CX} (hW : jWf C) {k : Nat} (hk : k < cE C) (hns : ¬ cSp C k) : jWf (xDropE C k) := by
  obtain ⟨h1, h2, h3, h4, h5, h6⟩ := hW
  refine ⟨h1, ?_, h3, fun e he => ?_, fun f hf => ?_, fun c e hc he => ?_⟩
  · show cE C - 1 ≤ 6; omega
  · have he : e < cE C - 1 := he
    exact h4 _ (sk_lt he)
  · have hf : f < cF C := hf
    obtain ⟨a1, a2, a3, a4, a5⟩ := h5 f hf
    refine ⟨a1, a2, a3, a4, fun j hj => ?_⟩
    have hj : j < cFl C f := hj
    obtain ⟨b1, b2, b3⟩ := a5 j hj
    have hn : lEd (cLt C f j) ≠ k := fun y => hns ⟨f, j, hf, hj, y⟩
    show lDn k (cLt C f j) ≠ 0 ∧ -((cE C - 1 : Nat) : Int) ≤ lDn k (cLt C f j) ∧ lDn k (cLt C f j) ≤ ((cE C - 1 : Nat) : Int)
    unfold lEd at hn
    unfold lDn lEd
    by_cases n : cLt C f j < 0 <;> simp only [n, if_true, if_false] at hn ⊢ <;> (repeat' split) <;> omega
  · have he : e < cE C - 1 := he
    exact h6 c _ hc (sk_lt he)
theorem jWf_dropF {C : CX} (hW : jWf C) {k : Nat} (hk : k < cF C) : jWf (xDropF C k) := by
  obtain ⟨h1, h2, h3, h4, h5, h6⟩ := hW
  refine ⟨h1, h2, ?_, h4, fun f hf => ?_, h6⟩
  · show cF C - 1 ≤ 4; omega
  · have hf : f < cF C - 1 := hf
    exact h5 _ (sk_lt hf)
section DR
variable {md : Nat → Bool} {N c s x : Nat} {M0 M : Mem} {C : CX} {T : ST}
theorem jx_withoutEdge (hM : ∀ a, md a = true → a < M0.1) (hE : jExt md c s M0 M) {a k : Nat} (h : jCx a C (jMk md M.2.2)) (hW : jWf C) (hk : k < cE C) (hns : ¬ cSp C k) (hN : 100 < N) : jo (jf_X9_withoutEdge N a (nI k)) M (jNew md (c + 19) (s + 66) M0 M (fun q H => jCx q (xDropE C k) H)) := by
  have h6 := hW.2.1
  have h4 := hW.2.2.1
  have hq0 := h
  obtain ⟨eA, fA, cA, h1, ⟨er, b1, b2⟩, ⟨fr, f1, f2⟩, h5⟩ := h
  unfold jf_X9_withoutEdge
  refine jo_fR (mkg h1).2 (by decide) rfl (jo_len (mkg b1).2 rfl ?_)
  rw [show (nI (cE C) - 1 : Int32) = nI (cE C - 1) from nI_sub (b := 1) (by omega)]
  refine jo_ck (ckL (by omega)) ?_
  rw [nI_tc (by omega)]
  refine jX_al (hE.md hM) hE fun q6 M1 hq6 m1 e1 E1 => ?_
  refine jo_bd (jo_mono (jx_woE (H0 := jMk md M.2.2) (q := q6) (by rw [e1]; exact jSub.new hq6) E1 hq0 hW hk hN hq6 (by rw [e1, va_up_self])) ?_)
  rintro _ M2 ⟨s2, d2, E2⟩
  unfold jf_X9_withoutEdge_k13_45
  refine jo_fR (mkg (s2 _ _ h1)).2 (by decide) rfl (jo_len (mkg (s2 _ _ f1)).2 rfl ?_)
  refine jo_ck (ckL (by omega)) ?_
  rw [nI_tc (by omega)]
  refine jX_al (E2.md hM) E2 fun q3 M3 hq3 m3 e3 E3 => ?_
  refine jo_bd (jo_mono (jx_woF (H0 := jMk md M2.2.2) (q := q3) hM (by rw [e3]; exact jSub.new hq3) E3 (hq0.kp s2.kp) hW hk hns hN hq3 (by rw [e3, va_up_self])) ?_)
  rintro _ M4 ⟨s4, d4, E4⟩
  unfold jf_X9_withoutEdge_k57_88
  refine jo_ck (by decide) ?_
  rw [show (3 : Int32).toNatClampNeg = 3 from nI_tc (n := 3) (by decide), show (6 : Int32).toNatClampNeg = 6 from nI_tc (n := 6) (by decide)]
  refine jX_ml hM E4 fun q5 r cr M5 n1 n2 n3 n4 s5 o1 o2 E5 => ?_
  obtain ⟨ev, v1, -⟩ := d2.kp s4.kp
  have s24 := s2.tr s4
  refine jo_bd (jo_mono (jx_woC (H0 := jMk md M4.2.2) s5 E5 (hq0.kp s24.kp) hW hk hN v1 n1 n2 n3 n4 o1 o2) ?_)
  rintro _ M6 ⟨s6, o6, g6, E6⟩
  unfold jf_X9_withoutEdge_k100_159
  have s26 := s24.tr s6
  refine jX_cx9 hM E6 fun q M7 s7 o7 u7 E7 => ?_
  refine jo_fI (mkg (s7 _ _ (s26 _ _ h1))).2 (by decide) rfl ?_
  refine jX_in9 o7 E7 (fun M8 e8 E8 => jo_ret ?_)
  have o8 : jMk md M8.2.2 q = some (.inr (9, [.int (nI (cP C)), .ref q6, .ref q3, .ref q5])) := by rw [e8, va_up_self]; rfl
  have s8 : jSub (jMk md M6.2.2) (jMk md M8.2.2) := u7 M8 (by rw [o8]; exact e8)
  refine ⟨q, rfl, s26.tr s8, E8.mono (by omega) (by show s + (cE C - 1) + (cF C) + 32 + 21 + 4 ≤ s + 66; omega), q6, q3, q5, o8, d2.kp ((s4.tr s6).tr s8).kp, d4.kp (s6.tr s8).kp, cr, s8 _ _ o6, fun d hd => ?_⟩
  obtain ⟨g, g1, g2⟩ := g6 d hd
  exact ⟨r d, g, n4 d hd, s8 _ _ g1, g2⟩
theorem jx_drop (h : jRX x T (jMk md M.2.2)) (hM : ∀ a, md a = true → a < M0.1) (hE : jExt md c s M0 M) (hW : jWfS T) (hN : 1000 < N) {d k : Int32} : jo (jf_X0_drop N x d k) M (jOX x md (c + 19) (s + 66) M0 (oDrop T d k)) := by
  have hR := h
  have w1 := hW.1
  have hE' := hE.mono (show c ≤ c + 19 by omega) (show s ≤ s + 66 by omega)
  obtain ⟨its, tp, pa, im, tf, pf, mf, h⟩ := h
  have tail : ∀ {C' : CX} {M1 : Mem} {q' : Nat} {d' : Nat} {n : Nat}, jSub (jMk md M.2.2) (jMk md M1.2.2) → jExt md (c + 19) (s + 66) M0 M1 → jCx q' C' (jMk md M1.2.2) → 0 < cP (sC T) → 0 < cP C' → jWf C' → d' < 3 → cMany C' d' = n → jo (jf_X0_drop_j60 N x (nI d') (some x) (some q')) M1 (fun r M' => r = nI n ∧ jRX x (sPush T C') (jMk md M'.2.2) ∧ jExt md (c + 19) (s + 66) M0 M') := by
    intro C' M1 q' d' n s1 E1 hq' hp hp' hWf hd hn
    unfold jf_X0_drop_j60
    refine jo_cl (mkg (s1 _ _ h.ob)).2 (jx_acts E1 (hR.sub s1) hW hN hp hq' hp' (fun M4 h4 E4 k4 => ?_))
    have hR4 := h4
    obtain ⟨its, tp, pa, im, tf, pf, mf, h4⟩ := h4
    obtain ⟨b, rfl, hb⟩ := h4.ge hp'
    obtain ⟨vb, b1⟩ := hb.ob
    refine jo_fR (mkg h4.ob).2 (by decide) rfl (jo_cl (mkg b1).2 (jo_eq (jx_many (hb.kp jMk.sub.kp) hWf hd) (jo_ret ⟨?_, hR4, E4⟩)))
    rw [← hn]; rfl
  unfold jf_X0_drop oDrop
  by_cases c0 : d = 0
  · refine jo_t c0 (jo_ret ⟨?_, ?_, hE'⟩)
    · rw [if_pos (.inl c0)]; rfl
    · rw [if_pos (.inl c0)]; exact hR
  refine jo_f c0 ?_
  refine jo_cl (mkg h.ob).2 (jo_eq (jx_isCell (hR.sub jMk.sub) w1) ?_)
  refine jo_bI (fun c2 => ?_) (fun c2 => ?_)
  · rw [if_pos (.inr c2)]; exact jo_ret ⟨rfl, hR, hE'⟩
  rw [if_neg (show ¬ (d = 0 ∨ ¬ cIsCell (sC T) d k) from fun y => y.elim c0 (fun z => z c2))]
  have hp := cell_pos hW.2.1 c2
  obtain ⟨q, rfl, hq⟩ := h.ge hp
  obtain ⟨d', k', d2, k2, rfl, rfl⟩ := cIsCell_of w1 c2
  have hd : d' = 1 ∨ d' = 2 := by
    have : d' ≠ 0 := fun y => c0 (by rw [y]; rfl)
    omega
  have h6 := Nat.lt_of_lt_of_le k2 (cMany_le w1 d')
  rw [tn_nI (by omega)]
  obtain ⟨vq, b1⟩ := hq.ob
  rcases hd with rfl | rfl
  · have k2 : k' < cE (sC T) := k2
    refine jo_t (show nI 1 = 1 from rfl) (jo_fR (mkg h.ob).2 (by decide) rfl (jo_cl (mkg b1).2 (jo_eq (jx_isUsed (hq.kp jMk.sub.kp) w1 (by omega) (by omega)) ?_)))
    refine jo_bI (c := cSpB (sC T) k' = true) (fun cu => ?_) (fun cu => ?_)
    · have ns : ¬ cSp (sC T) k' := fun x => cu ((cSpB_iff w1).mpr x)
      rw [if_neg (show ¬ (nI 1 = 1 ∧ cSpB (sC T) k' = true) from fun x => cu x.2)]
      have eA : ∀ (A B : Int32 × ST), (if nI 1 = 1 then A else B) = A := fun A B => if_pos rfl
      rw [eA]
      unfold jf_X0_drop_j35
      refine jo_t (show nI 1 = 1 from rfl) (jo_fR (mkg h.ob).2 (by decide) rfl (jo_cl (mkg b1).2 (jo_bd (jo_mono (jx_withoutEdge hM hE hq w1 k2 ns (by omega)) ?_))))
      rintro r M1 ⟨q', rfl, s1, E1, hq'⟩
      exact tail s1 E1 hq' hp hp (jWf_dropE w1 k2 ns) (by decide) rfl
    · rw [if_pos (show nI 1 = 1 ∧ cSpB (sC T) k' = true from ⟨rfl, cu⟩)]
      exact jo_ret ⟨rfl, hR, hE'⟩
  · have k2 : k' < cF (sC T) := k2
    rw [if_neg (show ¬ (nI 2 = 1 ∧ cSpB (sC T) k' = true) from fun x => absurd x.1 (by decide))]
    have eA : ∀ (A B : Int32 × ST), (if nI 2 = 1 then A else B) = B := fun A B => if_neg (by decide)
    rw [eA]
    refine jo_f (show ¬ nI 2 = 1 by decide) ?_
    unfold jf_X0_drop_j35
    refine jo_f (show ¬ nI 2 = 1 by decide) (jo_fR (mkg h.ob).2 (by decide) rfl (jo_cl (mkg b1).2 (jo_bd (jo_mono (jx_withoutFace hM hE hq w1 k2 (by omega)) ?_))))
    rintro r M1 ⟨q', rfl, s1, E1, hq'⟩
    exact tail s1 (E1.mono (by omega) (by omega)) hq' hp hp (jWf_dropF w1 k2) (by decide) rfl
end DR
