/-! PLAIN LAW, 56: a complex with another face, chain -/
section WI
variable {β : Type} {Q : β → Mem → Prop} {md : Nat → Bool} {N c s : Nat} {M0 M : Mem} {q : Nat} {C C' : CX}
theorem jx_withFace (hM : ∀ a, md a = true → a < M0.1) (hE : jExt md c s M0 M) {a f b w l : Nat} {L : Nat → Int} (h : jCx a C (jMk md M.2.2)) (hW : jWf C) (he : f ≤ cF C) (he6 : f < 4) (hb : jFa b w l L (jMk md M.2.2)) (x1 : cP C' = cP C) (x2 : cF C' = if f < cF C then cF C else f + 1) (x3 : cE C' = cE C ∧ cEd C' = cEd C ∧ cCh C' = cCh C) (x4 : cFw C' f = w ∧ cFl C' f = l ∧ cLt C' f = L ∧ ∀ i, i < cF C' → i ≠ f → cFw C' i = cFw C i ∧ cFl C' i = cFl C i ∧ cLt C' i = cLt C i) : jo (jf_X9_withFace N a (nI f) (some b)) M (jNew md (c + 2) (s + 8) M0 M (fun q H => jCx q C' H)) := by
  obtain ⟨eA, fA, cA, h1, h4, ⟨er, h2, h3⟩, h5⟩ := h
  have w6 := hW.2.2.1
  have hn : cF C' ≤ 4 := by rw [x2]; split <;> omega
  have hn2 : cF C ≤ cF C' ∧ f < cF C' := by rw [x2]; split <;> omega
  unfold jf_X9_withFace
  refine jo_fR (mkg h1).2 (by decide) rfl (jo_len (mkg h2).2 rfl (jo_lt ?_))
  rw [show (if nI f + 1 < nI (cF C) then nI (cF C) else nI f + 1) = nI (cF C') by
    rw [nI_1, x2]
    by_cases g : f + 1 < cF C
    · rw [if_pos ((nI_ltI (by omega) (by omega)).mpr g), if_pos (by omega)]
    · rw [if_neg (fun y => g ((nI_ltI (by omega) (by omega)).mp y))]
      by_cases g2 : f < cF C
      · rw [if_pos g2, show f + 1 = cF C by omega]
      · rw [if_neg g2]]
  refine jo_ck (ckL (by omega)) ?_
  rw [nI_tc (by omega)]
  refine jX_al (hE.md hM) hE fun q7 M1 hq m1 e1 E1 => ?_
  have s1 : jSub (jMk md M.2.2) (jMk md M1.2.2) := by rw [e1]; exact jSub.new hq
  refine jo_fR (mkg (s1 _ _ h1)).2 (by decide) rfl (jo_fR (mkg (s1 _ _ h1)).2 (by decide) rfl (jo_len (mkg (s1 _ _ h2)).2 rfl ?_))
  refine jX_cpR (n0 := cF C) (n1 := cF C') (f := er) (g := fun _ => none) (s1 _ _ h2) (by rw [e1, va_up_self]) (Nat.le_refl _) hn2.1 (by omega) (fun i hi => ?_) E1 (fun M2 e2 E2 => ?_)
  · obtain ⟨z, z1, z2⟩ := h3 i hi
    rw [z1]
    exact fit78 ((z2.kp s1.kp).kp jMk.sub.kp)
  have s2 : jSub (jMk md M.2.2) (jMk md M2.2.2) := by rw [e2, e1, va_up2]; exact jSub.new hq
  refine jX_stR (n := cF C') (j := f) (f := va_cpy er (fun _ => none) 0 0 (cF C)) (by rw [e2, va_up_self]) rfl hn2.2 (by omega) (fit78 ((hb.kp s2.kp).kp jMk.sub.kp)) E2 (fun M3 e3 E3 => ?_)
  have s3 : jSub (jMk md M.2.2) (jMk md M3.2.2) := by rw [e3, e2, e1, va_up2, va_up2]; exact jSub.new hq
  refine jX_cx9 hM E3 fun q M4 s4 o4 u4 E4 => ?_
  refine jo_fI (mkg (s4 _ _ (s3 _ _ h1))).2 (by decide) rfl (jo_fR (mkg (s4 _ _ (s3 _ _ h1))).2 (by decide) rfl (jo_fR (mkg (s4 _ _ (s3 _ _ h1))).2 (by decide) rfl ?_))
  refine jX_in9 o4 E4 (fun M5 e5 E5 => jo_ret ?_)
  have o5 : jMk md M5.2.2 q = some (.inr (9, [.int (nI (cP C)), .ref eA, .ref q7, .ref cA])) := by rw [e5, va_up_self]; rfl
  have s5 : jSub (jMk md M3.2.2) (jMk md M5.2.2) := u4 M5 (by rw [o5]; exact e5)
  have s6 := s3.tr s5
  refine ⟨q, rfl, s6, E5.mono (by omega) (by show s + cF C' + 4 ≤ s + 8; omega), eA, q7, cA, by rw [x1]; exact o5, ?_, ⟨va_up (va_cpy er (fun _ => none) 0 0 (cF C)) f (some b), s5 _ _ (by rw [e3, va_up_self]), fun i hi => ?_⟩, ?_⟩
  · rw [x3.1, x3.2.1]
    exact h4.kp s6.kp
  · by_cases ei : i = f
    · subst ei
      refine ⟨b, va_up_self _ _ _, ?_⟩
      rw [x4.1, x4.2.1, x4.2.2.1]
      exact hb.kp s6.kp
    · have hi2 : i < cF C := by rw [x2] at hi; split at hi <;> omega
      obtain ⟨z, z1, z2⟩ := h3 i hi2
      refine ⟨z, ?_, ?_⟩
      · rw [va_up_ne _ _ ei]
        unfold va_cpy
        rw [if_pos (by omega), Nat.sub_zero, Nat.zero_add, z1]
      · have := x4.2.2.2 i hi ei
        rw [this.1, this.2.1, this.2.2]
        exact z2.kp s6.kp
  · rw [x3.1, x3.2.2]
    exact h5.kp s6.kp
theorem jx_withChain (hM : ∀ a, md a = true → a < M0.1) (hE : jExt md c s M0 M) {a ci b : Nat} {g : Nat → Int32} (h : jCx a C (jMk md M.2.2)) (hc : ci < 3) (hb : jMk md M.2.2 b = some (aI 0 6 g)) (x1 : cP C' = cP C ∧ cE C' = cE C ∧ cF C' = cF C ∧ cEd C' = cEd C ∧ cFw C' = cFw C ∧ cFl C' = cFl C ∧ cLt C' = cLt C) (x4 : ∀ i, i < 6 → g i = iI (if i < cE C then cCh C' ci i else 0)) (x5 : ∀ k i, k < 3 → k ≠ ci → i < cE C → cCh C' k i = cCh C k i) : jo (jf_X9_withChain N a (nI ci) (some b)) M (jNew md (c + 2) (s + 7) M0 M (fun q H => jCx q C' H)) := by
  obtain ⟨eA, fA, cA, h1, h2, h4, ⟨cr, k1, k2⟩⟩ := h
  unfold jf_X9_withChain
  refine jo_fR (mkg h1).2 (by decide) rfl (jo_rd (x := (3, cr)) (by unfold jm_arR jm_ar; simp only [(mkg k1).2, if_true]) ?_)
  refine jX_al (hE.md hM) hE fun q7 M1 hq m1 e1 E1 => ?_
  have s1 : jSub (jMk md M.2.2) (jMk md M1.2.2) := by rw [e1]; exact jSub.new hq
  have o1 : jMk md M1.2.2 q7 = some (aR 12 3 cr) := by rw [e1, va_up_self]
  refine jo_rd (x := (3, .inr (.inr (.inr (.inr cr))))) (by unfold jm_ar; simp only [(mkg o1).2, if_true]) (jo_ck (by simp) ?_)
  refine jX_stR (n := 3) (j := ci) (f := cr) o1 rfl hc (by decide) ?_ E1 (fun M3 e3 E3 => ?_)
  · unfold jm_fit
    simp only [(mkg (s1 _ _ hb)).2]
    rfl
  have s3 : jSub (jMk md M.2.2) (jMk md M3.2.2) := by rw [e3, e1, va_up2]; exact jSub.new hq
  refine jX_cx9 hM E3 fun q M4 s4 o4 u4 E4 => ?_
  refine jo_fI (mkg (s4 _ _ (s3 _ _ h1))).2 (by decide) rfl (jo_fR (mkg (s4 _ _ (s3 _ _ h1))).2 (by decide) rfl (jo_fR (mkg (s4 _ _ (s3 _ _ h1))).2 (by decide) rfl ?_))
  refine jX_in9 o4 E4 (fun M5 e5 E5 => jo_ret ?_)
  have o5 : jMk md M5.2.2 q = some (.inr (9, [.int (nI (cP C)), .ref eA, .ref fA, .ref q7])) := by rw [e5, va_up_self]; rfl
  have s5 : jSub (jMk md M3.2.2) (jMk md M5.2.2) := u4 M5 (by rw [o5]; exact e5)
  have s6 := s3.tr s5
  obtain ⟨y1, y2, y3, y4, y5, y6, y7⟩ := x1
  refine ⟨q, rfl, s6, E5.mono (by omega) (by show s + 3 + 4 ≤ s + 7; omega), eA, fA, q7, by rw [y1]; exact o5, ?_, ?_, ⟨va_up cr ci (some b), s5 _ _ (by rw [e3, va_up_self]), fun k hk => ?_⟩⟩
  · rw [y2, y4]; exact h2.kp s6.kp
  · rw [y3, y5, y6, y7]; exact h4.kp s6.kp
  · by_cases ek : k = ci
    · subst ek
      refine ⟨b, g, va_up_self _ _ _, s6 _ _ hb, fun i hi => ?_⟩
      rw [y2]; exact x4 i hi
    · obtain ⟨z, g', z1, z2, z3⟩ := k2 k hk
      refine ⟨z, g', by rw [va_up_ne _ _ ek]; exact z1, s6 _ _ z2, fun i hi => ?_⟩
      rw [z3 i hi, y2]
      by_cases ie : i < cE C
      · rw [if_pos ie, if_pos ie, x5 k i hk ek ie]
      · rw [if_neg ie, if_neg ie]
end WI
