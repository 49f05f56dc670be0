/-! PLAIN LAW, 53: the component notes an act -/
section XA
variable {N x : Nat} {md : Nat → Bool} {c s : Nat} {M0 M : Mem} {T : ST} {C' : CX} {q : Nat}
theorem fit9 {H : Mem} {q : Nat} {C : CX} (h : jCx q C H.2.2) : jm_fit [9] none (some q) H = true := by
  obtain ⟨_, _, _, h1, -⟩ := h
  unfold jm_fit
  simp only [h1]
  rfl
theorem jx_act47 (h : jRX x T (jMk md M.2.2)) (hE : jExt md c s M0 M) (hn : sActs T < 8) (hp : 0 < cP (sC T)) (hq : jCx q C' (jMk md M.2.2)) (hp' : 0 < cP C') : jo (jf_X0_act_j47 N x (some q)) M (fun _ M' => jRX x (C', (sActs T + 1, fun i => if i = sActs T then sC T else sPast T i), T.2.2) (jMk md M'.2.2) ∧ jExt md c s M0 M' ∧ jKp (jMk md M.2.2) (jMk md M'.2.2)) := by
  obtain ⟨its, tp, pa, im, tf, pf, mf, h⟩ := h
  obtain ⟨⟨d1, d2, d3⟩, ⟨d4, d5⟩, d6⟩ := h.df
  obtain ⟨b, rfl, hb⟩ := h.ge hp
  unfold jf_X0_act_j47
  refine jo_fR (mkg h.ob).2 (by decide) rfl (jo_fI (mkg h.ob).2 (by decide) rfl ?_)
  refine jX_put h.ob (by decide) (by simp) hE (fun M1 e1 E1 => ?_)
  have o1 : jMk md M1.2.2 x = some (.inr (0, xVals (some b) tp (sTaped T) (sFault T) pa (sActs T + 1) im)) := by
    rw [e1, va_up_self, nI_1]; rfl
  have k1 : jKp (jMk md M.2.2) (jMk md M1.2.2) := by rw [e1]; exact jKp.up h.ob rfl
  have ot1 : ∀ a, a ≠ x → jMk md M1.2.2 a = jMk md M.2.2 a := fun a ha => by rw [e1, va_up_ne _ _ ha]
  refine jo_fR (mkg o1).2 (by decide) rfl ?_
  have p1 : jMk md M1.2.2 pa = some (aR 6 8 pf) := by rw [ot1 _ (Ne.symm d2)]; exact h.past
  refine jX_stR (n := 8) (j := sActs T) p1 rfl hn (by decide) (fit9 ((hb.kp k1).kp jMk.sub.kp)) E1 (fun M2 e2 E2 => ?_)
  have o2 : jMk md M2.2.2 x = some (.inr (0, xVals (some b) tp (sTaped T) (sFault T) pa (sActs T + 1) im)) := by
    rw [e2, va_up_ne _ _ d2]; exact o1
  refine jX_put o2 (by decide) (by simp) E2 (fun M3 e3 E3 => ?_)
  have o3 : jMk md M3.2.2 x = some (.inr (0, xVals (some q) tp (sTaped T) (sFault T) pa (sActs T + 1) im)) := by
    rw [e3, va_up_self]; rfl
  have k3 : jKp (jMk md M.2.2) (jMk md M3.2.2) := by
    rw [e3]
    refine jKp.tr (B := jMk md M2.2.2) (k1.tr ?_) (jKp.up o2 rfl)
    rw [e2]
    exact jKp.up p1 rfl
  have ot : ∀ a, a ≠ x → a ≠ pa → jMk md M3.2.2 a = jMk md M.2.2 a := fun a ha hb => by rw [e3, va_up_ne _ _ ha, e2, va_up_ne _ _ hb, ot1 _ ha]
  refine jo_ret ⟨⟨some q, tp, pa, im, tf, va_up pf (sActs T) (some b), mf, o3, ?_, ?_, ?_, d6, ⟨hp', hq.kp k3⟩, h.bytes, fun i hi => ?_, fun k hk => (h.kept k hk).kp k3⟩, E3, k3⟩
  · rw [ot _ (Ne.symm d1) d4]; exact h.tape
  · rw [e3, va_up_ne _ _ (Ne.symm d2), e2, va_up_self]
  · rw [ot _ (Ne.symm d3) (Ne.symm d6)]; exact h.imgs
  · have hi : i < sActs T + 1 := hi
    show ∃ q, va_up pf (sActs T) (some b) i = some q ∧ jCx q (if i = sActs T then sC T else sPast T i) _
    unfold va_up
    by_cases e : i = sActs T
    · rw [if_pos e, if_pos e]; exact ⟨b, rfl, hb.kp k3⟩
    · rw [if_neg e, if_neg e]
      obtain ⟨r, h1, h2⟩ := h.olds i (by omega)
      exact ⟨r, h1, h2.kp k3⟩
/-- the past, moved by one below i -/
def pShift (pf : Nat → Option Nat) (i : Nat) : Nat → Option Nat := fun j => if j + 1 < i then pf (j + 1) else pf j
theorem pShift_up {pf : Nat → Option Nat} {i : Nat} (hi : 1 ≤ i) : va_up (pShift pf i) (i - 1) (pf i) = pShift pf (i + 1) := by
  funext j
  unfold va_up pShift
  by_cases e : j = i - 1
  · rw [if_pos e, if_pos (by omega), show j + 1 = i by omega]
  · rw [if_neg e]
    by_cases e2 : j + 1 < i
    · rw [if_pos e2, if_pos (by omega)]
    · rw [if_neg e2, if_neg (by omega)]
theorem jRX.cg {T' : ST} {H : HM} (h : jRX x T H) (h1 : T'.1 = T.1) (h2 : sActs T' = sActs T) (h3 : ∀ i, i < sActs T → sPast T' i = sPast T i) (h4 : T'.2.2 = T.2.2) : jRX x T' H := by
  obtain ⟨its, tp, pa, im, tf, pf, mf, h⟩ := h
  have t1 : sC T' = sC T := h1
  have t2 : sTaped T' = sTaped T := by unfold sTaped; rw [h4]
  have t3 : sTape T' = sTape T := by unfold sTape; rw [h4]
  have t4 : sFault T' = sFault T := by unfold sFault; rw [h4]
  have t5 : sImg T' = sImg T := by unfold sImg; rw [h4]
  refine ⟨its, tp, pa, im, tf, pf, mf, ?_, h.tape, h.past, h.imgs, h.ne, ?_, ?_, ?_, ?_⟩
  · rw [t2, t4, h2]; exact h.ob
  · rw [t1]; exact h.cx
  · rw [t2, t3]; exact h.bytes
  · intro i hi
    rw [h2] at hi
    rw [h3 i hi]
    exact h.olds i hi
  · rw [t5]; exact h.kept
theorem jx_act (h : jRX x T (jMk md M.2.2)) (hE : jExt md c s M0 M) (hN : 1000 < N) (hn : sActs T ≤ 8) (hp : 0 < cP (sC T)) (hq : jCx q C' (jMk md M.2.2)) (hp' : 0 < cP C') : jo (jf_X0_act N x (some q)) M (fun _ M' => jRX x (sPush T C') (jMk md M'.2.2) ∧ jExt md c s M0 M' ∧ jKp (jMk md M.2.2) (jMk md M'.2.2)) := by
  have hR := h
  obtain ⟨its, tp, pa, im, tf, pf, mf, h⟩ := h
  obtain ⟨⟨d1, d2, d3⟩, ⟨d4, d5⟩, d6⟩ := h.df
  unfold jf_X0_act
  refine jo_fI (mkg h.ob).2 (by decide) rfl ?_
  by_cases c8 : sActs T = 8
  · refine jo_t (show nI (sActs T) = nI 8 by rw [c8]) ?_
    refine jo_bd (jo_mono (jo_up 8 (fun i z M' => 1 ≤ i ∧ jMk md M'.2.2 = va_up (jMk md M.2.2) pa (some (aR 6 8 (pShift pf i))) ∧ jExt md c s M0 M' ∧ z = nI i) (fun _ M' => jMk md M'.2.2 = va_up (jMk md M.2.2) pa (some (aR 6 8 (pShift pf 8))) ∧ jExt md c s M0 M') ?_ ?_ N 1 _ M ⟨Nat.le_refl _, ?_, hE, rfl⟩ (by omega) (by omega)) ?_)
    · rintro i z M' hi ⟨hi1, e1, E1, rfl⟩
      unfold jf_X0_act_L11
      have o1 : jMk md M'.2.2 x = some (.inr (0, xVals its tp (sTaped T) (sFault T) pa (sActs T) im)) := by
        rw [e1, va_up_ne _ _ d2]; exact h.ob
      have p1 : jMk md M'.2.2 pa = some (aR 6 8 (pShift pf i)) := by rw [e1, va_up_self]
      have k1 : jKp (jMk md M.2.2) (jMk md M'.2.2) := by rw [e1]; exact jKp.up h.past rfl
      obtain ⟨r, r1, r2⟩ := h.olds i (by omega)
      refine jo_f (show ¬ nI 8 ≤ nI i by rw [nI_leI (by decide) (by omega)]; omega) ?_
      refine jo_fR (mkg o1).2 (by decide) rfl (jo_fR (mkg o1).2 (by decide) rfl (jo_ldR (mkg p1).2 rfl hi (by decide) ?_))
      rw [show pShift pf i i = some r by unfold pShift; rw [if_neg (by omega), r1]]
      refine jX_stR (n := 8) (j := i - 1) p1 (nI_sub (b := 1) hi1) (by omega) (by decide) (fit9 ((r2.kp k1).kp jMk.sub.kp)) E1 (fun M2 e2 E2 => jo_ret ⟨by omega, ?_, E2, nI_1 i⟩)
      rw [e2, e1, va_up2, ← r1, pShift_up hi1]
    · rintro z M' ⟨hi1, e1, E1, rfl⟩
      unfold jf_X0_act_L11
      exact jo_t (show nI 8 ≤ nI 8 by decide) (jo_ret ⟨e1, E1⟩)
    · funext a
      unfold va_up
      by_cases e : a = pa
      · rw [if_pos e, e, h.past]
        congr 3
      · rw [if_neg e]
    · rintro _ M1 ⟨e1, E1⟩
      unfold jf_X0_act_k11_37
      have o1 : jMk md M1.2.2 x = some (.inr (0, xVals its tp (sTaped T) (sFault T) pa (sActs T) im)) := by
        rw [e1, va_up_ne _ _ d2]; exact h.ob
      have p1 : jMk md M1.2.2 pa = some (aR 6 8 (pShift pf 8)) := by rw [e1, va_up_self]
      have k1 : jKp (jMk md M.2.2) (jMk md M1.2.2) := by rw [e1]; exact jKp.up h.past rfl
      refine jo_fI (mkg o1).2 (by decide) rfl ?_
      refine jX_put o1 (by decide) (by simp) E1 (fun M2 e2 E2 => ?_)
      have k2 : jKp (jMk md M.2.2) (jMk md M2.2.2) := by rw [e2]; exact k1.tr (jKp.up o1 rfl)
      have ot : ∀ a, a ≠ x → a ≠ pa → jMk md M2.2.2 a = jMk md M.2.2 a := fun a ha hb => by rw [e2, va_up_ne _ _ ha, e1, va_up_ne _ _ hb]
      have hR2 : jRX x (T.1, (7, fun i => sPast T (i + 1)), T.2.2) (jMk md M2.2.2) := by
        refine ⟨its, tp, pa, im, tf, pShift pf 8, mf, ?_, ?_, ?_, ?_, d6, h.cx.kp k2, h.bytes, fun i hi => ?_, fun k hk => (h.kept k hk).kp k2⟩
        · rw [e2, va_up_self, c8, show (nI 8 - 1 : Int32) = nI 7 from nI_sub (b := 1) (by decide)]; rfl
        · rw [ot _ (Ne.symm d1) d4]; exact h.tape
        · rw [e2, va_up_ne _ _ (Ne.symm d2)]; exact p1
        · rw [ot _ (Ne.symm d3) (Ne.symm d6)]; exact h.imgs
        · have hi : i < 7 := hi
          obtain ⟨r, r1, r2⟩ := h.olds (i + 1) (by omega)
          refine ⟨r, ?_, r2.kp k2⟩
          unfold pShift
          rw [if_pos (by omega), r1]
      refine jo_mono (jx_act47 hR2 E2 (show (7 : Nat) < 8 by decide) hp (hq.kp k2) hp') (fun _ M' hr => ⟨hr.1.cg rfl ?_ (fun i hi => ?_) rfl, hr.2.1, k2.tr hr.2.2⟩)
      · show (sPush T C').2.1.1 = _
        unfold sPush
        rw [if_pos c8]; rfl
      · have hi : i < 8 := hi
        show (sPush T C').2.1.2 i = if i = 7 then sC T else sPast T (i + 1)
        unfold sPush
        rw [if_pos c8]
        show (if i < 7 then sPast T (i + 1) else sC T) = _
        by_cases e : i = 7
        · rw [if_neg (by omega), if_pos e]
        · rw [if_pos (by omega), if_neg e]
  · refine jo_f (show ¬ nI (sActs T) = nI 8 by rw [nI_eq (by omega) (by omega)]; exact c8) ?_
    refine jo_mono (jx_act47 hR hE (by omega) hp hq hp') (fun _ M' hr => ⟨?_, hr.2⟩)
    unfold sPush
    rw [if_neg c8]
    exact hr.1
end XA
