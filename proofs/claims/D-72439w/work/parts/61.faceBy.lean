/-! PLAIN LAW, 61: a face is made; a face without an edge -/
section FB
variable {β : Type} {Q : β → Mem → Prop} {md : Nat → Bool} {N c s : Nat} {M0 M : Mem} {C : CX}
theorem jx_often_raw {a wa cl l : Nat} {L : Nat → Int} {g : Nat → Int32} {y : Value} (hcl : cl ∈ [7, 8]) (h1 : M.2.2 a = some (.inr (cl, [.ref wa, y]))) (h2 : M.2.2 wa = some (aI 0 l g)) (h3 : ∀ k, k < l → g k = iI (lDec (L k))) (hl : wRg l L) (hN : 100 < N) {e : Nat} (he : e < 100) : (jf_D_X7_often N (some a) (nI e)).1 M = some (iI (wTwo l L e), M) := by
  have key : (jf_X7_often N a (nI e)).1 M = some (iI (wTwo l L e), M) := by
    refine jo_out ?_
    unfold jf_X7_often jf_X7_often_k14_59
    refine jo_fR h1 hcl rfl (jo_len h2 rfl ?_)
    refine jo_eq (jl_sum (n := l) (fun k => lSg (L k) e) ?_ ?_ (by have := hl.1; omega)) (jo_ret ⟨rfl, rfl⟩)
    · intro k z hk
      have hL := hl.2 k hk
      have hs := lDec_sg hL.1 e
      have hr := lDec_rg hL.2.1 hL.2.2
      have hg := lSg_le (L k) e
      have hl4 := hl.1
      refine jo_out ?_
      unfold jf_X7_often_L14 jf_X7_often_j51
      refine jo_f (show ¬ nI l ≤ nI k by rw [nI_leI (by omega) (by omega)]; omega) ?_
      refine jo_ldI h2 rfl hk (by omega) ?_
      rw [h3 k hk]
      by_cases c1 : lDec (L k) = (e : Int)
      · refine jo_t (show iI _ = nI e by rw [nI_iI, c1]) (jo_ret ⟨?_, rfl⟩)
        show Sum.inl (iI z + iI 1, nI k + 1) = _
        rw [iI_add, nI_1, hs.1.mp c1]
      · refine jo_f (show ¬ iI _ = nI e by rw [nI_iI, iI_eqI (by omega) (by omega)]; exact c1) ?_
        have em : (-1 : Int32) - nI e = iI (-1 - (e : Int)) := by rw [nI_iI, show (-1 : Int32) = iI (-1) from rfl, iI_sub]
        rw [em]
        by_cases c2 : lDec (L k) = -1 - (e : Int)
        · refine jo_t (by rw [c2]) (jo_ret ⟨?_, rfl⟩)
          show Sum.inl (iI z + iI (-1), nI k + 1) = _
          rw [iI_add, nI_1, hs.2.mp c2]
        · refine jo_f (by rw [iI_eqI (by omega) (by omega)]; exact c2) (jo_ret ⟨?_, rfl⟩)
          have : lSg (L k) e = 0 := by
            have n1 : lSg (L k) e ≠ 1 := fun x => c1 (hs.1.mpr x)
            have n2 : lSg (L k) e ≠ -1 := fun x => c2 (hs.2.mpr x)
            omega
          show Sum.inl (iI z + iI 0, nI k + 1) = _
          rw [iI_add, nI_1, this]
    · intro z
      have hl4 := hl.1
      refine jo_out ?_
      unfold jf_X7_often_L14
      exact jo_t (show nI l ≤ nI l by rw [nI_leI (by omega) (by omega)]; omega) (jo_ret ⟨rfl, rfl⟩)
  refine jo_out ?_
  unfold jf_D_X7_often
  refine jo_rd (x := (a, cl)) (by unfold jm_kl; simp only [h1]) ?_
  have hcl : cl = 7 ∨ cl = 8 := by simpa using hcl
  rcases hcl with rfl | rfl
  · exact jo_t rfl (jo_of key ⟨rfl, rfl⟩)
  · exact jo_f (show ¬ (8 : Nat) = 7 by decide) (jo_t rfl (jo_of key ⟨rfl, rfl⟩))
theorem wTwo_rg {l : Nat} {L : Nat → Int} (hl : wRg l L) (e : Nat) : -4 ≤ wTwo l L e ∧ wTwo l L e ≤ 4 := by
  have h := jsum_le (n := l) (f := fun k => lSg (L k) e) (a := 1) (fun k _ => lSg_le (L k) e)
  have := hl.1
  unfold wTwo
  omega
theorem jx_faceBy (hM : ∀ a, md a = true → a < M0.1) (hE : jExt md c s M0 M) {wa w l : Nat} {L : Nat → Int} {g : Nat → Int32} (h2 : jMk md M.2.2 wa = some (aI 0 l g)) (h3 : ∀ k, k < l → g k = iI (lDec (L k))) (hl : wRg l L) (hN : 100 < N) : jo (jf_X0_faceBy N (some wa) (nI w)) M (jNew md (c + 2) (s + 4) M0 M (fun q H => jFa q w l L H)) := by
  unfold jf_X0_faceBy
  refine jX_al (hE.md hM) hE fun q M1 hq _ e1 E1 => ?_
  refine jX_in7 (by rw [e1, va_up_self]) (by decide) E1 (fun M2 e2 E2 => ?_)
  have s2 : jSub (jMk md M.2.2) (jMk md M2.2.2) := by rw [e2, e1, va_up2]; exact jSub.new hq
  have o2 : jMk md M2.2.2 q = some (.inr (7, [.ref wa, .int (nI w)])) := by rw [e2, va_up_self]; rfl
  have hw2 := s2 _ _ h2
  refine jo_bd (jo_mono (jo_up 6 (fun i z M' => M' = M2 ∧ z = (bI (jall i (fun e => decide (wTwo l L e = 0)) = true), nI i)) (fun r M' => M' = M2 ∧ r = bI (wSl l L = true)) ?_ ?_ N 0 _ M2 ⟨rfl, rfl⟩ (by omega) (by omega)) ?_)
  · rintro i z M' hi ⟨rfl, rfl⟩
    unfold jf_X0_faceBy_L15 jf_X0_faceBy_j37
    refine jo_f (show ¬ nI 6 ≤ nI i by rw [nI_leI (by omega) (by omega)]; omega) ?_
    refine jo_eq (jx_often_raw (by decide) (mkg o2).2 (mkg hw2).2 h3 hl hN (by omega)) ?_
    have hr := wTwo_rg hl i
    have hs : jall (i + 1) (fun e => decide (wTwo l L e = 0)) = (jall i (fun e => decide (wTwo l L e = 0)) && decide (wTwo l L i = 0)) := rfl
    by_cases z0 : wTwo l L i = 0
    · refine jo_t (show iI _ = iI 0 by rw [z0]) (jo_ret ⟨rfl, ?_⟩)
      show (_ &&& 1, nI i + 1) = _
      rw [nI_1, hs, decide_eq_true z0, Bool.and_true]
      refine Prod.ext ?_ rfl
      dsimp only
      cases jall i (fun e => decide (wTwo l L e = 0)) <;> decide +kernel
    · refine jo_f (show ¬ iI _ = iI 0 by rw [iI_eqI (by omega) (by omega)]; exact z0) (jo_ret ⟨rfl, ?_⟩)
      show (_ &&& 0, nI i + 1) = _
      rw [nI_1, hs, decide_eq_false z0, Bool.and_false]
      refine Prod.ext ?_ rfl
      dsimp only
      cases jall i (fun e => decide (wTwo l L e = 0)) <;> decide +kernel
  · rintro z M' ⟨rfl, rfl⟩
    unfold jf_X0_faceBy_L15
    exact jo_t (show nI 6 ≤ nI 6 by decide) (jo_ret ⟨rfl, rfl⟩)
  · rintro r M' ⟨rfl, rfl⟩
    unfold jf_X0_faceBy_k15_45
    refine jo_bI (fun cs => ?_) (fun cs => ?_)
    · refine jo_ret ⟨q, rfl, s2, E2.mono (by omega) (by show s + 2 ≤ s + 4; omega), wa, g, ?_, hw2, h3⟩
      rw [o2]
      unfold jFaO
      rw [if_neg cs]
    · refine jX_al (E2.md hM) E2 fun q8 M3 hq8 _ e3 E3 => jo_bd ?_
      unfold jf_X8_init
      refine jX_in7 (by rw [e3, va_up_self]) (by decide) E3 (fun M4 e4 E4 => jo_ret (jo_ret ?_))
      have s4 : jSub (jMk md M'.2.2) (jMk md M4.2.2) := by rw [e4, e3, va_up2]; exact jSub.new hq8
      refine ⟨q8, rfl, s2.tr s4, E4.mono (by omega) (by show s + 2 + 2 ≤ s + 4; omega), wa, g, ?_, s4 _ _ hw2, h3⟩
      rw [e4, va_up_self]
      unfold jFaO
      rw [if_pos cs]; rfl
/-- a letter of the component when edge k is taken out -/
theorem lDec_dn {k : Nat} {L : Int} (h0 : L ≠ 0) (hk : k < 6) (h1 : lEd L ≠ k) : lDec (lDn k L) = (if (k : Int) < lDec L then lDec L - 1 else if lDec L < -1 - (k : Int) then lDec L + 1 else lDec L) ∧ lDn k L ≠ 0 ∧ (-6 ≤ L ∧ L ≤ 6 → -6 ≤ lDn k L ∧ lDn k L ≤ 6) := by
  unfold lEd at h1
  unfold lDn lDec lEd
  by_cases n : L < 0 <;> simp only [n, if_true, if_false] at h1 ⊢ <;> (repeat' split) <;> omega
end FB
