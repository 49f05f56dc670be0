/-! PLAIN LAW, 62: a face without an edge: component -/
section WO
variable {md : Nat → Bool} {N c s : Nat} {M0 M : Mem} {C : CX}
theorem jx_without (hM : ∀ a, md a = true → a < M0.1) (hE : jExt md c s M0 M) {a w l k : Nat} {L : Nat → Int} (h : jFa a w l L (jMk md M.2.2)) (hl : wRg l L) (hk : k < 6) (hnk : ∀ j, j < l → lEd (L j) ≠ k) (hN : 100 < N) : jo (jf_D_X7_without N (some a) (nI k)) M (jNew md (c + 3) (s + 8) M0 M (fun q H => jFa q w l (fun j => lDn k (L j)) H)) := by
  obtain ⟨wa, g, h1, h2, h3⟩ := h
  have hl4 := hl.1
  have hl' : wRg l (fun j => lDn k (L j)) := ⟨hl4, fun j hj => by
    have a1 := lDec_dn (hl.2 j hj).1 hk (hnk j hj)
    exact ⟨a1.2.1, a1.2.2 (hl.2 j hj).2⟩⟩
  have key : jo (jf_X7_without N a (nI k)) M (jNew md (c + 3) (s + 8) M0 M (fun q H => jFa q w l (fun j => lDn k (L j)) H)) := by
    unfold jf_X7_without
    refine jo_fR (mkg h1).2 (mem_78 _) rfl (jo_rd (x := (l, g)) (by unfold jm_arI jm_ar; simp only [(mkg h2).2, if_true]) ?_)
    refine jX_al (hE.md hM) hE fun q M1 hq _ e1 E1 => ?_
    have o1 : jMk md M1.2.2 q = some (aI 0 l g) := by rw [e1, va_up_self]
    refine jo_rd (x := (l, .inl g)) (by unfold jm_ar; simp only [(mkg o1).2, if_true]) ?_
    have em : (-1 : Int32) - nI k = iI (-1 - (k : Int)) := by rw [nI_iI, show (-1 : Int32) = iI (-1) from rfl, iI_sub]
    refine jo_bd (jo_mono (jo_up l (fun i z M' => z = nI i ∧ jExt md (c + 1) (s + l) M0 M' ∧ ∃ g', jMk md M'.2.2 = va_up (jMk md M.2.2) q (some (aI 0 l g')) ∧ ∀ j, j < l → g' j = if j < i then iI (lDec (lDn k (L j))) else iI (lDec (L j))) (fun _ M' => jExt md (c + 1) (s + l) M0 M' ∧ ∃ g', jMk md M'.2.2 = va_up (jMk md M.2.2) q (some (aI 0 l g')) ∧ ∀ j, j < l → g' j = iI (lDec (lDn k (L j)))) ?_ ?_ N 0 _ M1 ⟨rfl, E1, g, e1, fun j hj => by rw [if_neg (by omega)]; exact h3 j hj⟩ (by omega) (by omega)) ?_)
    · rintro i z M' hi ⟨rfl, EE, g', ee, hg⟩
      have og : jMk md M'.2.2 q = some (aI 0 l g') := by rw [ee, va_up_self]
      have hL := hl.2 i hi
      have dn := lDec_dn hL.1 hk (hnk i hi)
      have dr := lDec_rg hL.2.1 hL.2.2
      have gi : g' i = iI (lDec (L i)) := by rw [hg i hi, if_neg (by omega)]
      unfold jf_X7_without_L13
      refine jo_len (mkg og).2 rfl (jo_f (show ¬ nI l ≤ nI i by rw [nI_leI (by omega) (by omega)]; omega) (jo_ldI (mkg og).2 rfl hi (by omega) ?_))
      rw [gi]
      by_cases c1 : lDec (L i) ≤ (k : Int)
      · refine jo_t (by rw [nI_iI, iI_leI (by omega) (by omega)]; exact c1) ?_
        unfold jf_X7_without_j33 jf_X7_without_j49
        refine jo_ldI (mkg og).2 rfl hi (by omega) ?_
        rw [gi, em]
        by_cases c2 : -1 - (k : Int) ≤ lDec (L i)
        · refine jo_t (by rw [iI_leI (by omega) (by omega)]; exact c2) (jo_ret ⟨nI_1 i, EE, g', ee, fun j hj => ?_⟩)
          rw [hg j hj]
          by_cases ji : j = i
          · rw [ji, if_neg (by omega), if_pos (by omega), dn.1, if_neg (by omega), if_neg (by omega)]
          · by_cases j2 : j < i
            · rw [if_pos j2, if_pos (by omega)]
            · rw [if_neg j2, if_neg (by omega)]
        · refine jo_f (by rw [iI_leI (by omega) (by omega)]; exact c2) (jo_ldI (mkg og).2 rfl hi (by omega) ?_)
          refine jX_stI og rfl hi (by omega) EE (fun M2 e2 E2 => jo_ret ⟨nI_1 i, E2, upd g' i (g' i + 1), by rw [e2, ee, va_up2], fun j hj => ?_⟩)
          show (if j = i then _ else _) = _
          by_cases ji : j = i
          · rw [if_pos ji, ji, if_pos (by omega), gi, dn.1, if_neg (by omega), if_pos (by omega), show (1 : Int32) = iI 1 from rfl, iI_add]
          · rw [if_neg ji, hg j hj]
            by_cases j2 : j < i
            · rw [if_pos j2, if_pos (by omega)]
            · rw [if_neg j2, if_neg (by omega)]
      · refine jo_f (by rw [nI_iI, iI_leI (by omega) (by omega)]; exact c1) (jo_ldI (mkg og).2 rfl hi (by omega) ?_)
        refine jX_stI og rfl hi (by omega) EE (fun M2 e2 E2 => ?_)
        have o2 : jMk md M2.2.2 q = some (aI 0 l (upd g' i (g' i - 1))) := by rw [e2, va_up_self]
        unfold jf_X7_without_j33 jf_X7_without_j49
        refine jo_ldI (mkg o2).2 rfl hi (by omega) ?_
        rw [upd_self, gi, em, show (1 : Int32) = iI 1 from rfl, iI_sub]
        refine jo_t (by rw [iI_leI (by omega) (by omega)]; omega) (jo_ret ⟨nI_1 i, E2, upd g' i (g' i - 1), by rw [e2, ee, va_up2], fun j hj => ?_⟩)
        show (if j = i then _ else _) = _
        by_cases ji : j = i
        · rw [if_pos ji, ji, if_pos (by omega), gi, dn.1, if_pos (by omega), show (1 : Int32) = iI 1 from rfl, iI_sub]
        · rw [if_neg ji, hg j hj]
          by_cases j2 : j < i
          · rw [if_pos j2, if_pos (by omega)]
          · rw [if_neg j2, if_neg (by omega)]
    · rintro z M' ⟨rfl, EE, g', ee, hg⟩
      have og : jMk md M'.2.2 q = some (aI 0 l g') := by rw [ee, va_up_self]
      unfold jf_X7_without_L13
      refine jo_len (mkg og).2 rfl (jo_t (show nI l ≤ nI l by rw [nI_leI (by omega) (by omega)]; omega) (jo_ret ⟨EE, g', ee, fun j hj => by rw [hg j hj, if_pos hj]⟩))
    · rintro _ M2 ⟨EE, g', ee, hg⟩
      have s2 : jSub (jMk md M.2.2) (jMk md M2.2.2) := by rw [ee]; exact jSub.new hq
      have o2 : jMk md M2.2.2 q = some (aI 0 l g') := by rw [ee, va_up_self]
      unfold jf_X7_without_k13_55
      refine jo_fI (mkg (s2 _ _ h1)).2 (mem_78 _) rfl (jo_bd (jo_mono (jx_faceBy hM EE o2 hg hl' hN) ?_))
      rintro r M3 ⟨b, rfl, s3, E3, hb⟩
      exact jo_ret ⟨b, rfl, s2.tr s3, E3.mono (by omega) (by omega), hb⟩
  unfold jf_D_X7_without
  cases hs : wSl l L with
  | true =>
    have h : jMk md M.2.2 a = some (.inr (8, [.ref wa, .int (nI w)])) := by rw [h1, hs]; rfl
    exact jo_rd (x := (a, 8)) (by unfold jm_kl; simp only [(mkg h).2]) (jo_f (show ¬ (8 : Nat) = 7 by decide) (jo_t rfl key))
  | false =>
    have h : jMk md M.2.2 a = some (.inr (7, [.ref wa, .int (nI w)])) := by rw [h1, hs]; rfl
    exact jo_rd (x := (a, 7)) (by unfold jm_kl; simp only [(mkg h).2]) (jo_t rfl key)
end WO
