/-! PLAIN LAW, 67: cell: component -/
section CE
variable {N x : Nat} {M : Mem} {C : CX} {T : ST}
theorem jx_told {a p u w : Nat} {v : Int32} (h : M.2.2 a = some (jEdO p u w)) : (jf_D_X5_told N (some a) v).1 M = some (if v = 0 then nI w else if v = 1 then nI p else if v = 2 then nI u else BAD, M) := by
  have key : (jf_X5_told N a v).1 M = some (if v = 0 then nI w else if v = 1 then nI p else if v = 2 then nI u else BAD, M) := by
    refine jo_out ?_
    unfold jf_X5_told
    by_cases c0 : v = 0
    · exact jo_t c0 (jo_fI h (mem_56 _ _) rfl (jo_ret ⟨(if_pos c0).symm, rfl⟩))
    refine jo_f c0 ?_
    rw [if_neg c0]
    by_cases c1 : v = 1
    · exact jo_t c1 (jo_fI h (mem_56 _ _) rfl (jo_ret ⟨(if_pos c1).symm, rfl⟩))
    refine jo_f c1 ?_
    rw [if_neg c1]
    by_cases c2 : v = 2
    · exact jo_t c2 (jo_fI h (mem_56 _ _) rfl (jo_ret ⟨(if_pos c2).symm, rfl⟩))
    refine jo_f c2 ?_
    rw [if_neg c2]
    exact jo_ret ⟨rfl, rfl⟩
  refine jo_out ?_
  unfold jf_D_X5_told
  by_cases e : p = u
  · have h : M.2.2 a = some (.inr (6, [.int (nI p), .int (nI u), .int (nI w)])) := by rw [h]; unfold jEdO; rw [if_pos e]
    exact jo_rd (x := (a, 6)) (by unfold jm_kl; simp only [h]) (jo_f (show ¬ (6 : Nat) = 5 by decide) (jo_t rfl (jo_of key ⟨rfl, rfl⟩)))
  · have h : M.2.2 a = some (.inr (5, [.int (nI p), .int (nI u), .int (nI w)])) := by rw [h]; unfold jEdO; rw [if_neg e]
    exact jo_rd (x := (a, 5)) (by unfold jm_kl; simp only [h]) (jo_t rfl (jo_of key ⟨rfl, rfl⟩))
theorem jx_letter {a w l j : Nat} {L : Nat → Int} (h : jFa a w l L M.2.2) (hl : wRg l L) (hj : j < 100) : (jf_D_X7_letter N (some a) (nI j)).1 M = some (if j < l then iI (lCode (L j)) else -1000000, M) := by
  obtain ⟨wa, g, h1, h2, h3⟩ := h
  have hl4 := hl.1
  have key : (jf_X7_letter N a (nI j)).1 M = some (if j < l then iI (lCode (L j)) else -1000000, M) := by
    refine jo_out ?_
    unfold jf_X7_letter
    refine jo_fR h1 (mem_78 _) rfl (jo_len h2 rfl ?_)
    by_cases c : j < l
    · refine jo_t (by rw [nI_ltI (by omega) (by omega)]; exact c) (jo_fR h1 (mem_78 _) rfl (jo_ldI h2 rfl c (by omega) ?_))
      have hL := hl.2 j c
      have dr := lDec_rg hL.2.1 hL.2.2
      rw [h3 j c, if_pos c]
      by_cases n : lDec (L j) < 0
      · refine jo_t (show iI _ < iI 0 by rw [iI_ltI (by omega) (by omega)]; exact n) (jo_fR h1 (mem_78 _) rfl (jo_ldI h2 rfl c (by omega) (jo_ret ⟨?_, rfl⟩)))
        rw [h3 j c, show (64 : Int32) = iI 64 from rfl, iI_sub]
        congr 1
        unfold lDec at n ⊢
        unfold lCode
        split at n <;> (repeat' split) <;> omega
      · refine jo_f (show ¬ iI _ < iI 0 by rw [iI_ltI (by omega) (by omega)]; exact n) (jo_fR h1 (mem_78 _) rfl (jo_ldI h2 rfl c (by omega) (jo_ret ⟨?_, rfl⟩)))
        rw [h3 j c, show (97 : Int32) = iI 97 from rfl, iI_add]
        congr 1
        unfold lDec at n ⊢
        unfold lCode
        split at n <;> (repeat' split) <;> omega
    · rw [if_neg c]
      exact jo_f (by rw [nI_ltI (by omega) (by omega)]; exact c) (jo_ret ⟨rfl, rfl⟩)
  refine jo_out ?_
  unfold jf_D_X7_letter
  cases hs : wSl l L with
  | true =>
    rw [hs] at h1
    exact jo_rd (x := (a, 8)) (by unfold jm_kl; simp only [h1]; rfl) (jo_f (show ¬ (8 : Nat) = 7 by decide) (jo_t rfl (jo_of key ⟨rfl, rfl⟩)))
  | false =>
    rw [hs] at h1
    exact jo_rd (x := (a, 7)) (by unfold jm_kl; simp only [h1]; rfl) (jo_t rfl (jo_of key ⟨rfl, rfl⟩))
theorem jx_cell (h : jRX x T M.2.2) (hW : jWf (sC T)) (hz : cP (sC T) = 0 → cE (sC T) = 0 ∧ cF (sC T) = 0) {d k w : Int32} : (jf_X0_cell N x d k w).1 M = some (aCell (sC T) d k w, M) := by
  have hR := h
  obtain ⟨its, tp, pa, im, tf, pf, mf, h⟩ := h
  have h6 := hW.2.1
  refine jo_out ?_
  unfold jf_X0_cell aCell
  by_cases c0 : d = 0
  · exact jo_t c0 (jo_ret ⟨(if_pos (.inl c0)).symm, rfl⟩)
  refine jo_f c0 (jo_cl h.ob (jo_eq (jx_isCell hR hW) ?_))
  refine jo_bI (fun c1 => jo_ret ⟨(if_pos (.inr c1)).symm, rfl⟩) (fun c1 => ?_)
  rw [if_neg (show ¬ (d = 0 ∨ ¬ cIsCell (sC T) d k) from fun x => x.elim c0 (fun y => y c1))]
  have hp := cell_pos hz c1
  obtain ⟨q, rfl, hq⟩ := h.ge hp
  obtain ⟨d', k', h1, h2, rfl, rfl⟩ := cIsCell_of hW c1
  have hm := cMany_le hW d'
  rw [tn_nI (by omega), tn_nI (by omega)]
  have hd : d' = 1 ∨ d' = 2 := by
    rcases (show d' = 0 ∨ d' = 1 ∨ d' = 2 by omega) with rfl | hd
    · exact absurd rfl c0
    · exact hd
  rcases hd with rfl | rfl
  · have h2 : k' < cE (sC T) := h2
    refine jo_t (show nI 1 = 1 from rfl) (jo_fR h.ob (by decide) rfl (jx_ed hq hW h2 fun a ha => jo_eq (jx_told ha) (jo_ret ⟨?_, rfl⟩)))
    rw [if_pos (show nI 1 = 1 from rfl)]
    rfl
  · have h2 : k' < cF (sC T) := h2
    have hf := hW.2.2.2.2.1 k' h2
    have hl := wRg_of hW h2
    have ne : ¬ nI 2 = 1 := by decide +kernel
    refine jo_f ne (jo_fR h.ob (by decide) rfl (jx_fc hq hW h2 fun a ha => jo_cl h.ob ?_))
    have ha0 := ha
    obtain ⟨wa, g, a1, a2, a3⟩ := ha
    rw [if_neg ne]
    have key : jo (jf_X0_ofFace N x (some a) w) M (fun r M' => r = (if w = 0 then nI (cWt (sC T) 2 k') else if w = 1 then nI (cFl (sC T) k') else if w = 2 then nI (cEd (sC T) (lEd (cLt (sC T) k' 0)) (if cLt (sC T) k' 0 < 0 then 1 else 0)) else if 10 ≤ w.toInt ∧ w.toInt ≤ 13 then (if (tn w - 10) < cFl (sC T) k' then iI (lCode (cLt (sC T) k' (tn w - 10))) else -1000000) else BAD) ∧ M' = M) := by
      unfold jf_X0_ofFace
      by_cases w0 : w = 0
      · exact jo_t w0 (jo_fI a1 (mem_78 _) rfl (jo_ret ⟨(if_pos w0).symm, rfl⟩))
      refine jo_f w0 ?_
      rw [if_neg w0]
      by_cases w1 : w = 1
      · exact jo_t w1 (jo_fR a1 (mem_78 _) rfl (jo_len a2 rfl (jo_ret ⟨(if_pos w1).symm, rfl⟩)))
      refine jo_f w1 ?_
      rw [if_neg w1]
      by_cases w2 : w = 2
      · have hL := hf.2.2.2.2 0 (by omega)
        have hr := hl.2 0 (by omega)
        have dr := lDec_rg hr.2.1 hr.2.2
        refine jo_t w2 (jo_fR a1 (mem_78 _) rfl (jo_ldI a2 (show (0 : Int32) = nI 0 from rfl) (by omega) (by omega) ?_))
        rw [if_pos w2, a3 0 (by omega)]
        by_cases n : cLt (sC T) k' 0 < 0
        · have e0 : lDec (cLt (sC T) k' 0) = cLt (sC T) k' 0 := by unfold lDec; rw [if_pos n]
          have e1 : (-1 : Int32) - iI (lDec (cLt (sC T) k' 0)) = nI (lEd (cLt (sC T) k' 0)) := by
            rw [show (-1 : Int32) = iI (-1) from rfl, iI_sub, nI_iI, e0]
            congr 1
            unfold lEd
            rw [if_pos n]; omega
          have e2 : lEd (cLt (sC T) k' 0) < cE (sC T) := by unfold lEd; rw [if_pos n]; omega
          refine jo_t (show iI _ < iI 0 by rw [iI_ltI (by omega) (by omega)]; omega) (jo_fR h.ob (by decide) rfl ?_)
          obtain ⟨eA, fA, cA, b1, ⟨er, b2, b3⟩, -⟩ := hq
          obtain ⟨z, z1, z2⟩ := b3 _ e2
          refine jo_fR b1 (by decide) rfl (jo_fR a1 (mem_78 _) rfl (jo_ldI a2 (show (0 : Int32) = nI 0 from rfl) (by omega) (by omega) ?_))
          rw [a3 0 (by omega)]
          refine jo_ldR b2 e1 e2 (by omega) ?_
          rw [z1]
          exact jo_fI z2 (mem_56 _ _) rfl (jo_ret ⟨by rw [if_pos n], rfl⟩)
        · have e0 : lDec (cLt (sC T) k' 0) = cLt (sC T) k' 0 - 1 := by unfold lDec; rw [if_neg n]
          have e1 : iI (lDec (cLt (sC T) k' 0)) = nI (lEd (cLt (sC T) k' 0)) := by
            rw [nI_iI, e0]
            congr 1
            unfold lEd
            rw [if_neg n]; omega
          have e2 : lEd (cLt (sC T) k' 0) < cE (sC T) := by unfold lEd; rw [if_neg n]; omega
          refine jo_f (show ¬ iI _ < iI 0 by rw [iI_ltI (by omega) (by omega)]; omega) (jo_fR h.ob (by decide) rfl ?_)
          obtain ⟨eA, fA, cA, b1, ⟨er, b2, b3⟩, -⟩ := hq
          obtain ⟨z, z1, z2⟩ := b3 _ e2
          refine jo_fR b1 (by decide) rfl (jo_fR a1 (mem_78 _) rfl (jo_ldI a2 (show (0 : Int32) = nI 0 from rfl) (by omega) (by omega) ?_))
          rw [a3 0 (by omega)]
          refine jo_ldR b2 e1 e2 (by omega) ?_
          rw [z1]
          exact jo_fI z2 (mem_56 _ _) rfl (jo_ret ⟨by rw [if_neg n], rfl⟩)
      refine jo_f w2 ?_
      rw [if_neg w2]
      refine jo_eq (in32X (a := 10) (b := 13) rfl rfl) ?_
      refine jo_bI (fun c => jo_ret ⟨(if_neg c).symm, rfl⟩) (fun c => ?_)
      rw [if_pos c]
      obtain ⟨w', x1, rfl, x3⟩ := n_of (n := 13) (show 0 ≤ w.toInt by omega) c.2 (by decide)
      rw [tn_nI (by omega), show (nI w' - 10 : Int32) = nI (w' - 10) from nI_sub (b := 10) (by omega)]
      exact jo_eq (jx_letter ha0 hl (by omega)) (jo_ret ⟨rfl, rfl⟩)
    exact jo_bd (jo_mono key (fun r M' hr => jo_ret hr))
end CE
