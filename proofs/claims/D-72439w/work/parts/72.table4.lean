/-! PLAIN LAW, 72: the second table; the table of a dimension: component -/
section TD
variable {md : Nat → Bool} {N c s x : Nat} {M0 M : Mem} {C : CX} {T : ST}
theorem jx_tab2 {H0 : HM} (hE : jExt md c s M0 M) {a t ar : Nat} {rr : Nat → Nat} {rf : Nat → Option Nat} (h : jCx a C H0) (hW : jWf C) (hN : 100 < N) (hT : jTn t ar (cE C) (cF C) rr rf (fun _ _ => 0) H0 (jMk md M.2.2)) : jo (jm_it (fun z => jf_X9_table_L45 N a (nI 2) (some t) z) N (0 : Int32)) M (fun _ M' => jTn t ar (cE C) (cF C) rr rf (cTab C 2) H0 (jMk md M'.2.2) ∧ jExt md c s M0 M') := by
  have h6 := hW.2.1
  have h4 := hW.2.2.1
  refine jo_mono (jo_up (cF C) (fun i z M' => z = nI i ∧ jExt md c s M0 M' ∧ jTn t ar (cE C) (cF C) rr rf (fun e f => if f < i then cTwo C e f else 0) H0 (jMk md M'.2.2)) (fun _ M' => jExt md c s M0 M' ∧ jTn t ar (cE C) (cF C) rr rf (fun e f => if f < cF C then cTwo C e f else 0) H0 (jMk md M'.2.2)) ?_ ?_ N 0 _ M ⟨rfl, hE, hT.cg (fun i j _ _ => by rw [if_neg (by omega)])⟩ (by omega) (by omega)) ?_
  · rintro i z M' hi ⟨rfl, EE, hT⟩
    unfold jf_X9_table_L45
    refine jT_cols (hT.tb.sub jMk.sub) (jo_f (show ¬ nI (cF C) ≤ nI i by rw [nI_leI (by omega) (by omega)]; omega) (jo_f (show ¬ nI 2 = 1 by decide) ?_))
    unfold jf_X9_table_j98
    refine jo_bd (jo_mono (jo_up (cE C) (fun e z M' => z = nI e ∧ jExt md c s M0 M' ∧ jTn t ar (cE C) (cF C) rr rf (fun e' f => if f < i ∨ (f = i ∧ e' < e) then cTwo C e' f else 0) H0 (jMk md M'.2.2)) (fun _ M' => jExt md c s M0 M' ∧ jTn t ar (cE C) (cF C) rr rf (fun e' f => if f < i ∨ (f = i ∧ e' < cE C) then cTwo C e' f else 0) H0 (jMk md M'.2.2)) ?_ ?_ N 0 _ M' ⟨rfl, EE, hT.cg (fun e f _ _ => ?_)⟩ (by omega) (by omega)) ?_)
    · rintro e z M2 he ⟨rfl, E2, hT2⟩
      unfold jf_X9_table_L101
      refine jT_rows (hT2.tb.sub jMk.sub) (jo_f (show ¬ nI (cE C) ≤ nI e by rw [nI_leI (by omega) (by omega)]; omega) (jo_t (show nI 2 = 2 from rfl) ?_))
      refine jo_fR (mkg hT2.1.1).2 (by decide) rfl (jo_ldR (mkg hT2.1.2.1).2 rfl he (by omega) ?_)
      refine jx_fc ((h.kp hT2.2.2.2.2.kp).kp jMk.sub.kp) hW hi fun b hb => jo_eq (jx_Doften hb (wRg_of hW hi) hN (by omega)) ?_
      have hr := cTwo_le hW (e := e) hi
      refine jT_st hT2 rfl he hi (by omega) E2 (z := cTwo C e i) (iI_l (z := cTwo C e i) (by omega) (by omega)) (fun M3 hT3 E3 => jo_ret ⟨nI_1 e, E3, hT3.cg (fun e' f he' hf => ?_)⟩)
      unfold uTb
      by_cases c1 : e' = e ∧ f = i
      · rw [if_pos c1, if_pos (.inr ⟨c1.2, by omega⟩), c1.1, c1.2]
      · rw [if_neg c1]
        show (if f < i ∨ (f = i ∧ e' < e) then cTwo C e' f else 0) = _
        by_cases c2 : f < i ∨ (f = i ∧ e' < e)
        · rw [if_pos c2, if_pos (by omega)]
        · rw [if_neg c2, if_neg (by omega)]
    · rintro z M2 ⟨rfl, E2, hT2⟩
      unfold jf_X9_table_L101
      exact jT_rows (hT2.tb.sub jMk.sub) (jo_t (show nI (cE C) ≤ nI (cE C) by rw [nI_leI (by omega) (by omega)]; omega) (jo_ret ⟨E2, hT2⟩))
    · by_cases c2 : f < i
      · rw [if_pos c2, if_pos (.inl c2)]
      · rw [if_neg c2, if_neg (by omega)]
    · rintro _ M2 ⟨E2, hT2⟩
      unfold jf_X9_table_k101_142
      refine jo_ret ⟨nI_1 i, E2, hT2.cg (fun e f he hf => ?_)⟩
      by_cases c2 : f < i + 1
      · rw [if_pos c2, if_pos (by omega)]
      · rw [if_neg c2, if_neg (by omega)]
  · rintro z M' ⟨rfl, EE, hT⟩
    unfold jf_X9_table_L45
    exact jT_cols (hT.tb.sub jMk.sub) (jo_t (show nI (cF C) ≤ nI (cF C) by rw [nI_leI (by omega) (by omega)]; omega) (jo_ret ⟨EE, hT⟩))
  · rintro _ M' ⟨EE, hT⟩
    exact ⟨hT.cg (fun i j _ hj => by rw [if_pos hj]; rfl), EE⟩
/-- the table of a dimension -/
theorem jx_table9 (hM : ∀ a, md a = true → a < M0.1) (hE : jExt md c s M0 M) {a d : Nat} (h : jCx a C (jMk md M.2.2)) (hW : jWf C) (hd : d = 1 ∨ d = 2) (hN : 100 < N) : jo (jf_X9_table N a (nI d)) M (jNew md (c + 8) (s + 45) M0 M (fun t H => jTb t (cRows C d) (cCols C d) (cTab C d) H)) := by
  have h6 := hW.2.1
  have h5 := hW.1
  have h4 := hW.2.2.1
  have hq0 := h
  obtain ⟨eA, fA, cA, h1, ⟨er, b1, b2⟩, ⟨fr, f1, f2⟩, -⟩ := h
  unfold jf_X9_table
  refine jX_al (hE.md hM) hE fun t M1 ht m1 e1 E1 => ?_
  have s1 : jSub (jMk md M.2.2) (jMk md M1.2.2) := by rw [e1]; exact jSub.new ht
  have o1 : jMk md M1.2.2 t = some (.inr (11, [.null, .int 0, .int 0])) := by rw [e1, va_up_self]
  rcases hd with rfl | rfl
  · refine jo_t (show nI 1 = 1 from rfl) (jo_fI (mkg (s1 _ _ h1)).2 (by decide) rfl ?_)
    unfold jf_X9_table_j21
    refine jo_t (show nI 1 = 1 from rfl) (jo_fR (mkg (s1 _ _ h1)).2 (by decide) rfl (jo_len (mkg (s1 _ _ b1)).2 rfl ?_))
    unfold jf_X9_table_j39
    refine jo_rd (x := t) rfl ?_
    refine jX_in11 (H0 := jMk md M.2.2) hM E1 s1 ht o1 (by omega) (by omega) (fun M2 ar rr rf hT E2 => ?_)
    refine jo_bd (jo_mono (jx_tab1 (H0 := jMk md M.2.2) E2 hq0 hW hN hT) ?_)
    rintro _ M3 ⟨hT3, E3⟩
    unfold jf_X9_table_k45_148
    have hb : cP C * cE C ≤ 5 * 6 := Nat.mul_le_mul h5 h6
    exact jo_ret ⟨t, rfl, hT3.2.2.2.2, E3.mono (by omega) (by show s + 3 + cP C + cP C * cE C ≤ s + 45; omega), hT3.tb⟩
  · refine jo_f (show ¬ nI 2 = 1 by decide) (jo_fR (mkg (s1 _ _ h1)).2 (by decide) rfl (jo_len (mkg (s1 _ _ b1)).2 rfl ?_))
    unfold jf_X9_table_j21
    refine jo_f (show ¬ nI 2 = 1 by decide) (jo_fR (mkg (s1 _ _ h1)).2 (by decide) rfl (jo_len (mkg (s1 _ _ f1)).2 rfl ?_))
    unfold jf_X9_table_j39
    refine jo_rd (x := t) rfl ?_
    refine jX_in11 (H0 := jMk md M.2.2) hM E1 s1 ht o1 (by omega) (by omega) (fun M2 ar rr rf hT E2 => ?_)
    refine jo_bd (jo_mono (jx_tab2 (H0 := jMk md M.2.2) E2 hq0 hW hN hT) ?_)
    rintro _ M3 ⟨hT3, E3⟩
    unfold jf_X9_table_k45_148
    have hb : cE C * cF C ≤ 6 * 4 := Nat.mul_le_mul h6 h4
    exact jo_ret ⟨t, rfl, hT3.2.2.2.2, E3.mono (by omega) (by show s + 3 + cE C + cE C * cF C ≤ s + 45; omega), hT3.tb⟩
end TD
