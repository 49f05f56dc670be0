/-! PLAIN LAW, 71: the tables of a complex: component -/
theorem jTn.cg {t ar R K : Nat} {rr : Nat → Nat} {rf : Nat → Option Nat} {F G : Nat → Nat → Int} {H0 H : HM} (h : jTn t ar R K rr rf F H0 H) (e : ∀ i j, i < R → j < K → F i j = G i j) : jTn t ar R K rr rf G H0 H := by
  obtain ⟨⟨h1, h2, h3, h4⟩, a⟩ := h
  refine ⟨⟨h1, h2, fun i hi => ⟨(h3 i hi).1, ?_⟩, h4⟩, a⟩
  obtain ⟨g, g1, g2⟩ := (h3 i hi).2
  exact ⟨g, g1, fun j hj => by rw [g2 j hj, e i j hi hj]⟩
section TC
variable {md : Nat → Bool} {N c s : Nat} {M0 M : Mem} {C : CX}
theorem jx_tab1 {H0 : HM} (hE : jExt md c s M0 M) {a t ar : Nat} {rr : Nat → Nat} {rf : Nat → Option Nat} (h : jCx a C H0) (hW : jWf C) (hN : 100 < N) (hT : jTn t ar (cP C) (cE C) rr rf (fun _ _ => 0) H0 (jMk md M.2.2)) : jo (jm_it (fun z => jf_X9_table_L45 N a (nI 1) (some t) z) N (0 : Int32)) M (fun _ M' => jTn t ar (cP C) (cE C) rr rf (cTab C 1) H0 (jMk md M'.2.2) ∧ jExt md c s M0 M') := by
  have h6 := hW.2.1
  have h5 := hW.1
  refine jo_mono (jo_up (cE C) (fun i z M' => z = nI i ∧ jExt md c s M0 M' ∧ jTn t ar (cP C) (cE C) rr rf (fun p e => if e < i then cOne C p e else 0) H0 (jMk md M'.2.2)) (fun _ M' => jExt md c s M0 M' ∧ jTn t ar (cP C) (cE C) rr rf (fun p e => if e < cE C then cOne C p e else 0) H0 (jMk md M'.2.2)) ?_ ?_ N 0 _ M ⟨rfl, hE, hT.cg (fun i j _ _ => by rw [if_neg (by omega)])⟩ (by omega) (by omega)) ?_
  · rintro i z M' hi ⟨rfl, EE, hT⟩
    have w := hW.2.2.2.1 i hi
    unfold jf_X9_table_L45
    refine jT_cols (hT.tb.sub jMk.sub) (jo_f (show ¬ nI (cE C) ≤ nI i by rw [nI_leI (by omega) (by omega)]; omega) (jo_t (show nI 1 = 1 from rfl) ?_))
    refine jo_fR (mkg hT.1.1).2 (by decide) rfl (jx_ed ((h.kp hT.2.2.2.2.kp).kp jMk.sub.kp) hW hi fun b hb => jo_fI hb (mem_56 _ _) rfl ?_)
    refine jo_ldR (mkg hT.1.2.1).2 rfl w.2.1 (by omega) ?_
    obtain ⟨r1, g, g1, g2⟩ := hT.1.2.2.1 _ w.2.1
    refine jo_rd (x := jI ((fun p e => if e < i then cOne C p e else 0) (cEd C i 1) i)) (by
      rw [r1]
      rw [← g2 i hi]
      exact jl_ld (mkg g1).2 (jm_ixn hi (by omega))) ?_
    rw [show (1 : Int64) = jI 1 from rfl, jI_add]
    refine jT_st hT rfl w.2.1 hi (by omega) EE rfl (fun M2 hT2 E2 => ?_)
    refine jo_fR (mkg hT2.1.1).2 (by decide) rfl (jx_ed ((h.kp hT2.2.2.2.2.kp).kp jMk.sub.kp) hW hi fun b hb => jo_fI hb (mem_56 _ _) rfl ?_)
    refine jo_ldR (mkg hT2.1.2.1).2 rfl w.1 (by omega) ?_
    obtain ⟨r3, g', g3, g4⟩ := hT2.1.2.2.1 _ w.1
    refine jo_rd (x := jI (uTb (fun p e => if e < i then cOne C p e else 0) (cEd C i 1) i ((fun p e => if e < i then cOne C p e else 0) (cEd C i 1) i + 1) (cEd C i 0) i)) (by
      rw [r3]
      rw [← g4 i hi]
      exact jl_ld (mkg g3).2 (jm_ixn hi (by omega))) ?_
    rw [jI_sub]
    refine jT_st hT2 rfl w.1 hi (by omega) E2 rfl (fun M3 hT3 E3 => ?_)
    have hT4 := hT3.cg (G := fun p e => if e < i + 1 then cOne C p e else 0) (fun p e hp he => by
      unfold uTb
      by_cases ei : e = i
      · subst ei
        dsimp only
        rw [if_pos (show e < e + 1 by omega)]
        unfold cOne
        by_cases q0 : cEd C e 0 = p <;> by_cases q1 : cEd C e 1 = p <;> simp [q0, q1, eq_comm] <;> omega
      · rw [if_neg (fun y => ei y.2), if_neg (fun y => ei y.2)]
        show (if e < i then cOne C p e else 0) = _
        by_cases el : e < i
        · rw [if_pos el, if_pos (by omega)]
        · rw [if_neg el, if_neg (by omega)])
    unfold jf_X9_table_j98
    refine jo_bd (jo_mono (jo_it (fun _ M' => M' = M3) (fun _ M' => M' = M3) (fun _ _ => 0) (fun z M' hM' => ?_) N _ _ rfl (by omega)) ?_)
    · subst hM'
      unfold jf_X9_table_L101
      refine jT_rows (hT4.tb.sub jMk.sub) ?_
      by_cases cz : nI (cP C) ≤ z
      · exact jo_t cz (jo_ret rfl)
      · exact jo_f cz (jo_f (show ¬ nI 1 = 2 by decide) (jo_ret rfl))
    · rintro _ M4 rfl
      unfold jf_X9_table_k101_142
      exact jo_ret ⟨nI_1 i, E3, hT4⟩
  · rintro z M' ⟨rfl, EE, hT⟩
    unfold jf_X9_table_L45
    exact jT_cols (hT.tb.sub jMk.sub) (jo_t (show nI (cE C) ≤ nI (cE C) by rw [nI_leI (by omega) (by omega)]; omega) (jo_ret ⟨EE, hT⟩))
  · rintro _ M' ⟨EE, hT⟩
    exact ⟨hT.cg (fun i j _ hj => by rw [if_pos hj]; rfl), EE⟩
end TC
