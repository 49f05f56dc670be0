/-! PLAIN LAW, 57: put, edge, weigh: component -/
section PU
variable {N x : Nat} {md : Nat → Bool} {c s : Nat} {M0 M : Mem} {T : ST}
/-- the tail of an act -/
theorem jx_acts (hE : jExt md c s M0 M) (h : jRX x T (jMk md M.2.2)) (hW : jWfS T) (hN : 1000 < N) (hp : 0 < cP (sC T)) {C' : CX} {q : Nat} (hq : jCx q C' (jMk md M.2.2)) (hp' : 0 < cP C') {β : Type} {Q : β → Mem → Prop} {k : Unit → jm_P β} (kk : ∀ M1, jRX x (sPush T C') (jMk md M1.2.2) → jExt md c s M0 M1 → jKp (jMk md M.2.2) (jMk md M1.2.2) → jo (k ()) M1 Q) : jo (jm_bd (jf_X0_act N x (some q)) k) M Q :=
  jo_bd (jo_mono (jx_act h hE hN hW.2.2.1 hp hq hp') (fun _ M1 hr => kk M1 hr.1 hr.2.1 hr.2.2))
theorem jRX.ob {H : HM} (h : jRX x T H) : ∃ vs, H x = some (.inr (0, vs)) := by
  obtain ⟨_, _, _, _, _, _, _, h⟩ := h
  exact ⟨_, h.ob⟩
theorem jCx.ob {q : Nat} {C : CX} {H : HM} (h : jCx q C H) : ∃ vs, H q = some (.inr (9, vs)) := by
  obtain ⟨_, _, _, h, _⟩ := h
  exact ⟨_, h⟩
theorem jx_put (h : jRX x T (jMk md M.2.2)) (hM : ∀ a, md a = true → a < M0.1) (hE : jExt md c s M0 M) (hW : jWfS T) (hN : 1000 < N) {ci e v : Int32} : jo (jf_X0_put N x ci e v) M (jOX x md (c + 3) (s + 13) M0 (oPut T ci e v)) := by
  have hR := h
  have w1 := hW.1
  have hE' := hE.mono (show c ≤ c + 3 by omega) (show s ≤ s + 13 by omega)
  obtain ⟨its, tp, pa, im, tf, pf, mf, h⟩ := h
  unfold jf_X0_put oPut
  refine jo_eq jx_isChain ?_
  refine jo_bI (fun c1 => ?_) (fun c1 => ?_)
  · rw [if_pos (.inl (fun y => c1 y.2))]; exact jo_ret ⟨rfl, hR, hE'⟩
  refine jo_cl (mkg h.ob).2 (jo_eq (jx_isCell (hR.sub jMk.sub) w1) ?_)
  refine jo_bI (fun c2 => ?_) (fun c2 => ?_)
  · rw [if_pos (.inr (.inl c2))]; exact jo_ret ⟨rfl, hR, hE'⟩
  refine jo_eq (in32X (a := -9) (b := 9) rfl rfl) ?_
  refine jo_bI (fun c3 => ?_) (fun c3 => ?_)
  · rw [if_pos (.inr (.inr c3))]; exact jo_ret ⟨rfl, hR, hE'⟩
  have hp := cell_pos hW.2.1 c2
  rw [if_neg (show ¬ (¬ cIsChain (sC T) ci ∨ ¬ cIsCell (sC T) 1 e ∨ ¬ (-9 ≤ v.toInt ∧ v.toInt ≤ 9)) from fun y => by
    rcases y with y | y | y
    · exact y ⟨hp, c1⟩
    · exact y c2
    · exact y c3)]
  obtain ⟨q, rfl, hq⟩ := h.ge hp
  obtain ⟨c', h1, rfl, h3⟩ := n_of (n := 2) c1.1 c1.2 (by decide)
  obtain ⟨d', e', h4, h5, h6, rfl⟩ := cIsCell_of w1 c2
  have hd : d' = 1 := by
    have := congrArg tn h6
    rw [tn_nI (by omega)] at this
    exact this.symm
  subst hd
  have h5 : e' < cE (sC T) := h5
  have h7 := w1.2.1
  rw [tn_nI (by omega), tn_nI (by omega)]
  have hq0 := hq
  obtain ⟨eA, fA, cA, b1, b2, b3, cr, b4, b5⟩ := hq
  obtain ⟨z, g, b6, b7, b8⟩ := b5 c' (by omega)
  refine jo_fR (mkg h.ob).2 (by decide) rfl (jo_fR (mkg b1).2 (by decide) rfl (jo_ldR (mkg b4).2 rfl (by omega) (by decide) ?_))
  rw [b6]
  refine jo_rd (x := (6, g)) (by unfold jm_arI jm_ar; simp only [(mkg b7).2, if_true]) ?_
  refine jX_al (hE.md hM) hE fun q7 M1 hq7 m1 e1 E1 => ?_
  have o1 : jMk md M1.2.2 q7 = some (aI 0 6 g) := by rw [e1, va_up_self]
  refine jo_rd (x := (6, .inl g)) (by unfold jm_ar; simp only [(mkg o1).2, if_true]) ?_
  refine jo_ldI (mkg o1).2 rfl (by omega) (by decide) ?_
  refine jX_stI o1 rfl (by omega) (by decide) E1 (fun M2 e2 E2 => ?_)
  have s2 : jSub (jMk md M.2.2) (jMk md M2.2.2) := by rw [e2, e1, va_up2]; exact jSub.new hq7
  have o2 : jMk md M2.2.2 q7 = some (aI 0 6 (upd g e' v)) := by rw [e2, va_up_self]
  refine jo_fR (mkg (s2 _ _ h.ob)).2 (by decide) rfl (jo_cl (mkg (s2 _ _ b1)).2 ?_)
  refine jo_bd (jo_mono (jx_withChain (C' := xPut (sC T) c' e' v.toInt) hM E2 (hq0.kp s2.kp) (by omega) o2 ⟨rfl, rfl, rfl, rfl, rfl, rfl, rfl⟩ (fun i hi => ?_) (fun k i hk ek hi => ?_)) ?_)
  · show (if i = e' then v else g i) = iI (if i < cE (sC T) then (if c' = c' ∧ i = e' then v.toInt else cCh (sC T) c' i) else 0)
    by_cases ie : i = e'
    · rw [if_pos ie, if_pos (by omega), if_pos ⟨rfl, ie⟩]; exact iI_of v
    · rw [if_neg ie, b8 i hi]
      by_cases il : i < cE (sC T)
      · rw [if_pos il, if_pos il, if_neg (fun y => ie y.2)]
      · rw [if_neg il, if_neg il]
  · show (if k = c' ∧ i = e' then v.toInt else cCh (sC T) k i) = _
    rw [if_neg (fun y => ek y.1)]
  · rintro r M3 ⟨q', rfl, s3, E3, hq'⟩
    have s4 := s2.tr s3
    refine jo_cl (mkg (s4 _ _ h.ob)).2 (jx_acts E3 (hR.sub s4) hW hN hp hq' hp (fun M4 h4 E4 _ => jo_ret ⟨?_, h4, E4.mono (by omega) (by show s + 6 + 7 ≤ s + 13; omega)⟩))
    rw [b8 e' (by omega), if_pos h5]
theorem jx_isWeight {w : Int32} : (jf_X0_isWeight N w).1 M = some (bI (1 ≤ w.toInt ∧ w.toInt ≤ 3), M) := by
  refine jo_out ?_
  unfold jf_X0_isWeight
  refine jo_eq (in32X (a := 1) (b := 3) rfl rfl) (jo_ck ?_ (jo_ret ⟨rfl, rfl⟩))
  unfold bI
  split
  · exact .inr rfl
  · exact .inl rfl
theorem jx_edge (h : jRX x T (jMk md M.2.2)) (hM : ∀ a, md a = true → a < M0.1) (hE : jExt md c s M0 M) (hW : jWfS T) (hN : 1000 < N) {p u w : Int32} : jo (jf_X0_edge N x p u w) M (jOX x md (c + 3) (s + 13) M0 (oEdge T p u w)) := by
  have hR := h
  have w1 := hW.1
  have hE' := hE.mono (show c ≤ c + 3 by omega) (show s ≤ s + 13 by omega)
  obtain ⟨its, tp, pa, im, tf, pf, mf, h⟩ := h
  unfold jf_X0_edge oEdge
  refine jo_fQ (r := its) (mkg h.ob).2 (by decide) rfl ?_
  have hcx := h.cx
  cases its with
  | none =>
    rw [if_pos (show ¬ 0 < cP (sC T) by have := hcx.1; omega)]
    exact jo_t rfl (jo_ret ⟨rfl, hR, hE'⟩)
  | some q =>
    obtain ⟨hp, hq⟩ : 0 < cP (sC T) ∧ jCx q (sC T) (jMk md M.2.2) := hcx
    rw [if_neg (show ¬ ¬ 0 < cP (sC T) from fun y => y hp)]
    refine jo_ne (jo_cl (mkg h.ob).2 (jo_eq (jx_isCell (hR.sub jMk.sub) w1) ?_))
    refine jo_bI (fun c2 => ?_) (fun c2 => ?_)
    · rw [if_pos (.inl c2)]; exact jo_ret ⟨rfl, hR, hE'⟩
    refine jo_cl (mkg h.ob).2 (jo_eq (jx_isCell (hR.sub jMk.sub) w1) ?_)
    refine jo_bI (fun c3 => ?_) (fun c3 => ?_)
    · rw [if_pos (.inr (.inl c3))]; exact jo_ret ⟨rfl, hR, hE'⟩
    refine jo_eq jx_isWeight ?_
    refine jo_bI (fun c4 => ?_) (fun c4 => ?_)
    · rw [if_pos (.inr (.inr c4))]; exact jo_ret ⟨rfl, hR, hE'⟩
    rw [if_neg (show ¬ (¬ cIsCell (sC T) 0 p ∨ ¬ cIsCell (sC T) 0 u ∨ ¬ (1 ≤ w.toInt ∧ w.toInt ≤ 3)) from fun y => by
      rcases y with y | y | y
      · exact y c2
      · exact y c3
      · exact y c4)]
    obtain ⟨_, p', -, p2, -, rfl⟩ := cIsCell_of w1 c2
    obtain ⟨_, u', -, u2, -, rfl⟩ := cIsCell_of w1 c3
    obtain ⟨w', w2, rfl, w3⟩ := n_of (n := 3) (show 0 ≤ w.toInt by omega) c4.2 (by decide)
    have p3 := cMany_le w1 ‹Nat›
    have hm : ∀ d, cMany (sC T) d ≤ 6 := cMany_le w1
    have p4 : p' < 6 := Nat.lt_of_lt_of_le p2 (hm _)
    have u4 : u' < 6 := Nat.lt_of_lt_of_le u2 (hm _)
    rw [tn_nI (by omega), tn_nI (by omega), tn_nI (by omega)]
    have h7 := w1.2.1
    have hq0 := hq
    obtain ⟨eA, fA, cA, b1, ⟨er, b2, b9⟩, b3, cr, b4, b5⟩ := hq
    refine jo_fR (mkg h.ob).2 (by decide) rfl (jo_fR (mkg b1).2 (by decide) rfl (jo_len (mkg b2).2 rfl ?_))
    by_cases c6 : cE (sC T) = 6
    · rw [if_pos c6]
      exact jo_t (show nI (cE (sC T)) = nI 6 by rw [c6]) (jo_ret ⟨rfl, hR, hE'⟩)
    rw [if_neg c6]
    refine jo_f (show ¬ nI (cE (sC T)) = nI 6 by rw [nI_eq (by omega) (by omega)]; exact c6) ?_
    refine jo_fR (mkg h.ob).2 (by decide) rfl ?_
    refine jo_bd (jo_mono (jx_edgeBy (hE.md hM) hE (by omega) (by omega)) ?_)
    rintro r M1 ⟨b, rfl, s1, E1, hb⟩
    refine jo_cl (mkg (s1 _ _ b1)).2 ?_
    refine jo_bd (jo_mono (jx_withEdge (C' := xEdge (sC T) p' u' w') (e := cE (sC T)) hM E1 (hq0.kp s1.kp) w1 (Nat.le_refl _) (by omega) hb rfl ?_ ⟨rfl, rfl, rfl, rfl⟩ ⟨?_, ?_, ?_, ?_⟩ ?_) ?_)
    · rw [if_neg (by omega)]; rfl
    · show (if cE (sC T) = cE (sC T) then _ else _) = _
      rw [if_pos rfl]; rfl
    · show (if cE (sC T) = cE (sC T) then _ else _) = _
      rw [if_pos rfl]; rfl
    · show (if cE (sC T) = cE (sC T) then _ else _) = _
      rw [if_pos rfl]; rfl
    · intro i k hi ei
      show (if i = cE (sC T) then _ else _) = _
      rw [if_neg ei]
    · intro k i hk hi
      show (if i < cE (sC T) + 1 then (if i = cE (sC T) then 0 else cCh (sC T) k i) else 0) = _
      by_cases il : i < cE (sC T)
      · rw [if_pos (by omega), if_neg (by omega), if_pos il]
      · rw [if_neg il]
        by_cases ie : i = cE (sC T)
        · rw [if_pos (by omega), if_pos ie]
        · rw [if_neg (by omega)]
    · rintro r M3 ⟨q', rfl, s3, E3, hq'⟩
      have s4 := s1.tr s3
      exact jo_cl (mkg (s4 _ _ h.ob)).2 (jx_acts E3 (hR.sub s4) hW hN hp hq' hp (fun M4 h4 E4 _ => jo_ret ⟨rfl, h4, E4.mono (by omega) (by omega)⟩))
end PU
