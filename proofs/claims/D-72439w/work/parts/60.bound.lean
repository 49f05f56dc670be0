/-! PLAIN LAW, 60: bound: component -/
section BD
variable {N x : Nat} {md : Nat → Bool} {c s : Nat} {M0 M : Mem} {T : ST}
theorem cBd_rg {C : CX} (w1 : jWf C) {ci f : Nat} {z : Int} (hc : ci < 3) (hf : f < cF C) (hz : -9 ≤ z ∧ z ≤ 9) {e : Nat} (he : e < cE C) : -45 ≤ cBd C ci f z e ∧ cBd C ci f z e ≤ 45 := by
  have q1 := cTwo_le w1 (e := e) hf
  have q2 := w1.2.2.2.2.2 ci e hc he
  unfold cBd
  rcases (show cTwo C e f = -4 ∨ cTwo C e f = -3 ∨ cTwo C e f = -2 ∨ cTwo C e f = -1 ∨ cTwo C e f = 0 ∨ cTwo C e f = 1 ∨ cTwo C e f = 2 ∨ cTwo C e f = 3 ∨ cTwo C e f = 4 by omega) with x | x | x | x | x | x | x | x | x <;> rw [x] <;> omega
theorem jx_bound (h : jRX x T (jMk md M.2.2)) (hM : ∀ a, md a = true → a < M0.1) (hE : jExt md c s M0 M) (hW : jWfS T) (hN : 1000 < N) {ci f t : Int32} : jo (jf_X0_bound N x ci f t) M (jOX x md (c + 3) (s + 13) M0 (oBound T ci f t)) := by
  have hR := h
  have w1 := hW.1
  have w2 := w1.2.1
  have hE' := hE.mono (show c ≤ c + 3 by omega) (show s ≤ s + 13 by omega)
  obtain ⟨its, tp, pa, im, tf, pf, mf, h⟩ := h
  unfold jf_X0_bound oBound
  refine jo_eq jx_isChain ?_
  refine jo_bI (fun c1 => ?_) (fun c1 => ?_)
  · rw [if_pos (.inl (fun y => c1 y.2))]; exact jo_ret ⟨rfl, hR, hE'⟩
  refine jo_cl (mkg h.ob).2 (jo_eq (jx_isCell (hR.sub jMk.sub) w1) ?_)
  refine jo_bI (fun c2 => ?_) (fun c2 => ?_)
  · rw [if_pos (.inr (.inl c2))]; exact jo_ret ⟨rfl, hR, hE'⟩
  refine jo_eq (in32X (a := -9) (b := 9) rfl rfl) ?_
  refine jo_bI (fun c3 => ?_) (fun c3 => ?_)
  · rw [if_pos (.inr (.inr c3))]; exact jo_ret ⟨rfl, hR, hE'⟩
  have hp := cell_pos hW.2.1 c2
  rw [if_neg (show ¬ (¬ cIsChain (sC T) ci ∨ ¬ cIsCell (sC T) 2 f ∨ ¬ (-9 ≤ t.toInt ∧ t.toInt ≤ 9)) from fun y => by
    rcases y with y | y | y
    · exact y ⟨hp, c1⟩
    · exact y c2
    · exact y c3)]
  obtain ⟨q, rfl, hq⟩ := h.ge hp
  obtain ⟨c', h1, rfl, h3⟩ := n_of (n := 2) c1.1 c1.2 (by decide)
  obtain ⟨d', f', h4, h5, h6, rfl⟩ := cIsCell_of w1 c2
  have hd : d' = 2 := by
    have := congrArg tn h6
    rw [tn_nI (by omega)] at this
    exact this.symm
  subst hd
  have hf : f' < cF (sC T) := h5
  have hf4 := w1.2.2.1
  rw [tn_nI (by omega), tn_nI (by omega), iI_of t]
  have ht : (iI t.toInt).toInt = t.toInt := by rw [← iI_of]
  rw [ht]
  generalize t.toInt = z at c3
  have hq0 := hq
  obtain ⟨eA, fA, cA, b1, ⟨er, b2, b9⟩, b3, cr, b4, b5⟩ := hq
  obtain ⟨zc, g0, b6, b7, b8⟩ := b5 c' (by omega)
  refine jo_fR (mkg h.ob).2 (by decide) rfl (jo_fR (mkg b1).2 (by decide) rfl (jo_ldR (mkg b4).2 rfl (by omega) (by decide) ?_))
  rw [b6]
  refine jo_rd (x := (6, g0)) (by unfold jm_arI jm_ar; simp only [(mkg b7).2, if_true]) ?_
  refine jX_al (hE.md hM) hE fun q7 M1 hq7 m1 e1 E1 => ?_
  have o1 : jMk md M1.2.2 q7 = some (aI 0 6 g0) := by rw [e1, va_up_self]
  refine jo_rd (x := (6, .inl g0)) (by unfold jm_ar; simp only [(mkg o1).2, if_true]) ?_
  refine jo_bd (jo_mono (jo_up (cE (sC T)) (fun i y M' => y = nI i ∧ jExt md (c + 1) (s + 6) M0 M' ∧ jall i (fun e => decide (-9 ≤ cBd (sC T) c' f' z e ∧ cBd (sC T) c' f' z e ≤ 9)) = true ∧ ∃ g, jMk md M'.2.2 = va_up (jMk md M.2.2) q7 (some (aI 0 6 g)) ∧ ∀ e, e < 6 → g e = if e < i then iI (cBd (sC T) c' f' z e) else g0 e) (fun r M' => jExt md (c + 1) (s + 6) M0 M' ∧ ∃ g, jMk md M'.2.2 = va_up (jMk md M.2.2) q7 (some (aI 0 6 g)) ∧ (match r with
    | .inl _ => ¬ cBdOk (sC T) c' f' z = true
    | .inr _ => cBdOk (sC T) c' f' z = true ∧ ∀ e, e < 6 → g e = if e < cE (sC T) then iI (cBd (sC T) c' f' z e) else g0 e)) ?_ ?_ N 0 _ M1 ⟨rfl, E1, rfl, g0, e1, fun e he => by rw [if_neg (by omega)]⟩ (Nat.zero_le _) (by omega)) ?_)
  · rintro i y M' hi ⟨rfl, EE, hall, g, ee, hg⟩
    have ss : jSub (jMk md M.2.2) (jMk md M'.2.2) := by rw [ee]; exact jSub.new hq7
    have og : jMk md M'.2.2 q7 = some (aI 0 6 g) := by rw [ee, va_up_self]
    unfold jf_X0_bound_L53
    refine jo_fR (mkg (ss _ _ h.ob)).2 (by decide) rfl (jo_fR (mkg (ss _ _ b1)).2 (by decide) rfl (jo_len (mkg (ss _ _ b2)).2 rfl ?_))
    refine jo_f (show ¬ nI (cE (sC T)) ≤ nI i by rw [nI_leI (by omega) (by omega)]; omega) ?_
    refine jo_ldI (mkg og).2 rfl (by omega) (by decide) ?_
    refine jo_fR (mkg (ss _ _ h.ob)).2 (by decide) rfl (jx_fc ((hq0.kp ss.kp).kp jMk.sub.kp) w1 hf fun a ha => ?_)
    refine jo_eq (jx_Doften ha (wRg_of w1 hf) (by omega) (by omega)) ?_
    rw [hg i (by omega), if_neg (by omega), b8 i (by omega), if_pos hi, iI_mul, iI_add]
    have hb := cBd_rg w1 (ci := c') (z := z) (by omega) hf c3 hi
    refine jX_stI og rfl (by omega) (by decide) EE (fun M2 e2 E2 => ?_)
    have o2 : jMk md M2.2.2 q7 = some (aI 0 6 (upd g i (iI (cBd (sC T) c' f' z i)))) := by rw [e2, va_up_self]; rfl
    refine jo_ldI (mkg o2).2 rfl (by omega) (by decide) ?_
    rw [upd_self]
    refine jo_eq (in32X (a := -9) (b := 9) (by decide) (by decide)) ?_
    rw [iI_toInt (by omega) (by omega)]
    have ef : jMk md M2.2.2 = va_up (jMk md M.2.2) q7 (some (aI 0 6 (upd g i (iI (cBd (sC T) c' f' z i))))) := by rw [e2, ee, va_up2]; rfl
    refine jo_bI (fun k => jo_ret ⟨E2, _, ef, fun y => ?_⟩) (fun k => jo_ret ⟨nI_1 i, E2, ?_, _, ef, fun e he => ?_⟩)
    · have := jall_iff.mp y i hi
      simp at this
      exact k this
    · show (jall i _ && _) = true
      rw [hall]
      simpa using k
    · show (if e = i then _ else _) = _
      by_cases ei : e = i
      · rw [if_pos ei, if_pos (by omega), ei]
      · rw [if_neg ei, hg e he]
        by_cases e2 : e < i
        · rw [if_pos e2, if_pos (by omega)]
        · rw [if_neg e2, if_neg (by omega)]
  · rintro y M' ⟨rfl, EE, hall, g, ee, hg⟩
    have ss : jSub (jMk md M.2.2) (jMk md M'.2.2) := by rw [ee]; exact jSub.new hq7
    unfold jf_X0_bound_L53
    refine jo_fR (mkg (ss _ _ h.ob)).2 (by decide) rfl (jo_fR (mkg (ss _ _ b1)).2 (by decide) rfl (jo_len (mkg (ss _ _ b2)).2 rfl ?_))
    exact jo_t (show nI (cE (sC T)) ≤ nI (cE (sC T)) by rw [nI_leI (by omega) (by omega)]; omega) (jo_ret ⟨EE, g, ee, hall, hg⟩)
  · rintro r M2 ⟨EE, g, ee, hr⟩
    have ss : jSub (jMk md M.2.2) (jMk md M2.2.2) := by rw [ee]; exact jSub.new hq7
    cases r with
    | inl u =>
      rw [if_neg hr]
      exact jo_ret ⟨rfl, hR.sub ss, EE.mono (by omega) (by omega)⟩
    | inr u =>
      obtain ⟨hok, hg⟩ : cBdOk (sC T) c' f' z = true ∧ ∀ e, e < 6 → g e = if e < cE (sC T) then iI (cBd (sC T) c' f' z e) else g0 e := hr
      rw [if_pos hok]
      refine jo_mono (show jo (jf_X0_drawn_k44_89 N x (nI c') (some q7)) M2 _ from jx_chTail (ci := c') (q := q7) (g := g) (G := fun c'' e => if c'' = c' ∧ e < cE (sC T) then cBd (sC T) c' f' z e else cCh (sC T) c'' e) (hR.sub ss) hM EE hW hN hp (by omega) (by rw [ee, va_up_self]) (fun e he => ?_) (fun e he => ?_) (fun k e hk ek he => ?_)) (fun r M' hr => ⟨hr.1, hr.2.1, hr.2.2.mono (by omega) (by omega)⟩)
      · rw [hg e he]
        by_cases el : e < cE (sC T)
        · rw [if_pos el, if_pos el, if_pos ⟨rfl, el⟩]
        · rw [if_neg el, if_neg el, b8 e he, if_neg el]
      · rw [if_pos ⟨rfl, he⟩]
        have := jall_iff.mp hok e he
        simpa using this
      · rw [if_neg (fun y => ek y.1)]
end BD
