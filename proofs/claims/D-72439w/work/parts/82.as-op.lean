/-! PLAIN LAW, 82: as: component -/
def pKd (k : Nat) : Nat := if k = 0 then 7 else if k = 1 then 8 else if k = 2 then 4 else if k = 3 then 9 else if k = 4 then 5 else 10
theorem ast_10 : ∀ k, k < 6 → ((10 ∈ jm_oks (pKd k) ↔ (k = 0 ∨ k = 1)) ∧ (10 ∈ jm_oks (pKd k) ∨ 10 ∈ jm_bds (pKd k))) := by decide
theorem ast_5 : ∀ k, k < 6 → ((5 ∈ jm_oks (pKd k) ↔ (k = 0 ∨ k = 2)) ∧ (5 ∈ jm_oks (pKd k) ∨ 5 ∈ jm_bds (pKd k))) := by decide
theorem ast_6 : ∀ k, k < 6 → ((6 ∈ jm_oks (pKd k) ↔ (k = 0 ∨ k = 2 ∨ k = 3)) ∧ (6 ∈ jm_oks (pKd k) ∨ 6 ∈ jm_bds (pKd k))) := by decide
theorem ast_7 : ∀ k, k < 6 → ((7 ∈ jm_oks (pKd k) ↔ (k = 0 ∨ k = 4)) ∧ (7 ∈ jm_oks (pKd k) ∨ 7 ∈ jm_bds (pKd k))) := by decide
theorem ast_8 : ∀ k, k < 6 → ((8 ∈ jm_oks (pKd k) ↔ (k = 0 ∨ k = 4 ∨ k = 5)) ∧ (8 ∈ jm_oks (pKd k) ∨ 8 ∈ jm_bds (pKd k))) := by decide
theorem wSl_seal {C : CX} (hW : jWf C) {f : Nat} (hf : f < cF C) : wSl (cFl C f) (cLt C f) = cSeal C f := by
  have h6 := hW.2.1
  have hl := (hW.2.2.2.2.1 f hf).2.2.2.2
  have z : ∀ e, cE C ≤ e → wTwo (cFl C f) (cLt C f) e = 0 := by
    intro e he
    unfold wTwo
    rw [jsum_cg (g := fun _ => 0) (fun k hk => ?_)]
    · exact Int.le_antisymm (by have := jsum_le (n := cFl C f) (f := fun _ => 0) (a := 0) (fun _ _ => by omega); omega) (by have := jsum_le (n := cFl C f) (f := fun _ => 0) (a := 0) (fun _ _ => by omega); omega)
    · have := hl k hk
      unfold lSg
      rw [if_neg (by omega), if_neg (by omega)]
  rw [Bool.eq_iff_iff]
  unfold wSl cSeal
  rw [jall_iff, jall_iff]
  constructor
  · intro h e he
    exact h e (by omega)
  · intro h e he
    by_cases c : e < cE C
    · exact h e c
    · exact decide_eq_true (z e (by omega))
section AS
variable {N x : Nat} {md : Nat → Bool} {c s : Nat} {M0 M : Mem} {T : ST}
theorem jx_place (hM : ∀ a, md a = true → a < M0.1) (hE : jExt md c s M0 M) {k : Nat} (hk : k < 6) : jo (jf_X0_placeFor N (nI k)) M (fun r M1 => ∃ pl, r = some pl ∧ jMk md M1.2.2 pl = some (aR (pKd k) 1 (fun _ => none)) ∧ jMk md M.2.2 pl = none ∧ jSub (jMk md M.2.2) (jMk md M1.2.2) ∧ jExt md (c + 1) (s + 1) M0 M1) := by
  have en : ∀ kd, kd = pKd k → jo (jm_rd (jm_ck (¬ (1 : Int32) < 0 ∧ (1 : Int32).toNatClampNeg ≤ 1000)) fun _ => jm_al (.inl (kd, (1 : Int32).toNatClampNeg, .inr (.inr (.inr (.inr (fun _ => none)))))) fun q2 => jm_ret (some q2)) M (fun r M1 => ∃ pl, r = some pl ∧ jMk md M1.2.2 pl = some (aR (pKd k) 1 (fun _ => none)) ∧ jMk md M.2.2 pl = none ∧ jSub (jMk md M.2.2) (jMk md M1.2.2) ∧ jExt md (c + 1) (s + 1) M0 M1) := by
    rintro kd rfl
    refine jo_ck (ckL (n := 1) (by decide)) (jX_al (hE.md hM) hE fun q M1 hq _ e1 E1 => jo_ret ⟨q, rfl, ?_, hq, ?_, E1⟩)
    · rw [e1, va_up_self]; rfl
    · rw [e1]; exact jSub.new hq
  unfold jf_X0_placeFor
  rcases (show k = 0 ∨ k = 1 ∨ k = 2 ∨ k = 3 ∨ k = 4 ∨ k = 5 by omega) with rfl | rfl | rfl | rfl | rfl | rfl
  · exact jo_t (by rfl) (en 7 rfl)
  · exact jo_f (by decide +kernel) (jo_t (by rfl) (en 8 rfl))
  · exact jo_f (by decide +kernel) (jo_f (by decide +kernel) (jo_t (by rfl) (en 4 rfl)))
  · exact jo_f (by decide +kernel) (jo_f (by decide +kernel) (jo_f (by decide +kernel) (jo_t (by rfl) (en 9 rfl))))
  · exact jo_f (by decide +kernel) (jo_f (by decide +kernel) (jo_f (by decide +kernel) (jo_f (by decide +kernel) (jo_t (by rfl) (en 5 rfl)))))
  · exact jo_f (by decide +kernel) (jo_f (by decide +kernel) (jo_f (by decide +kernel) (jo_f (by decide +kernel) (jo_f (by decide +kernel) (en 10 rfl)))))
theorem jExt.sk (h : jExt md c s M0 M) (k n : Nat) : jExt md (c + k) (s + n) M0 (M.1 + k, M.2.1 + n, M.2.2) := by
  obtain ⟨h1, h2, h3, h4, h5⟩ := h
  exact ⟨by show M0.1 ≤ M.1 + k; omega, by show M.1 + k ≤ _; omega, by show M.2.1 + n ≤ _; omega, h4, fun a ha => h5 a (by have : M.1 + k ≤ a := ha; omega)⟩
theorem jx_as73 {H0 : HM} {pl o cl kd2 : Nat} {vs : List Value} {v : Int32} (hE : jExt md c s M0 M) (h : jRX x T H0) (hs : jSub H0 (jMk md M.2.2)) (hn : H0 pl = none) (hp : jMk md M.2.2 pl = some (aR kd2 1 (fun _ => none))) (ho : M.2.2 o = some (.inr (cl, vs))) (hb : cl ∈ jm_oks kd2 ∨ cl ∈ jm_bds kd2) : jo (jf_X0_as_j73 N v (some pl) 0 (some o)) M (jOX x md (c + 3) (s + 32) M0 (if cl ∈ jm_oks kd2 then v else -1000000, T)) := by
  unfold jf_X0_as_j73
  refine jo_rd (x := kd2) (by unfold jm_kd; simp only [(mkg hp).2]) (jo_rd (x := (o, cl)) (by unfold jm_kl; simp only [ho]) (jo_ldR (mkg hp).2 (j := 0) rfl (by decide) (by decide) ?_))
  dsimp only
  by_cases c1 : cl ∈ jm_oks kd2
  · rw [show (if cl ∈ jm_oks kd2 then v else (-1000000 : Int32)) = v from if_pos c1]
    refine jo_t c1 (jX_stR (j := 0) hp rfl (by decide) (by decide) ?_ hE (fun M1 e1 E1 => jo_ret ⟨rfl, ?_, E1.mono (by omega) (by omega)⟩))
    · unfold jm_fit; simp only [ho]; exact decide_eq_true c1
    · rw [e1]; exact h.sub (hs.wr hn)
  · rw [show (if cl ∈ jm_oks kd2 then v else (-1000000 : Int32)) = -1000000 from if_neg c1]
    have c2 := hb.resolve_left c1
    refine jo_f c1 (jo_ck c2 ?_)
    exact ⟨-1000000, _, rfl, rfl, h.sub hs, hE.sk 3 32⟩
theorem jx_as (h : jRX x T (jMk md M.2.2)) (hM : ∀ a, md a = true → a < M0.1) (hE : jExt md c s M0 M) (hW : jWf (sC T)) (hz : cP (sC T) = 0 → cE (sC T) = 0 ∧ cF (sC T) = 0) {d k kd : Int32} : jo (jf_X0_as N x d k kd) M (jOX x md (c + 5) (s + 33) M0 (aAs (sC T) d k kd, T)) := by
  have hR := h
  have hE' := hE.mono (show c ≤ c + 5 by omega) (show s ≤ s + 33 by omega)
  obtain ⟨its, tp, pa, im, tf, pf, mf, h⟩ := h
  unfold jf_X0_as aAs
  refine jo_cl (mkg h.ob).2 (jo_eq (jx_isCell (hR.sub jMk.sub) hW) ?_)
  refine jo_bI (fun c1 => ?_) (fun c1 => ?_)
  · rw [if_neg (fun y => c1 y.1)]; exact jo_ret ⟨rfl, hR, hE'⟩
  refine jo_eq (in32X (a := 0) (b := 5) rfl rfl) ?_
  refine jo_bI (fun c2 => ?_) (fun c2 => ?_)
  · rw [if_neg (fun y => c2 y.2)]; exact jo_ret ⟨rfl, hR, hE'⟩
  rw [if_pos ⟨c1, c2⟩]
  have hp := cell_pos hz c1
  obtain ⟨q, rfl, hq⟩ := h.ge hp
  obtain ⟨d', k', h1, h2, rfl, rfl⟩ := cIsCell_of hW c1
  obtain ⟨kd', h3, rfl, h4⟩ := n_of (n := 5) c2.1 c2.2 (by decide)
  have hm := cMany_le hW d'
  rw [tn_nI (by omega), tn_nI (by omega), tn_nI (by omega)]
  refine jo_bd (jo_mono (jx_place hM hE (show kd' < 6 by omega)) ?_)
  rintro r M1 ⟨pl, rfl, o1, n1, s1, E1⟩
  have hR1 := hR.sub s1
  rcases (show d' = 0 ∨ d' = 1 ∨ d' = 2 by omega) with rfl | rfl | rfl
  · refine jo_t (by rfl) (jX_al (E1.md hM) E1 fun qp M2 hqp _ e2 E2 => jo_bd ?_)
    unfold jf_X10_init jf_X4_init
    refine jo_bd (jo_ret (jo_ret ?_))
    have s2 : jSub (jMk md M1.2.2) (jMk md M2.2.2) := by rw [e2]; exact jSub.new hqp
    have op : jMk md M2.2.2 qp = some (.inr (10, [])) := by rw [e2, va_up_self]
    refine jo_mono (jx_as73 (cl := 10) (kd2 := pKd kd') E2 hR (s1.tr s2) n1 (s2 _ _ o1) (mkg op).2 (ast_10 kd' (by omega)).2) ?_
    rintro r M3 ⟨g1, g2, g3⟩
    refine ⟨g1.trans ?_, g2, g3.mono (by omega) (by show s + 1 + 0 + 32 ≤ s + 33; omega)⟩
    dsimp only
    have := (ast_10 kd' (by omega)).1
    by_cases z : 10 ∈ jm_oks (pKd kd')
    · rw [if_pos z, if_pos]
      have := this.mp z
      unfold cIsAs
      rcases this with rfl | rfl <;> rfl
    · rw [if_neg z, if_neg]
      intro y
      refine z (this.mpr ?_)
      unfold cIsAs at y
      simpa using y
  · have h2 : k' < cE (sC T) := h2
    refine jo_f (by decide +kernel) (jo_t (by rfl) ?_)
    refine jo_fR (mkg (s1 _ _ h.ob)).2 (by decide) rfl (jx_ed (hq.kp (s1.kp.tr jMk.sub.kp)) hW h2 fun a ha => ?_)
    generalize cEd (sC T) k' 2 = w3 at ha
    by_cases e : cEd (sC T) k' 0 = cEd (sC T) k' 1
    · refine jo_mono (jx_as73 (cl := 6) (kd2 := pKd kd') E1 hR s1 n1 o1 (by rw [ha]; unfold jEdO; rw [if_pos e]) (ast_6 kd' (by omega)).2) ?_
      rintro r M3 ⟨g1, g2, g3⟩
      refine ⟨g1.trans ?_, g2, g3.mono (by omega) (by omega)⟩
      dsimp only
      have := (ast_6 kd' (by omega)).1
      by_cases z : 6 ∈ jm_oks (pKd kd')
      · rw [if_pos z, if_pos]
        have := this.mp z
        unfold cIsAs
        rcases this with rfl | rfl | rfl
        · rfl
        · rfl
        · simp [e]
      · rw [if_neg z, if_neg]
        intro y
        refine z (this.mpr ?_)
        unfold cIsAs at y
        simp [e] at y
        omega
    · refine jo_mono (jx_as73 (cl := 5) (kd2 := pKd kd') E1 hR s1 n1 o1 (by rw [ha]; unfold jEdO; rw [if_neg e]) (ast_5 kd' (by omega)).2) ?_
      rintro r M3 ⟨g1, g2, g3⟩
      refine ⟨g1.trans ?_, g2, g3.mono (by omega) (by omega)⟩
      dsimp only
      have := (ast_5 kd' (by omega)).1
      by_cases z : 5 ∈ jm_oks (pKd kd')
      · rw [if_pos z, if_pos]
        have := this.mp z
        unfold cIsAs
        rcases this with rfl | rfl <;> rfl
      · rw [if_neg z, if_neg]
        intro y
        refine z (this.mpr ?_)
        unfold cIsAs at y
        simp [e] at y
        omega
  · have h2 : k' < cF (sC T) := h2
    refine jo_f (by decide +kernel) (jo_f (by decide +kernel) ?_)
    refine jo_fR (mkg (s1 _ _ h.ob)).2 (by decide) rfl (jx_fc (hq.kp (s1.kp.tr jMk.sub.kp)) hW h2 fun a ha => ?_)
    obtain ⟨wa, g, a1, a2, a3⟩ := ha
    rw [wSl_seal hW h2] at a1
    cases e : cSeal (sC T) k' with
    | true =>
      refine jo_mono (jx_as73 (cl := 8) (kd2 := pKd kd') E1 hR s1 n1 o1 (by rw [a1, e]; rfl) (ast_8 kd' (by omega)).2) ?_
      rintro r M3 ⟨g1, g2, g3⟩
      refine ⟨g1.trans ?_, g2, g3.mono (by omega) (by omega)⟩
      dsimp only
      have := (ast_8 kd' (by omega)).1
      by_cases z : 8 ∈ jm_oks (pKd kd')
      · rw [if_pos z, if_pos]
        have := this.mp z
        unfold cIsAs
        rcases this with rfl | rfl | rfl
        · rfl
        · rfl
        · simp [e]
      · rw [if_neg z, if_neg]
        intro y
        refine z (this.mpr ?_)
        unfold cIsAs at y
        simp [e] at y
        omega
    | false =>
      refine jo_mono (jx_as73 (cl := 7) (kd2 := pKd kd') E1 hR s1 n1 o1 (by rw [a1, e]; rfl) (ast_7 kd' (by omega)).2) ?_
      rintro r M3 ⟨g1, g2, g3⟩
      refine ⟨g1.trans ?_, g2, g3.mono (by omega) (by omega)⟩
      dsimp only
      have := (ast_7 kd' (by omega)).1
      by_cases z : 7 ∈ jm_oks (pKd kd')
      · rw [if_pos z, if_pos]
        have := this.mp z
        unfold cIsAs
        rcases this with rfl | rfl <;> rfl
      · rw [if_neg z, if_neg]
        intro y
        refine z (this.mpr ?_)
        unfold cIsAs at y
        simp [e] at y
        omega
end AS
