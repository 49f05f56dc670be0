/-! PLAIN LAW, 93.p: rank and holes on both sides (the tables' runs must stay small: jSm) -/
noncomputable def rkN (R K : Nat) (A : Nat → Nat → Int) : Nat := @dite Nat (∃ r, isRk R K A r) (Classical.propDecidable _) (fun h => Classical.choose h) (fun _ => 0)
theorem rkN_eq {R K r : Nat} {A : Nat → Nat → Int} (h : isRk R K A r) : r = rkN R K A := by
  unfold rkN
  rw [dif_pos ⟨r, h⟩]
  exact h.uniq (Classical.choose_spec (⟨r, h⟩ : ∃ r, isRk R K A r)) (fun _ => Iff.rfl)
/-- the tables of a complex stay small when they are brought to a diagonal -/
def jSm (C : CX) : Prop := ∀ d, d = 1 ∨ d = 2 → smallA (cRows C d) (cCols C d) (cTab C d)
noncomputable def cRk (C : CX) (d p : Nat) : Nat := if p = 0 then rkN (cRows C d) (cCols C d) (cTab C d) else rkB p (cRows C d) (cCols C d) 0 0 (pG p (cTab C d))
def isP0 (v : Int32) : Prop := v = 0 ∨ v = 2 ∨ v = 3 ∨ v = 5 ∨ v = 7
theorem isP0_of {v : Int32} (h : isP0 v) : ∃ p : Nat, v = nI p ∧ (p = 0 ∨ isP p) ∧ p < 8 := by
  unfold isP0 at h
  unfold isP
  rcases h with rfl | rfl | rfl | rfl | rfl
  · exact ⟨0, rfl, by omega, by omega⟩
  · exact ⟨2, rfl, by omega, by omega⟩
  · exact ⟨3, rfl, by omega, by omega⟩
  · exact ⟨5, rfl, by omega, by omega⟩
  · exact ⟨7, rfl, by omega, by omega⟩
section PM
variable {N : Nat} {M : Mem} {β : Type} {Q : β → Mem → Prop}
theorem jo_primeX {v : Int32} {p q : jm_P β} (hf : ¬ isP0 v → jo p M Q) (ht : isP0 v → jo q M Q) : jo (jm_bd (jf_X0_isPrime N v) fun x => if x = 0 then p else q) M Q := by
  unfold isP0 at hf ht
  refine jo_bd ?_
  unfold jf_X0_isPrime jf_X0_isPrime_j25
  by_cases c0 : v = 0
  · exact jo_t c0 (jo_ret (jo_f (by decide) (ht (.inl c0))))
  refine jo_f c0 ?_
  by_cases c2 : v = 2
  · exact jo_t c2 (jo_ret (jo_f (by decide) (ht (.inr (.inl c2)))))
  refine jo_f c2 ?_
  by_cases c3 : v = 3
  · exact jo_t c3 (jo_ret (jo_f (by decide) (ht (.inr (.inr (.inl c3))))))
  refine jo_f c3 ?_
  by_cases c5 : v = 5
  · exact jo_t c5 (jo_ret (jo_f (by decide) (ht (.inr (.inr (.inr (.inl c5)))))))
  refine jo_f c5 ?_
  by_cases c7 : v = 7
  · exact jo_t c7 (jo_ret (jo_f (by decide) (ht (.inr (.inr (.inr (.inr c7)))))))
  refine jo_f c7 (jo_ret (jo_t rfl (hf (fun y => ?_))))
  rcases y with y | y | y | y | y
  · exact c0 y
  · exact c2 y
  · exact c3 y
  · exact c5 y
  · exact c7 y
theorem jo_primeM {v : Int32} {p q : jm_P β} (hf : ¬ isP0 v → jo p M Q) (ht : isP0 v → jo q M Q) : jo (jm_bd (jf_X1_isPrime N v) fun x => if x = 0 then p else q) M Q := jo_primeX (N := N) hf ht
end PM
section RM
variable {N m : Nat} {ad : Nat → Nat} {M0 M : Mem} {S : MS} {C : CX} {f : Nat → Int64}
theorem jm_lays (h : jMM m ad M0 (s15 S f) M) (hC : jEnc C (S.1 0)) (hW : jWf C) (hN : 100 < N) {d : Nat} (hd : d = 1 ∨ d = 2) : jo (jf_X1_lays N m (nI d)) M (fun _ M' => ∃ g, jMM m ad M0 (s15 S g) M' ∧ ∀ i c, i < 6 → c < 6 → g (6 * i + c) = jI (if i < cRows C d ∧ c < cCols C d then cTab C d i c else 0)) := by
  have hr6 := cRows_le hW (d := d)
  have hk6 := cCols_le hW (d := d)
  unfold jf_X1_lays jf_X1_lays_k2_62
  refine jo_bd (jo_mono (jo_up 36 (fun q z M' => z = nI q ∧ ∃ g, jMM m ad M0 (s15 S g) M' ∧ ∀ i c, i < 6 → c < 6 → 6 * i + c < q → g (6 * i + c) = jI (if i < cRows C d ∧ c < cCols C d then cTab C d i c else 0)) (fun _ M' => ∃ g, jMM m ad M0 (s15 S g) M' ∧ ∀ i c, i < 6 → c < 6 → g (6 * i + c) = jI (if i < cRows C d ∧ c < cCols C d then cTab C d i c else 0)) ?_ ?_ N 0 _ M ⟨rfl, f, h, fun i c _ _ hq => absurd hq (Nat.not_lt_zero _)⟩ (by omega) (by omega)) ?_)
  · rintro q z M' hq ⟨rfl, g, h', e⟩
    unfold jf_X1_lays_L2 jf_X1_lays_j54 jf_X1_lays_j55
    refine jo_f (show ¬ nI 36 ≤ nI q by rw [nI_leI (by omega) (by omega)]; omega) (jo_rd (jM_fR h' (k := 15) rfl) (jo_rd (jM_cl h') (jo_eq (jr_rows h' hC hd) ?_)))
    have d6 : nI q / (6 : Int32) = nI (q / 6) := nI_div (d := 6) (by omega) (by omega) (by omega)
    have r6 : nI q - nI (q / 6) * (6 : Int32) = nI (q % 6) := by rw [← d6]; exact nI_rem (d := 6) (by omega) (by omega) (by omega)
    rw [d6, r6]
    have put : ∀ x : Int64, x = jI (if q / 6 < cRows C d ∧ q % 6 < cCols C d then cTab C d (q / 6) (q % 6) else 0) → jo (jm_wr (jm_stJ 2 (some (ad 15)) (nI q) x) <| jm_ret (.inl (nI q + 1)) : jm_P (Int32 ⊕ Unit)) M' (fun x M1 => ∃ z, x = .inl z ∧ (z = nI (q + 1) ∧ ∃ g, jMM m ad M0 (s15 S g) M1 ∧ ∀ i c, i < 6 → c < 6 → 6 * i + c < q + 1 → g (6 * i + c) = jI (if i < cRows C d ∧ c < cCols C d then cTab C d i c else 0))) := by
      intro x hx
      refine jM_st15 h' (j := q) rfl hq (fun M1 h1 => jo_ret ⟨_, rfl, by rw [nI_1], _, h1, fun i c hi hc hl => ?_⟩)
      rw [upL]
      by_cases ec : 6 * i + c = q
      · have : i = q / 6 ∧ c = q % 6 := by omega
        rw [if_pos ec, hx, this.1, this.2]
      · rw [if_neg ec]
        exact e i c hi hc (by omega)
    by_cases c1 : cRows C d ≤ q / 6
    · refine jo_t (by rw [nI_leI (by omega) (by omega)]; exact c1) (jo_mono (put (0 : Int64) (by rw [if_neg (by omega)]; rfl)) ?_)
      rintro x M1 ⟨z, rfl, hz⟩
      exact hz
    refine jo_f (by rw [nI_leI (by omega) (by omega)]; exact c1) (jo_rd (jM_cl h') (jo_eq (jr_cols h' hC hd) ?_))
    by_cases c2 : cCols C d ≤ q % 6
    · refine jo_t (by rw [nI_leI (by omega) (by omega)]; exact c2) (jo_mono (put (0 : Int64) (by rw [if_neg (by omega)]; rfl)) ?_)
      rintro x M1 ⟨z, rfl, hz⟩
      exact hz
    refine jo_f (by rw [nI_leI (by omega) (by omega)]; exact c2) (jo_rd (jM_cl h') (jo_eq (jr_entry h' hC hW hN hd (by omega) (by omega)) ?_))
    have rg := cTab_rg hW (i := q / 6) (show q % 6 < cCols C d by omega)
    refine jo_mono (put _ (by rw [iI_l (by omega) (by omega), if_pos (by omega)])) ?_
    rintro x M1 ⟨z, rfl, hz⟩
    exact hz
  · rintro z M' ⟨rfl, g, h', e⟩
    unfold jf_X1_lays_L2
    exact jo_t (show nI 36 ≤ nI 36 by decide) (jo_ret ⟨g, h', fun i c hi hc => e i c hi hc (by omega)⟩)
  · rintro _ M' hq
    exact jo_ret hq
theorem jm_rankFor (h : jMM m ad M0 (s15 S f) M) (hC : jEnc C (S.1 0)) (hW : jWf C) (hN : 9223372036854775809 < N) {d p : Nat} (hd : d = 1 ∨ d = 2) (hp : p = 0 ∨ isP p) : jo (jf_X1_rankFor N m (nI d) (nI p)) M (fun x M' => x = nI (cRk C d p) ∧ ∃ g, jMM m ad M0 (s15 S g) M') := by
  have hr6 := cRows_le hW (d := d)
  have hk6 := cCols_le hW (d := d)
  unfold jf_X1_rankFor cRk
  by_cases c : p = 0
  · subst c
    refine jo_t rfl (jo_rd (jM_cl h) (jo_bd (jo_mono (jm_rankAll h hC hW hN hd) ?_)))
    rintro x M1 ⟨⟨r, rfl, hr⟩, w, h1⟩
    refine jo_ret ⟨?_, w, h1⟩
    rw [if_pos rfl, ← rkN_eq hr]
  · have hp := hp.resolve_left c
    have p7 : p < 8 := by unfold isP at hp; omega
    refine jo_f (show ¬ nI p = nI 0 by rw [nI_eq (by omega) (by omega)]; exact c) (jo_rd (jM_cl h) (jo_bd (jo_mono (jm_lays h hC hW (by omega) hd) ?_)))
    rintro _ M1 ⟨g, h1, e⟩
    refine jo_rd (jM_cl h1) (jo_eq (jr_rows h1 hC hd) (jo_rd (jM_cl h1) (jo_eq (jr_cols h1 hC hd) (jo_rd (jM_cl h1) ?_))))
    refine jo_bd (jo_mono (jm_rankBy (A := fun i c => if i < cRows C d ∧ c < cCols C d then cTab C d i c else 0) hp h1 (fun i c hi hc => ⟨e i c hi hc, ?_⟩) hr6 hk6 (by omega)) ?_)
    · split
      · rename_i q
        have := cTab_rg hW (i := i) q.2
        omega
      · decide
    · rintro x M2 ⟨rfl, w, h2⟩
      refine jo_ret ⟨?_, w, h2⟩
      rw [if_neg c]
      congr 1
      refine rkB_cg _ _ _ _ _ (Nat.zero_le _) (fun i q hi _ hq => ?_)
      unfold pG
      dsimp only
      rw [if_pos ⟨hi, by omega⟩]
end RM
noncomputable def aRank (C : CX) (d p : Int32) : Int32 := if ¬ 0 < cP C then STATE else @ite Int32 ((1 ≤ d.toInt ∧ d.toInt ≤ 2) ∧ isP0 p) (Classical.propDecidable _) (nI (cRk C (tn d) (tn p))) BAD
section RX
variable {N x m : Nat} {ad : Nat → Nat} {md : Nat → Bool} {c s : Nat} {M0 M : Mem} {T : ST} {C : CX} {S : MS}
theorem jx_rank9 (hM : ∀ a, md a = true → a < M0.1) (hE : jExt md c s M0 M) {a d p : Nat} (h : jCx a C (jMk md M.2.2)) (hW : jWf C) (hS : jSm C) (hd : d = 1 ∨ d = 2) (hp : p = 0 ∨ isP p) (hN : 1180591620717411303424 < N) : jo (jf_X9_rank N a (nI d) (nI p)) M (fun r M' => r = nI (cRk C d p) ∧ jSub (jMk md M.2.2) (jMk md M'.2.2) ∧ jExt md (c + 30) (s + 150) M0 M') := by
  have hr6 := cRows_le hW (d := d)
  have hk6 := cCols_le hW (d := d)
  obtain ⟨va, ha⟩ := h.ob
  have rk : cRows C d * (cCols C d + 1) ≤ 6 * 7 := Nat.mul_le_mul hr6 (by omega)
  unfold jf_X9_rank cRk
  by_cases c0 : p = 0
  · subst c0
    refine jo_t rfl (jo_cl (mkg ha).2 (jo_bd (jo_mono (jx_table9 hM hE h hW hd (by omega)) ?_)))
    rintro r M1 ⟨t, rfl, s1, E1, ht⟩
    refine jT_cl (ht.sub jMk.sub) (jo_bd (jo_mono (jx_Trank hM E1 ht (by omega) (by omega) hN (hS d hd)) ?_))
    rintro r M2 ⟨⟨k, rfl, hk⟩, s2, E2⟩
    refine jo_ret ⟨?_, s1.tr s2, E2.mono (by omega) (by omega)⟩
    rw [if_pos rfl, ← rkN_eq hk]
  · have hp := hp.resolve_left c0
    have p7 : p < 8 := by unfold isP at hp; omega
    have rk2 : cRows C d * cCols C d ≤ 6 * 6 := Nat.mul_le_mul hr6 hk6
    have rk3 : cCols C d * cRows C d ≤ 6 * 6 := Nat.mul_le_mul hk6 hr6
    refine jo_f (show ¬ nI p = nI 0 by rw [nI_eq (by omega) (by omega)]; exact c0) (jo_cl (mkg ha).2 (jo_bd (jo_mono (jx_table9 hM hE h hW hd (by omega)) ?_)))
    rintro r M1 ⟨t, rfl, s1, E1, ht⟩
    refine jT_cl (ht.sub jMk.sub) (jo_bd (jo_mono (jx_TrankBy hM E1 hp ht hr6 hk6 (by omega) (fun i j _ hj => by have := cTab_rg hW (i := i) hj; omega)) ?_))
    rintro r M2 ⟨rfl, s2, E2⟩
    refine jo_ret ⟨?_, s1.tr s2, E2.mono (by omega) (by omega)⟩
    rw [if_neg c0]
theorem jx_rank (h : jRX x T (jMk md M.2.2)) (hM : ∀ a, md a = true → a < M0.1) (hE : jExt md c s M0 M) (hW : jWfS T) (hS : jSm (sC T)) (hN : 1180591620717411303424 < N) {d p : Int32} : jo (jf_X0_rank N x d p) M (jOX x md (c + 30) (s + 150) M0 (aRank (sC T) d p, T)) := by
  have hR := h
  have hE' := hE.mono (show c ≤ c + 30 by omega) (show s ≤ s + 150 by omega)
  obtain ⟨its, tp, pa, im, tf, pf, mf, h⟩ := h
  unfold jf_X0_rank aRank
  refine jo_fQ (r := its) (mkg h.ob).2 (by decide) rfl ?_
  have hcx := h.cx
  cases its with
  | none =>
    have z : cP (sC T) = 0 := hcx.1
    refine jo_t rfl (jo_ret ⟨?_, hR, hE'⟩)
    dsimp only
    rw [if_pos (by omega)]; rfl
  | some q =>
    obtain ⟨hp, hq⟩ : 0 < cP (sC T) ∧ jCx q (sC T) (jMk md M.2.2) := hcx
    refine jo_ne (jo_eq (in32X (a := 1) (b := 2) rfl rfl) (jo_bI (fun c1 => jo_ret ⟨?_, hR, hE'⟩) (fun c1 => jo_primeX (fun c2 => jo_ret ⟨?_, hR, hE'⟩) (fun c2 => ?_))))
    · dsimp only
      rw [if_neg (fun y => y hp), if_neg (fun y => c1 y.1)]; rfl
    · dsimp only
      rw [if_neg (fun y => y hp), if_neg (fun y => c2 y.2)]; rfl
    · obtain ⟨d', h1, rfl, h3⟩ := n_of (n := 2) (show 0 ≤ d.toInt by omega) c1.2 (by decide)
      obtain ⟨p', rfl, h4, h5⟩ := isP0_of c2
      obtain ⟨va, ha⟩ := hq.ob
      refine jo_fR (mkg h.ob).2 (by decide) rfl (jo_cl (mkg ha).2 (jo_bd (jo_mono (jx_rank9 hM hE hq hW.1 hS (by omega) h4 hN) ?_)))
      rintro r M1 ⟨rfl, s1, E1⟩
      refine jo_ret ⟨?_, hR.sub s1, E1⟩
      dsimp only
      rw [if_neg (fun y => y hp), if_pos ⟨c1, c2⟩, tn_nI (by omega), tn_nI (by omega)]
theorem jm_rank (h : jMM m ad M0 S M) (hC : jEnc C (S.1 0)) (hW : jWf C) (hN : 9223372036854775809 < N) {d p : Int32} : jo (jf_X1_rank N m d p) M (fun r M' => r = aRank C d p ∧ ∃ g, jMM m ad M0 (s15 S g) M') := by
  have h' : jMM m ad M0 (s15 S (S.2.1 15)) M := by rw [s15_self]; exact h
  unfold jf_X1_rank aRank
  refine jo_rd (jM_cl h) (jo_eq (jr_isComplex h hC hW) (jo_bI (fun c0 => jo_ret ⟨?_, _, h'⟩) (fun c0 => jo_eq (in32 (a := 1) (b := 2) rfl rfl) (jo_bI (fun c1 => jo_ret ⟨?_, _, h'⟩) (fun c1 => jo_primeM (fun c2 => jo_ret ⟨?_, _, h'⟩) (fun c2 => ?_))))))
  · rw [if_pos c0]; rfl
  · rw [if_neg (fun y => y c0), if_neg (fun y => c1 y.1)]; rfl
  · rw [if_neg (fun y => y c0), if_neg (fun y => c2 y.2)]; rfl
  · obtain ⟨d', h1, rfl, h3⟩ := n_of (n := 2) (show 0 ≤ d.toInt by omega) c1.2 (by decide)
    obtain ⟨p', rfl, h4, h5⟩ := isP0_of c2
    refine jo_rd (jM_cl h) (jo_bd (jo_mono (jm_rankFor h' hC hW hN (by omega) h4) ?_))
    rintro x M1 ⟨rfl, w, h1⟩
    refine jo_ret ⟨?_, w, h1⟩
    rw [if_neg (fun y => y c0), if_pos ⟨c1, c2⟩, tn_nI (by omega), tn_nI (by omega)]
theorem jRM_15 {f : Nat → Int64} (h : jRM T S) : jRM T (s15 S f) := h
theorem jb_rank (hN : 1180591620717411303424 < N) (hS : ∀ C, jWf C → jSm C) {d p : Int32} : jBoth x m ad 30 150 (jf_X0_rank N x d p) (jf_X1_rank N m d p) := jBoth_act (fun T => (aRank (sC T) d p, T)) (fun _ _ h hM hE hW => jx_rank h hM hE hW (hS _ hW.1) hN) (fun _ _ _ h hT hW => jo_mono (jm_rank h hT.1 hW.1 (by omega)) (fun _ _ g => ⟨g.1, _, g.2.choose_spec, jRM_15 hT⟩)) (fun _ h => h)
end RX
