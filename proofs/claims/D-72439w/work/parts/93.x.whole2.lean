/-! PLAIN LAW, 93.x: whole on both sides -/
section WI
variable {N x m : Nat} {ad : Nat → Nat} {md : Nat → Bool} {c s : Nat} {M0 M : Mem} {T : ST} {C : CX} {S : MS} {f : Nat → Int64}
noncomputable def aWhole (C : CX) (i w : Int32) : Int32 := if ¬ 0 < cP C then STATE else if ¬ (0 ≤ i.toInt ∧ i.toInt ≤ 2) then BAD else if ¬ (0 ≤ w.toInt ∧ w.toInt ≤ 2) then BAD else
  if w = 0 then (if cCyc C (tn i) = true then 1 else 0) else if w = 2 then cOrd C (tn i) else if cOrd C (tn i) = 1 then 1 else 0
theorem jx_isCycle {a i : Nat} (h : jCx a C M.2.2) (hW : jWf C) (hN : 100 < N) (hi : i < 3) : (jf_X9_isCycle N a (nI i)).1 M = some (bI (cCyc C i = true), M) := by
  have h5 := hW.1
  obtain ⟨eA, fA, cA, q1, _⟩ := id h
  refine jo_out ?_
  unfold jf_X9_isCycle jf_X9_isCycle_k4_35
  refine jo_eq (jl_all (n := cP C) (fun p => decide (cEnd C i p = 0)) ?_ ?_ (by omega)) (jo_ck (b01 _) (jo_ret ⟨rfl, rfl⟩))
  · intro k z hk
    refine jo_out ?_
    unfold jf_X9_isCycle_L4 jf_X9_isCycle_j27
    refine jo_fI q1 (by decide) rfl (jo_f (by dsimp only; rw [nI_leI (by omega) (by omega)]; omega) (jo_cl q1 (jo_eq (jx_end h hW hN hi (by omega)) ?_)))
    have b := cEnd_le hW (c := i) (p := k) hi
    dsimp only
    rw [nI_1]
    by_cases c0 : cEnd C i k = 0
    · refine jo_t (by rw [c0]; rfl) (jo_ret ⟨?_, rfl⟩)
      rw [c0]
      cases z <;> rfl
    · refine jo_f (show ¬ iI (cEnd C i k) = iI 0 by rw [iI_eqI (by omega) (by omega)]; exact c0) (jo_ret ⟨?_, rfl⟩)
      rw [show decide (cEnd C i k = 0) = false by simp [c0]]
      cases z <;> rfl
  · intro z
    refine jo_out ?_
    unfold jf_X9_isCycle_L4
    exact jo_fI q1 (by decide) rfl (jo_t (by dsimp only; rw [nI_leI (by omega) (by omega)]; omega) (jo_ret ⟨rfl, rfl⟩))
theorem cs16 : ∀ K, K < 5 → nI (2 ^ K - 1) ||| (16 : Int32) = nI (2 ^ K - 1 + 16) ∧ sN (2 ^ K - 1 + 16) = K + 1 ∧ (∀ j, j < K → nt (2 ^ K - 1 + 16) j = j) ∧ nt (2 ^ K - 1 + 16) K = 4 ∧ 2 ^ K - 1 + 16 < 64 ∧ ∀ j, j < 6 → (2 ^ K - 1 + 16).testBit j = true → j < K ∨ j = 4 := by decide +kernel
theorem jm_gO (h : jMM m ad M0 (s15 S f) M) (hC : jEnc C (S.1 0)) (hW : jWf C) (hN : 9223372036854775809 < N) {i cs K k : Nat} (hi : i < 3) (hcs : cs < 64) (hk : k ≤ 5) (hK : sN cs = K) (hok : ∀ j, cs.testBit j = true → j < cCols C 2 ∨ (2 = 2 ∧ j = 4)) {A : Nat → Nat → Int} (hA : ∀ x y, x < cRows C 2 → y < K → cSub C 2 i cs x y = A x y) : jo (jf_X1_minorsOf N m (nI 2) (nI cs) (nI k) (nI i)) M (fun x M' => (x = jI (gN k (cRows C 2) K A) ∧ gN k (cRows C 2) K A < 9223372036854775808 ∧ jG k (cRows C 2) K A (gN k (cRows C 2) K A)) ∧ ∃ g, jMM m ad M0 (s15 S g) M') := by
  refine jo_mono (jm_minorsOf (d := 2) (c := i) h hC hW hN (.inr rfl) hi hcs hk hok) ?_
  rintro x M1 ⟨⟨g, rfl, hg⟩, hw⟩
  have hG : jG k (cRows C 2) K A (g : Int) := ⟨by omega, fun d => by
    rw [← hg.2 d]
    refine Iff.trans ?_ (vS_dv hW hcs).symm
    rw [hK]
    exact ⟨dv_cg (fun i j hi hj => (hA i j hi hj).symm), dv_cg hA⟩⟩
  have e := gN_eq hG
  exact ⟨⟨by rw [← e], by rw [← e]; have := hg.1; omega, by rw [← e]; exact hG⟩, hw⟩
theorem jm_order (h : jMM m ad M0 (s15 S f) M) (hC : jEnc C (S.1 0)) (hW : jWf C) (hN : 9223372036854775809 < N) {i : Nat} (hi : i < 3) : jo (jf_X1_order N m (nI i)) M (fun x M' => x = cOrd C i ∧ ∃ g, jMM m ad M0 (s15 S g) M') := by
  have h4 := cF4 hW
  have hk6 := cCols_le hW (d := 2)
  have h5 : cCols C 2 < 5 := by omega
  obtain ⟨z1, z2, z3, z4, z5, z6⟩ := cs16 (cCols C 2) h5
  have z7 : ∀ j, (2 ^ cCols C 2 - 1 + 16).testBit j = true → j < cCols C 2 ∨ (2 = 2 ∧ j = 4) := fun j hj => by
    have := tb_lt (R := 6) (s := 2 ^ cCols C 2 - 1 + 16) z5 hj
    rcases z6 j this hj with c | c
    · exact .inl c
    · exact .inr ⟨rfl, c⟩
  have A1 : ∀ x y, x < cRows C 2 → y < cCols C 2 + 1 → cSub C 2 i (2 ^ cCols C 2 - 1 + 16) x y = tWc C i x y := by
    intro x y hx hy
    unfold cSub cWd tWc andT
    by_cases c : y < cCols C 2
    · rw [z3 y c, if_neg (by omega), if_pos c]
    · obtain rfl : y = cCols C 2 := by omega
      rw [z4, if_pos ⟨rfl, rfl⟩, if_neg c]
  unfold jf_X1_order
  refine jo_rd (jM_cl h) (jo_bd (jo_mono (jm_rankAll (d := 2) h hC hW hN (.inr rfl)) ?_))
  rintro r M1 ⟨⟨k, rfl, hk⟩, w1, h1⟩
  have hk4 : k ≤ 4 := by have := hk.2.1; omega
  refine jo_rd (jM_cl h1) (jo_eq (jr_allColumns h1 hC hW (.inr rfl)) (jo_rd (jM_cl h1) ?_))
  rw [z1]
  refine jo_bd (jo_mono (jm_rankOf (d := 2) (c := i) h1 hC hW hN (.inr rfl) hi z5 (.inr (by omega)) z7) ?_)
  rintro r M2 ⟨⟨k', rfl, hk'⟩, w2, h2⟩
  rw [z2] at hk'
  have hk0 := isRk_cg A1 hk'
  have hk5 : k' ≤ 5 := by have := hk0.2.1; omega
  unfold cOrd
  rw [← rkN_eq hk0, ← rkN_eq hk]
  by_cases c : k' ≤ k
  · refine jo_t (by rw [nI_leI (by omega) (by omega)]; exact c) (jo_rd (jM_cl h2) (jo_eq (jr_allColumns h2 hC hW (.inr rfl)) (jo_rd (jM_cl h2) ?_)))
    refine jo_bd (jo_mono (jm_gO h2 hC hW hN hi (all_lt hW) (show k ≤ 5 by omega) (sN_all _ (by omega)).1 (fun j hj => .inl (tb_all hj)) (cSub_all hW (.inr rfl))) ?_)
    rintro r M3 ⟨⟨rfl, l1, l2⟩, w3, h3⟩
    refine jo_rd (jM_cl h3) (jo_bd (jo_mono (jm_gO h3 hC hW hN hi z5 (show k ≤ 5 by omega) z2 z7 A1) ?_))
    rintro r M4 ⟨⟨rfl, l3, l4⟩, w4, h4⟩
    have n1 := l2.1
    have n2 := l4.1
    have n3 : gN k (cRows C 2) (cCols C 2 + 1) (tWc C i) ≠ 0 := fun y => by
      have z : dv k (cRows C 2) (cCols C 2 + 1) (tWc C i) 0 := (l4.2 0).mpr (by rw [y]; exact Int.dvd_refl 0)
      refine hk.2.2.1 (fun σ τ hs ht => ?_)
      have := z σ τ hs (fun b hb => by have := ht b hb; omega)
      rwa [show mn k (fun a b => tWc C i (σ a) (τ b)) = mn k (fun a b => cTab C 2 (σ a) (τ b)) from mn_cg (fun a b ha hb => by unfold tWc andT; rw [if_pos (ht b hb)])] at this
    refine jo_ck (by rw [jI_0 (by omega)]; exact n3) (jo_ret ⟨?_, w4, h4⟩)
    rw [if_pos c, jI_tdv (by omega) (by omega), Int.tdiv_eq_ediv_of_nonneg n1]
  · exact jo_f (by rw [nI_leI (by omega) (by omega)]; exact c) (jo_ret ⟨by rw [if_neg c], w2, h2⟩)
theorem jx_whole (h : jRX x T (jMk md M.2.2)) (hM : ∀ a, md a = true → a < M0.1) (hE : jExt md c s M0 M) (hW : jWfS T) (hS : jSm3 (sC T)) (hN : 1180591620717411303424 < N) {d w : Int32} : jo (jf_X0_whole N x d w) M (jOX x md (c + 30) (s + 150) M0 (aWhole (sC T) d w, T)) := by
  have hR := h
  have hE' := hE.mono (show c ≤ c + 30 by omega) (show s ≤ s + 150 by omega)
  obtain ⟨its, tp, pa, im, tf, pf, mf, h⟩ := h
  unfold jf_X0_whole aWhole
  refine jo_fQ (r := its) (mkg h.ob).2 (by decide) rfl ?_
  have hcx := h.cx
  cases its with
  | none =>
    have z : cP (sC T) = 0 := hcx.1
    refine jo_t rfl (jo_ret ⟨?_, hR, hE'⟩)
    dsimp only
    rw [if_pos (by omega)]; rfl
  | some q =>
    obtain ⟨hp, hq⟩ : 0 < cP (sC T) ∧ jCx q (sC T) (jMk md M.2.2) := hcx
    obtain ⟨va, ha⟩ := hq.ob
    refine jo_ne (jo_eq jx_isChain (jo_bI (fun c1 => jo_ret ⟨?_, hR, hE'⟩) (fun c1 => jo_eq (in32X (a := 0) (b := 2) rfl rfl) (jo_bI (fun c2 => jo_ret ⟨?_, hR, hE'⟩) (fun c2 => ?_)))))
    · dsimp only
      rw [if_neg (fun y => y hp), if_pos c1]; rfl
    · dsimp only
      rw [if_neg (fun y => y hp), if_neg (fun y => y c1), if_pos c2]; rfl
    · obtain ⟨i, h1, rfl, h3⟩ := n_of (n := 2) c1.1 c1.2 (by decide)
      rw [if_neg (show ¬ ¬ 0 < cP (sC T) from fun y => y hp), if_neg (show ¬ ¬ _ from fun y => y c1), if_neg (show ¬ ¬ _ from fun y => y c2), tn_nI (by omega)]
      by_cases c3 : w = 0
      · refine jo_t c3 (jo_fR (mkg h.ob).2 (by decide) rfl (jo_cl (mkg ha).2 (jo_eq (jx_isCycle (hq.kp jMk.sub.kp) hW.1 (by omega) (by omega)) ?_)))
        rw [if_pos c3]
        exact jo_bI (fun c4 => jo_ret ⟨by rw [if_neg c4], hR, hE'⟩) (fun c4 => jo_ret ⟨by rw [if_pos c4], hR, hE'⟩)
      · refine jo_f c3 (jo_fR (mkg h.ob).2 (by decide) rfl (jo_cl (mkg ha).2 (jo_bd (jo_mono (jx_order hM hE hq hW.1 hS (by omega) hN) ?_))))
        rintro r M1 ⟨rfl, s1, E1⟩
        rw [if_neg c3]
        by_cases c4 : w = 2
        · exact jo_t c4 (jo_ret ⟨by rw [if_pos c4], hR.sub s1, E1⟩)
        · refine jo_f c4 ?_
          rw [if_neg c4]
          by_cases c5 : cOrd (sC T) i = 1
          · exact jo_t c5 (jo_ret ⟨by rw [if_pos c5], hR.sub s1, E1⟩)
          · exact jo_f c5 (jo_ret ⟨by rw [if_neg c5], hR.sub s1, E1⟩)
theorem jm_whole (h : jMM m ad M0 S M) (hC : jEnc C (S.1 0)) (hW : jWf C) (hN : 9223372036854775809 < N) {d w : Int32} : jo (jf_X1_whole N m d w) M (fun r M' => r = aWhole C d w ∧ ∃ g, jMM m ad M0 (s15 S g) M') := by
  have h' : jMM m ad M0 (s15 S (S.2.1 15)) M := by rw [s15_self]; exact h
  unfold jf_X1_whole aWhole
  refine jo_rd (jM_cl h) (jo_eq (jr_isComplex h hC hW) (jo_bI (fun c0 => jo_ret ⟨?_, _, h'⟩) (fun c0 => jo_eq (in32 (a := 0) (b := 2) rfl rfl) (jo_bI (fun c1 => jo_ret ⟨?_, _, h'⟩) (fun c1 => jo_eq (in32 (a := 0) (b := 2) rfl rfl) (jo_bI (fun c2 => jo_ret ⟨?_, _, h'⟩) (fun c2 => ?_)))))))
  · rw [if_pos c0]; rfl
  · rw [if_neg (fun y => y c0), if_pos c1]; rfl
  · rw [if_neg (fun y => y c0), if_neg (fun y => y c1), if_pos c2]; rfl
  · obtain ⟨i, h1, rfl, h3⟩ := n_of (n := 2) c1.1 c1.2 (by decide)
    rw [if_neg (show ¬ ¬ 0 < cP C from fun y => y c0), if_neg (show ¬ ¬ _ from fun y => y c1), if_neg (show ¬ ¬ _ from fun y => y c2), tn_nI (by omega)]
    by_cases c3 : w = 0
    · refine jo_t c3 (jo_rd (jM_cl h) (jo_eq (jr_isCycle h hC hW (by omega) (by omega)) ?_))
      rw [if_pos c3]
      exact jo_bI (fun c4 => jo_ret ⟨by rw [if_neg c4], _, h'⟩) (fun c4 => jo_ret ⟨by rw [if_pos c4], _, h'⟩)
    · refine jo_f c3 ?_
      rw [if_neg c3]
      by_cases c4 : w = 2
      · refine jo_t c4 (jo_rd (jM_cl h) (jo_bd (jo_mono (jm_order h' hC hW hN (by omega)) ?_)))
        rintro r M1 ⟨rfl, w1⟩
        exact jo_ret ⟨by rw [if_pos c4], w1⟩
      · refine jo_f c4 (jo_rd (jM_cl h) (jo_bd (jo_mono (jm_order h' hC hW hN (by omega)) ?_)))
        rintro r M1 ⟨rfl, w1⟩
        rw [if_neg c4]
        by_cases c5 : cOrd C i = 1
        · exact jo_t c5 (jo_ret ⟨by rw [if_pos c5], w1⟩)
        · exact jo_f c5 (jo_ret ⟨by rw [if_neg c5], w1⟩)
theorem jb_whole (hN : 1180591620717411303424 < N) (hS : ∀ C, jWf C → jSm3 C) {d p : Int32} : jBoth x m ad 30 150 (jf_X0_whole N x d p) (jf_X1_whole N m d p) := jBoth_act (fun T => (aWhole (sC T) d p, T)) (fun _ _ h hM hE hW => jx_whole h hM hE hW (hS _ hW.1) hN) (fun _ _ _ h hT hW => jo_mono (jm_whole h hT.1 hW.1 (by omega)) (fun _ _ g => ⟨g.1, _, g.2.choose_spec, jRM_15 hT⟩)) (fun _ h => h)
end WI
