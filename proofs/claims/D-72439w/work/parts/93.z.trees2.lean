/-! PLAIN LAW, 93.z: trees on both sides -/
section TS
variable {N x m : Nat} {ad : Nat → Nat} {md : Nat → Bool} {c s : Nat} {M0 M : Mem} {T : ST} {C : CX} {S : MS} {f : Nat → Int64}
theorem smT_subd (hW : jWf C) {d b : Nat} (hd : d = 1 ∨ d = 2) (hb : b < 2 ^ cCols C d) : ∀ i j, i < cRows C d → j < sN b → cSub C d 0 b i j = smT (cTab C d) b i j := by
  intro i j hi hj
  rcases hd with rfl | rfl
  · unfold cSub cWd smT
    rw [if_neg (fun y => absurd y.1 (by decide))]
  · exact smT_sub hW hb i j hi hj
theorem jm_counts (h : jMM m ad M0 (s15 S f) M) (hC : jEnc C (S.1 0)) (hW : jWf C) (hN : 9223372036854775809 < N) {d b : Nat} (hd : d = 1 ∨ d = 2) (hb : b < 2 ^ cCols C d) (hr : d = 2 → sN b = rkN (cRows C 2) (sN b) (smT (cTab C 2) b)) : jo (jf_X1_counts N m (nI d) (nI b)) M (fun x M' => x = jI (trV C d 1 b) ∧ ∃ g, jMM m ad M0 (s15 S g) M') := by
  have hk6 := cCols_le hW (d := d)
  have pp : 2 ^ cCols C d ≤ 64 := Nat.pow_le_pow_right (n := 2) (by decide) hk6
  have h64 : b < 64 := by omega
  unfold jf_X1_counts
  refine jo_bd (jo_mono (jo_up (cCols C d) (fun i z M' => M' = M ∧ z = (jI (wP C d b i), nI i)) (fun r M' => M' = M ∧ r = jI (wP C d b (cCols C d))) ?_ ?_ N 0 _ M ⟨rfl, rfl⟩ (Nat.zero_le _) (by omega)) ?_)
  · rintro i z M' hi ⟨rfl, rfl⟩
    unfold jf_X1_counts_L5 jf_X1_counts_j40
    refine jo_rd (jM_cl h) (jo_eq (jr_cols h hC hd) (jo_f (by rw [nI_leI (by omega) (by omega)]; omega) (jo_eq (jr_has h64 (by omega)) (jo_bI (fun c => ?_) (fun c => ?_)))))
    · refine jo_ret ⟨rfl, ?_⟩
      rw [nI_1]
      unfold wP
      rw [pr_succ, if_neg c, show (1 : Int64) = jI 1 from rfl, jI_mul]
    · refine jo_rd (jM_fR h (k := 0) rfl) (jo_eq (jr_wt h hC hW hd hi) (jo_ret ⟨rfl, ?_⟩))
      have := cWt_lt hW hd hi
      unfold wP
      rw [nI_1, pr_succ, if_pos c, show nI (cWt C d i) = iI ((cWt C d i : Nat) : Int) from rfl, iI_l (by omega) (by omega), jI_mul]
  · rintro z M' ⟨rfl, rfl⟩
    unfold jf_X1_counts_L5
    exact jo_rd (jM_cl h) (jo_eq (jr_cols h hC hd) (jo_t (by rw [nI_leI (by omega) (by omega)]; omega) (jo_ret ⟨rfl, rfl⟩)))
  · rintro r M1 ⟨rfl, rfl⟩
    unfold jf_X1_counts_k5_48 jf_X1_counts_j68 trV
    rw [if_neg (show ¬ (1 : Nat) = 0 by decide)]
    by_cases d2 : d = 2
    · subst d2
      have h4 := cF4 hW
      have := sN_K _ (by omega) b hb
      refine jo_t rfl (jo_eq (jr_ones h64 (by omega)) (jo_rd (jM_cl h) (jo_bd (jo_mono (jm_gN h hC hW hN hb (show sN b ≤ 4 by omega)) ?_))))
      rintro r M2 ⟨⟨rfl, _⟩, w2⟩
      refine jo_ret ⟨?_, w2⟩
      rw [if_pos rfl, jI_mul, jI_mul]
      unfold tT
      rw [← hr rfl]
    · refine jo_f (by rw [show (2 : Int32) = nI 2 from rfl, nI_eq (by omega) (by omega)]; exact d2) (jo_ret ⟨?_, f, h⟩)
      rw [if_neg d2, show (1 : Int64) = jI 1 from rfl, jI_mul, jI_mul]
theorem jm_trees9 (h : jMM m ad M0 (s15 S f) M) (hC : jEnc C (S.1 0)) (hW : jWf C) (hN : 9223372036854775809 < N) {d v : Nat} (hd : d = 1 ∨ d = 2) (hv : v = 0 ∨ v = 1) : jo (jm_rd (jm_cl 1 (some m)) fun a17 => jm_bd (jf_X1_rankAll N a17 (nI d)) fun x14 => jm_bd (jm_it (fun z => jf_X1_trees_L49 N m (nI d) (nI v) x14 z.1 z.2) N ((0 : Int64), (0 : Int32))) fun y => jf_X1_trees_k49_106 N y) M (fun r M' => r = jI (trS C d v) ∧ ∃ g, jMM m ad M0 (s15 S g) M') := by
  have hk6 := cCols_le hW (d := d)
  have pp : 2 ^ cCols C d ≤ 64 := Nat.pow_le_pow_right (n := 2) (by decide) hk6
  have p1 : 0 < 2 ^ cCols C d := Nat.pow_pos (by decide)
  refine jo_rd (jM_cl h) (jo_bd (jo_mono (jm_rankAll h hC hW hN hd) ?_))
  rintro r M1 ⟨⟨k, rfl, hk⟩, w1, h1⟩
  have hkk : k = trR C d := rkN_eq hk
  have k6 : k ≤ 6 := Nat.le_trans hk.2.1 hk6
  refine jo_bd (jo_mono (jo_up (2 ^ cCols C d) (fun i z M' => z = (jI (jsum i (fun s => @ite Int (sN s = trR C d ∧ rkN (cRows C d) (sN s) (smT (cTab C d) s) = trR C d) (Classical.propDecidable _) (trV C d v s) 0)), nI i) ∧ ∃ g, jMM m ad M0 (s15 S g) M') (fun r M' => r = jI (trS C d v) ∧ ∃ g, jMM m ad M0 (s15 S g) M') ?_ ?_ N 0 _ M1 ⟨rfl, w1, h1⟩ (Nat.zero_le _) (by omega)) ?_)
  · rintro b z M4 hb ⟨rfl, w4, h4⟩
    have h64 : b < 64 := by omega
    have hsN : sN b ≤ cCols C d := sN_K _ (by omega) b hb
    unfold jf_X1_trees_L49 jf_X1_trees_j97
    refine jo_rd (jM_cl h4) (jo_eq (jr_allColumns h4 hC hW hd) (jo_f (by rw [nI_ltI (by omega) (by omega)]; omega) (jo_eq (jr_ones h64 (by omega)) ?_)))
    have skip : ∀ M5 : Mem, (∃ g, jMM m ad M0 (s15 S g) M5) → ∀ t1 : Int, t1 = (@ite Int (sN b = trR C d ∧ rkN (cRows C d) (sN b) (smT (cTab C d) b) = trR C d) (Classical.propDecidable _) (trV C d v b) 0) → jo (jf_X1_trees_j100 N m (nI d) (nI v) (nI k) (jI (jsum b (fun s => @ite Int (sN s = trR C d ∧ rkN (cRows C d) (sN s) (smT (cTab C d) s) = trR C d) (Classical.propDecidable _) (trV C d v s) 0)) + jI t1) (nI b)) M5 (fun z M' => z = .inl (jI (jsum (b + 1) (fun s => @ite Int (sN s = trR C d ∧ rkN (cRows C d) (sN s) (smT (cTab C d) s) = trR C d) (Classical.propDecidable _) (trV C d v s) 0)), nI (b + 1)) ∧ ∃ g, jMM m ad M0 (s15 S g) M') := by
      intro M5 h5 t1 ht1
      unfold jf_X1_trees_j100
      refine jo_ret ⟨?_, h5⟩
      rw [nI_1, ds_succ, jI_add', ht1]
    have skip0 : ∀ M5 : Mem, (∃ g, jMM m ad M0 (s15 S g) M5) → ¬ (sN b = trR C d ∧ rkN (cRows C d) (sN b) (smT (cTab C d) b) = trR C d) → jo (jf_X1_trees_j100 N m (nI d) (nI v) (nI k) (jI (jsum b (fun s => @ite Int (sN s = trR C d ∧ rkN (cRows C d) (sN s) (smT (cTab C d) s) = trR C d) (Classical.propDecidable _) (trV C d v s) 0))) (nI b)) M5 (fun z M' => z = .inl (jI (jsum (b + 1) (fun s => @ite Int (sN s = trR C d ∧ rkN (cRows C d) (sN s) (smT (cTab C d) s) = trR C d) (Classical.propDecidable _) (trV C d v s) 0)), nI (b + 1)) ∧ ∃ g, jMM m ad M0 (s15 S g) M') := by
      intro M5 h5 hn
      have := skip M5 h5 0 (by rw [if_neg hn])
      rwa [jI_add', Int.add_zero] at this
    by_cases c1 : sN b = k
    · refine jo_t (by rw [c1]) (jo_rd (jM_cl h4) (jo_bd (jo_mono (jm_rankOf (c := 0) h4 hC hW hN hd (by decide) h64 (by have := rank5 hW hd; omega) (fun j hj => .inl (tb_lt hb hj))) ?_)))
      rintro r M5 ⟨⟨k', rfl, hk'⟩, w5, h5⟩
      have hkk' : k' = rkN (cRows C d) (sN b) (smT (cTab C d) b) := rkN_eq (isRk_cg (smT_subd hW hd hb) hk')
      have k'6 : k' ≤ 6 := Nat.le_trans hk'.2.1 (by omega)
      by_cases c2 : k' = k
      · have hy : sN b = trR C d ∧ rkN (cRows C d) (sN b) (smT (cTab C d) b) = trR C d := ⟨by omega, by omega⟩
        refine jo_t (by rw [c2]) ?_
        rcases hv with rfl | rfl
        · refine jo_t rfl (jo_mono (skip M5 ⟨w5, h5⟩ 1 (by rw [if_pos hy]; rfl)) ?_)
          rintro z M7 ⟨rfl, z2⟩
          exact ⟨rfl, z2⟩
        · refine jo_f (by decide) (jo_rd (jM_cl h5) (jo_bd (jo_mono (jm_counts h5 hC hW hN hd hb (fun d2 => by subst d2; omega)) ?_)))
          rintro r M6 ⟨rfl, h6⟩
          refine jo_mono (skip M6 h6 _ (by rw [if_pos hy])) ?_
          rintro z M7 ⟨rfl, z2⟩
          exact ⟨rfl, z2⟩
      · refine jo_f (by rw [nI_eq (by omega) (by omega)]; exact c2) (jo_mono (skip0 M5 ⟨w5, h5⟩ (fun y => c2 (by omega))) ?_)
        rintro z M7 ⟨rfl, z2⟩
        exact ⟨rfl, z2⟩
    · refine jo_f (by rw [nI_eq (by omega) (by omega)]; exact c1) (jo_mono (skip0 M4 ⟨w4, h4⟩ (fun y => c1 (by omega))) ?_)
      rintro z M7 ⟨rfl, z2⟩
      exact ⟨rfl, z2⟩
  · rintro z M4 ⟨rfl, w4, h4⟩
    unfold jf_X1_trees_L49
    exact jo_rd (jM_cl h4) (jo_eq (jr_allColumns h4 hC hW hd) (jo_t (by rw [nI_ltI (by omega) (by omega)]; omega) (jo_ret ⟨rfl, w4, h4⟩)))
  · rintro r M4 ⟨rfl, h4⟩
    unfold jf_X1_trees_k49_106
    exact jo_ret ⟨rfl, h4⟩
theorem jBoth_val {α : Type} {p0 p1 : jm_P α} (v : ST → α)
    (h0 : ∀ T M, jRX x T (jMk (mdf m ad) M.2.2) → (∀ a, mdf m ad a = true → a < M.1) → jExt (mdf m ad) 0 0 M M → jWfS T → jo p0 M (fun r M' => r = v T ∧ jRX x T (jMk (mdf m ad) M'.2.2) ∧ jExt (mdf m ad) (0 + c) (0 + s) M M'))
    (h1 : ∀ T S M, jMM m ad M S M → jRM T S → jWfS T → jo p1 M (fun r M' => r = v T ∧ ∃ g, jMM m ad M (s15 S g) M')) : jBoth x m ad c s p0 p1 := by
  refine jBoth_gen v id (fun T M hI => ?_) (fun T S M h hT hW => jo_mono (h1 T S M h hT hW) (fun _ _ g => ⟨g.1, _, g.2.choose_spec, jRM_15 hT⟩)) (fun _ h => h)
  obtain ⟨hR, -, -, hW, hn, hm⟩ := hI
  have := h0 T M hR hm (jExt.rf hn) hW
  rw [Nat.zero_add, Nat.zero_add] at this
  exact this
theorem jx_isHalf {p : Int32} : (jf_X0_isHalf N p).1 M = some (bI (0 ≤ p.toInt ∧ p.toInt ≤ 1), M) := by
  refine jo_out ?_
  unfold jf_X0_isHalf
  refine jo_eq (in32X (a := 0) (b := 1) rfl rfl) (jo_ck ?_ (jo_ret ⟨rfl, rfl⟩))
  unfold bI
  split
  · exact .inr rfl
  · exact .inl rfl
noncomputable def aTrees (C : CX) (d v : Int32) : Int64 := if ¬ 0 < cP C then -1000002 else if ¬ (1 ≤ d.toInt ∧ d.toInt ≤ 2) then -1000001 else if ¬ (0 ≤ v.toInt ∧ v.toInt ≤ 1) then -1000001 else jI (trS C (tn d) (tn v))
theorem jx_treesOp (h : jRX x T (jMk md M.2.2)) (hM : ∀ a, md a = true → a < M0.1) (hE : jExt md c s M0 M) (hW : jWfS T) (hS : jSm (sC T)) (hSS : jSmS (sC T)) (hN : 1180591620717411303424 < N) {d v : Int32} : jo (jf_X0_trees N x d v) M (fun r M' => r = aTrees (sC T) d v ∧ jRX x T (jMk md M'.2.2) ∧ jExt md (c + 5000) (s + 25000) M0 M') := by
  have hR := h
  have hE' := hE.mono (show c ≤ c + 5000 by omega) (show s ≤ s + 25000 by omega)
  obtain ⟨its, tp, pa, im, tf, pf, mf, h⟩ := h
  unfold jf_X0_trees aTrees
  refine jo_fQ (r := its) (mkg h.ob).2 (by decide) rfl ?_
  have hcx := h.cx
  cases its with
  | none =>
    have z : cP (sC T) = 0 := hcx.1
    refine jo_t rfl (jo_ret ⟨?_, hR, hE'⟩)
    rw [if_pos (by omega)]
  | some q =>
    obtain ⟨hp, hq⟩ : 0 < cP (sC T) ∧ jCx q (sC T) (jMk md M.2.2) := hcx
    obtain ⟨va, ha⟩ := hq.ob
    refine jo_ne (jo_eq (in32X (a := 1) (b := 2) rfl rfl) (jo_bI (fun c1 => jo_ret ⟨?_, hR, hE'⟩) (fun c1 => jo_eq jx_isHalf (jo_bI (fun c2 => jo_ret ⟨?_, hR, hE'⟩) (fun c2 => ?_)))))
    · rw [if_neg (fun y => y hp), if_pos c1]
    · rw [if_neg (fun y => y hp), if_neg (fun y => y c1), if_pos c2]
    · obtain ⟨d', h1, rfl, h3⟩ := n_of (n := 2) (show 0 ≤ d.toInt by omega) c1.2 (by decide)
      obtain ⟨v', h4, rfl, h5⟩ := n_of (n := 1) c2.1 c2.2 (by decide)
      refine jo_fR (mkg h.ob).2 (by decide) rfl (jo_cl (mkg ha).2 (jo_bd (jo_mono (jx_trees hM hE hq hW.1 hS hSS (by omega) (by omega) hN) ?_)))
      rintro r M1 ⟨rfl, s1, E1⟩
      refine jo_ret ⟨?_, hR.sub s1, E1⟩
      rw [if_neg (fun y => y hp), if_neg (fun y => y c1), if_neg (fun y => y c2), tn_nI (by omega), tn_nI (by omega)]
theorem jm_trees (h : jMM m ad M0 S M) (hC : jEnc C (S.1 0)) (hW : jWf C) (hN : 9223372036854775809 < N) {d v : Int32} : jo (jf_X1_trees N m d v) M (fun r M' => r = aTrees C d v ∧ ∃ g, jMM m ad M0 (s15 S g) M') := by
  have h' : jMM m ad M0 (s15 S (S.2.1 15)) M := by rw [s15_self]; exact h
  unfold jf_X1_trees aTrees
  refine jo_rd (jM_cl h) (jo_eq (jr_isComplex h hC hW) (jo_bI (fun c0 => jo_ret ⟨?_, _, h'⟩) (fun c0 => jo_eq (in32 (a := 1) (b := 2) rfl rfl) (jo_bI (fun c1 => jo_ret ⟨?_, _, h'⟩) (fun c1 => jo_eq (in32 (a := 0) (b := 1) rfl rfl) (jo_bI (fun c2 => jo_ret ⟨?_, _, h'⟩) (fun c2 => ?_)))))))
  · rw [if_pos c0]
  · rw [if_neg (fun y => y c0), if_pos c1]
  · rw [if_neg (fun y => y c0), if_neg (fun y => y c1), if_pos c2]
  · obtain ⟨d', h1, rfl, h3⟩ := n_of (n := 2) (show 0 ≤ d.toInt by omega) c1.2 (by decide)
    obtain ⟨v', h4, rfl, h5⟩ := n_of (n := 1) c2.1 c2.2 (by decide)
    rw [if_neg (fun y => y c0), if_neg (fun y => y c1), if_neg (fun y => y c2), tn_nI (by omega), tn_nI (by omega)]
    exact jm_trees9 h' hC hW hN (by omega) (by omega)
theorem jb_trees (hN : 1180591620717411303424 < N) (hS : ∀ C, jWf C → jSm C ∧ jSmS C) {d p : Int32} : jBoth x m ad 5000 25000 (jf_X0_trees N x d p) (jf_X1_trees N m d p) := jBoth_val (fun T => aTrees (sC T) d p) (fun _ _ h hM hE hW => jx_treesOp h hM hE hW (hS _ hW.1).1 (hS _ hW.1).2 hN) (fun _ _ _ h hT hW => jm_trees h hT.1 hW.1 (by omega))
end TS
