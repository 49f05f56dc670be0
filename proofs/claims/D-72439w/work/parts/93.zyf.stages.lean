/-! SIZES, 93.zyf: stages of rank 1, 2, 3 (no program in sight) -/
theorem npr_inj {m n : Nat} {f : Nat → Nat} {σ : Nat → Nat} (hf : ∀ a, a < m → 0 < f a) (hi : ij n σ) (hs : ∀ b, b < n → σ b < m) : npr n (fun b => f (σ b)) ≤ npr m f := by
  have aux : ∀ t, t ≤ n → ∃ g : Nat → Nat, npr m g = npr t (fun b => f (σ b)) ∧ (∀ a, a < m → g a ≤ f a) ∧ ∀ b, t ≤ b → b < n → g (σ b) = 1 := by
    intro t
    induction t with
    | zero =>
      intro _
      refine ⟨fun _ => 1, ?_, fun a ha => hf a ha, fun _ _ _ => rfl⟩
      rw [npr_c, Nat.one_pow]; rfl
    | succ t ih =>
      intro ht
      obtain ⟨g, g1, g2, g3⟩ := ih (by omega)
      refine ⟨fun a => if a = σ t then f (σ t) else g a, ?_, fun a ha => ?_, fun b hb hbn => ?_⟩
      · have u := npr_up (n := m) (t := σ t) (x := f (σ t)) (f := g) (hs t (by omega))
        rw [g3 t (Nat.le_refl t) (by omega), Nat.mul_one, g1] at u
        rw [u]; rfl
      · dsimp only
        split
        · rename_i e; rw [e]; exact Nat.le_refl _
        · exact g2 a ha
      · dsimp only
        rw [if_neg (fun y => by have := hi b t hbn (by omega) y; omega)]
        exact g3 b (by omega) hbn
  obtain ⟨g, g1, g2, -⟩ := aux n (Nat.le_refl n)
  rw [← g1]
  exact npr_le g2
theorem topP_bd {n R K' k Kc : Nat} {F : Nat → Nat → Int} {o o' : Nat → Nat} (ho : ∀ l, k ≤ l → l < R → 0 < o l) (ho' : ∀ l, k ≤ l → l < K' → 0 < o' l) (h : topP n R K' k F o o' Kc) : bdM n R K' k F Kc := by
  intro σ τ hs ht
  by_cases is : ij n σ
  · by_cases it : ij n τ
    · have b := h σ τ hs ht
      have e1 := npr_inj (m := R - k) (n := n) (f := fun a => o (k + a)) (σ := fun a => σ a - k) (fun a ha => ho _ (by omega) (by omega)) (fun a b ha hb e => is a b ha hb (by dsimp only at e; have := hs a ha; have := hs b hb; omega)) (fun a ha => by have := hs a ha; omega)
      have e2 := npr_inj (m := K' - k) (n := n) (f := fun a => o' (k + a)) (σ := fun a => τ a - k) (fun a ha => ho' _ (by omega) (by omega)) (fun a b ha hb e => it a b ha hb (by dsimp only at e; have := ht a ha; have := ht b hb; omega)) (fun a ha => by have := ht a ha; omega)
      rw [npr_cg (g := fun a => o (σ a)) (fun a ha => by have := hs a ha; rw [show k + (σ a - k) = σ a by omega])] at e1
      rw [npr_cg (g := fun a => o' (τ a)) (fun a ha => by have := ht a ha; rw [show k + (τ a - k) = τ a by omega])] at e2
      have w1 : 0 < Wt k R o := npr_pos fun a ha => ho _ (by omega) (by omega)
      have w2 : 0 < Wt k K' o' := npr_pos fun a ha => ho' _ (by omega) (by omega)
      have := Nat.le_trans b (Nat.mul_le_mul_left Kc (Nat.mul_le_mul e1 e2))
      exact Nat.le_of_mul_le_mul_right this (Nat.mul_pos w1 w2)
    · rw [mn_nijc (A := F) it]; exact Nat.zero_le _
  · rw [mn_nij (A := F) is]; exact Nat.zero_le _
theorem bd_up {n R K' k : Nat} {F : Nat → Nat → Int} (h : bdM n R K' k F 0) : bdM (n + 1) R K' k F 0 := by
  intro σ τ hs ht
  rw [mn_succ, ds_0 (fun i hi => ?_)]
  · exact Nat.le_refl 0
  · have := h (fun a => σ (dk i a)) (fun b => τ (b + 1)) (fun a ha => hs _ (dk_lt ha)) (fun b hb => ht _ (by omega))
    have z : mn n (fun a b => F (σ (dk i a)) (τ (b + 1))) = 0 := by omega
    rw [z, Int.mul_zero, Int.mul_zero]
/-- minors of size 2 under a failing clear of rows: a part of the next size's -/
theorem row_bd2 {R K' k N N1 : Nat} {G : Nat → Nat → Int} (hp : G k k ≠ 0) (hkR : k < R) (hkK : k < K') (h : bdM 2 R K' k G N) (h1 : bdM 3 R K' k G N1) : bdM 2 R K' k (rowP G k) (2 * N1 / (G k k).natAbs + N) := by
  intro σ τ hs ht
  have p0 : 0 < (G k k).natAbs := Int.natAbs_pos.mpr hp
  by_cases hi : ij 2 σ
  · by_cases hk : ∃ t, t < 2 ∧ σ t = k
    · obtain ⟨t, t1, t2⟩ := hk
      rw [rowP_thru t1 t2 hi (fun a ha => (hs a ha).1)]
      exact Nat.le_trans (h σ τ hs ht) (Nat.le_add_left _ _)
    · have gt : ∀ a, a < 2 → k < σ a := fun a ha => by
        have := (hs a ha).1
        have : σ a ≠ k := fun y => hk ⟨a, ha, y⟩
        omega
      have m1 := mn_piv (σ := σ) (τ := τ) (n := 2) hp
      have m2 := mn_rowP (σ := σ) (τ := τ) (n := 2) hp gt
      have b := h σ τ hs ht
      have b1 := h1 (cn k σ) (cn k τ) (inr_cn hkR hs) (inr_cn hkK ht)
      have cs := co_sum (n := 2) (T := fun t => G (σ t) k * xch G 2 k σ τ t) (T' := fun t => (G (σ t) k).tmod (G k k) * xch G 2 k σ τ t) (c := (G k k).natAbs * N) (fun t _ => mul_sg (tm_sg (x := G (σ t) k) (p := G k k))) (fun t ht' => by
        rw [Int.natAbs_mul]
        have x1 := h (fun a => if a = t then k else σ a) τ (inr_ch hkR hs) ht
        rw [← xch_eq] at x1
        exact Nat.mul_le_mul (Nat.le_of_lt (tmod_lt' hp)) x1)
      generalize mn (2 + 1) (fun a b => G (cn k σ a) (cn k τ b)) = Y at *
      generalize jsum 2 (fun t => G (σ t) k * xch G 2 k σ τ t) = sT at *
      generalize jsum 2 (fun t => (G (σ t) k).tmod (G k k) * xch G 2 k σ τ t) = sT' at *
      generalize mn 2 (fun a b => rowP G k (σ a) (τ b)) = X' at *
      generalize mn 2 (fun a b => G (σ a) (τ b)) = X at *
      have goal : (G k k).natAbs * X'.natAbs ≤ 2 * N1 + (G k k).natAbs * N := by
        rw [← Int.natAbs_mul, m2]
        have t2 := Int.natAbs_add_le Y sT'
        rcases cs with c1 | c1
        · have t1 : sT.natAbs ≤ (G k k).natAbs * N + Y.natAbs := by
            have e : sT = G k k * X - Y := by rw [m1]; omega
            rw [e]
            have u := Int.natAbs_sub_le (G k k * X) Y
            rw [Int.natAbs_mul] at u
            have := Nat.mul_le_mul_left (G k k).natAbs b
            omega
          omega
        · omega
      have g2 : (X'.natAbs - N) * (G k k).natAbs ≤ 2 * N1 := by
        rw [Nat.sub_mul, Nat.mul_comm X'.natAbs, Nat.mul_comm N]
        omega
      have := (Nat.le_div_iff_mul_le p0).mpr g2
      omega
  · rw [mn_nij (A := rowP G k) hi]; exact Nat.zero_le _
theorem col_bd2 {R K' k N N1 : Nat} {G : Nat → Nat → Int} (hp : G k k ≠ 0) (hkR : k < R) (hkK : k < K') (h : bdM 2 R K' k G N) (h1 : bdM 3 R K' k G N1) : bdM 2 R K' k (colP G k K') (2 * N1 / (G k k).natAbs + N) :=
  bdM_cg col_is (bdM_tr (row_bd2 (R := K') (K' := R) (G := fun i j => G j i) hp hkK hkR (bdM_tr h) (bdM_tr h1)))
/-- the least number other than 0 is at most q, or there is none -/
def lsB (R K' k : Nat) (F : Nat → Nat → Int) (q : Nat) : Prop := (∀ x y, inn R K' k x y → F x y = 0) ∨ ∃ x y, inn R K' k x y ∧ F x y ≠ 0 ∧ (F x y).natAbs ≤ q
theorem lsB_of {R K' k q : Nat} {F : Nat → Nat → Int} (h : bdM 1 R K' k F q) : lsB R K' k F q := by
  by_cases c : ∃ x y, inn R K' k x y ∧ F x y ≠ 0
  · obtain ⟨x, y, a, b⟩ := c
    exact .inr ⟨x, y, a, b, bdM_1.mp h x y a⟩
  · exact .inl fun x y a => Classical.byContradiction fun z => c ⟨x, y, a, z⟩
theorem lsB_lst {R K' k q i j : Nat} {F : Nat → Nat → Int} (h : lsB R K' k F q) (hl : isLst F R K' k i j) : (F i j).natAbs ≤ q := by
  rcases h with h | ⟨x, y, a, b, c⟩
  · exact absurd (h i j hl.1) hl.2.1
  · exact Nat.le_trans (hl.2.2 x y a b).1 c
def P1 (R K' E k : Nat) (F : Nat → Nat → Int) : Prop := bdM 2 R K' k F 0 ∧ bdM 1 R K' k F E
def P2 (R K' N q E k : Nat) (F : Nat → Nat → Int) : Prop := bdM 3 R K' k F 0 ∧ bdM 2 R K' k F N ∧ bdM 1 R K' k F E ∧ lsB R K' k F q
theorem sw_kk {F : Nat → Nat → Int} {k i j : Nat} : swc (swr F k i) k j k k = F i j := by
  rw [sw_eq]
  dsimp only
  unfold sw2
  rw [if_pos rfl, if_pos rfl]
theorem P1_step {R K' E k i j : Nat} {F : Nat → Nat → Int} (h : P1 R K' E k F) (hl : isLst F R K' k i j) : (clrd (swc (swr F k i) k j) R K' k → P1 R K' E (k + 1) (stp F K' k i j)) ∧ (¬ clrd (swc (swr F k i) k j) R K' k → P1 R K' E k (stp F K' k i j)) := by
  obtain ⟨⟨i1, i2, i3, i4⟩, i5, i6⟩ := hl
  have h2 := bdM_sw ⟨i1, i2⟩ ⟨i3, i4⟩ h.1
  have h1 := bdM_sw ⟨i1, i2⟩ ⟨i3, i4⟩ h.2
  have hp : swc (swr F k i) k j k k ≠ 0 := by rw [sw_kk]; exact i5
  unfold stp
  generalize swc (swr F k i) k j = G at *
  refine ⟨fun c => ⟨next_bd hp (by omega) (by omega) c (bd_up h2), bdM_mono (next_bd hp (by omega) (by omega) c h2) (Nat.zero_le _)⟩, fun c => ⟨van_step (by omega) (by omega) h2, ?_⟩⟩
  have e0 : rowP G k k k = G k k := rowP_row
  exact col_top (by rw [e0]; exact hp) (by omega) (by omega) (by decide) (row_top hp (by omega) (by omega) (by decide) h1 h2) (van_bd.mp (van_rowP (by omega) (van_bd.mpr h2)))
theorem P2_step {R K' N q E k i j : Nat} {F : Nat → Nat → Int} (hE : N + q ≤ E) (h : P2 R K' N q E k F) (hl : isLst F R K' k i j) : (clrd (swc (swr F k i) k j) R K' k → P1 R K' E (k + 1) (stp F K' k i j)) ∧ (¬ clrd (swc (swr F k i) k j) R K' k → P2 R K' N q E k (stp F K' k i j)) := by
  have hq := lsB_lst h.2.2.2 hl
  obtain ⟨⟨i1, i2, i3, i4⟩, i5, i6⟩ := hl
  have h3 := bdM_sw ⟨i1, i2⟩ ⟨i3, i4⟩ h.1
  have h2 := bdM_sw ⟨i1, i2⟩ ⟨i3, i4⟩ h.2.1
  have hp : swc (swr F k i) k j k k ≠ 0 := by rw [sw_kk]; exact i5
  rw [← sw_kk (F := F) (k := k) (i := i) (j := j)] at hq
  unfold stp
  generalize swc (swr F k i) k j = G at *
  refine ⟨fun c => ⟨next_bd hp (by omega) (by omega) c h3, bdM_mono (next_bd hp (by omega) (by omega) c h2) (by omega)⟩, fun c => ⟨van_step (by omega) (by omega) h3, ?_, ?_, ?_⟩⟩
  · have e0 : rowP G k k k = G k k := rowP_row
    exact col_top (by rw [e0]; exact hp) (by omega) (by omega) (by decide) (row_top hp (by omega) (by omega) (by decide) h2 h3) (van_bd.mp (van_rowP (by omega) (van_bd.mpr h3)))
  · exact bdM_1.mpr fun x y hxy => by
      have := step_ent hp (by omega) (by omega) h2 x y hxy
      omega
  · obtain ⟨a, b, c1, c2, c3⟩ := fail_ex (R := R) (K' := K') (by omega) (by omega) hp c
    exact .inr ⟨a, b, c1, c2, by omega⟩
/-- what is left to be added for pivots up to q -/
def hs (Kc q : Nat) : Nat := nsm q (fun i => 4 * Kc / (i + 1))
def P3 (R K' Kc T Q k : Nat) (F : Nat → Nat → Int) : Prop := ∃ o o' M q, van 4 R K' k F ∧ (∀ l, k ≤ l → l < R → 0 < o l ∧ rowOK R K' k F o l) ∧ (∀ l, k ≤ l → l < K' → 0 < o' l ∧ rowOK K' R k (fun x y => F y x) o' l) ∧ topP 3 R K' k F o o' Kc ∧ bdM 2 R K' k F M ∧ M + hs Kc q ≤ T ∧ q ≤ Q ∧ bdM 1 R K' k F (T + Q) ∧ lsB R K' k F q
theorem hs_mono {Kc p q : Nat} (hp : 0 < p) (h : p ≤ q) : hs Kc (p - 1) + 4 * Kc / p ≤ hs Kc q := by
  obtain ⟨p, rfl⟩ : ∃ n, p = n + 1 := ⟨p - 1, by omega⟩
  have mono : ∀ d, hs Kc (p + 1) ≤ hs Kc (p + 1 + d) := by
    intro d
    induction d with
    | zero => exact Nat.le_refl _
    | succ d ih => exact Nat.le_trans ih (Nat.le_add_right _ _)
  have := mono (q - (p + 1))
  rw [show p + 1 + (q - (p + 1)) = q by omega] at this
  exact this
theorem P3_step {R K' Kc T Q k i j : Nat} {F : Nat → Nat → Int} (h : P3 R K' Kc T Q k F) (hl : isLst F R K' k i j) : (clrd (swc (swr F k i) k j) R K' k → P2 R K' Kc T (Kc + T) (k + 1) (stp F K' k i j)) ∧ (¬ clrd (swc (swr F k i) k j) R K' k → P3 R K' Kc T Q k (stp F K' k i j)) := by
  obtain ⟨o, o', M, q, hv, ho, ho', ht, h2, hM, hqQ, h1, hls⟩ := h
  have hq := lsB_lst hls hl
  have hl' := hl
  obtain ⟨⟨i1, i2, i3, i4⟩, i5, i6⟩ := hl
  have b3 := topP_bd (fun l a b => (ho l a b).1) (fun l a b => (ho' l a b).1) ht
  have hp : swc (swr F k i) k j k k ≠ 0 := by rw [sw_kk]; exact i5
  have s2 := bdM_sw ⟨i1, i2⟩ ⟨i3, i4⟩ h2
  have s3 := bdM_sw ⟨i1, i2⟩ ⟨i3, i4⟩ b3
  have s4 := van_sw ⟨i1, i2⟩ ⟨i3, i4⟩ hv
  rw [← sw_kk (F := F) (k := k) (i := i) (j := j)] at hq
  refine ⟨fun c => ?_, fun c => ?_⟩
  · unfold stp
    generalize swc (swr F k i) k j = G at *
    have n2 := next_bd hp (by omega) (by omega) c s3
    have n1 := bdM_mono (next_bd hp (by omega) (by omega) c s2) (show M ≤ T by omega)
    exact ⟨next_bd hp (by omega) (by omega) c (van_bd.mp s4), n2, bdM_mono n1 (by omega), lsB_of n1⟩
  · obtain ⟨w, w', v1, v2, v3, v4⟩ := pot_step (by decide) hl' c hv ho ho' ht
    have p0 := Int.natAbs_pos.mpr hp
    have hh := hs_mono (Kc := Kc) p0 hq
    refine ⟨w, w', M + 4 * Kc / (swc (swr F k i) k j k k).natAbs, (swc (swr F k i) k j k k).natAbs - 1, v1, v2, v3, v4, ?_, by omega, by omega, ?_, ?_⟩
    · unfold stp
      have s3' : bdM 3 R K' k (rowP (swc (swr F k i) k j) k) Kc := by
        -- the potential behind the rows' clear
        obtain ⟨r1, r2⟩ := gr_of hl' (fun l a b => (ho l a b).2)
        have hG := topP_sw (n := 3) ⟨i1, i2⟩ ⟨i3, i4⟩ (ho i i1 i2).1 (ho' j i3 i4).1 ht
        have ei : sw2 k i k = i := by unfold sw2; rw [if_pos rfl]
        have t1 := topP_row (o := fun x => o (sw2 k i x)) (by decide) (show k < R by omega) (show k < K' by omega) hp s4 (fun l a b => by
          obtain ⟨t1, t2⟩ := sw2_in i1 i2 a b
          exact (ho _ t1 t2).1) (fun l a b => rowG_res hp (by omega) (r1 l a b)) (by rw [sw_kk]; show _ ≤ o (sw2 k i k); rw [ei]; exact r2) hG
        refine topP_bd (fun l a b => ?_) (fun l a b => ?_) t1
        · unfold upN
          split
          · exact p0
          · obtain ⟨t1, t2⟩ := sw2_in i1 i2 a b
            exact (ho _ t1 t2).1
        · obtain ⟨t1, t2⟩ := sw2_in i3 i4 a b
          exact (ho' _ t1 t2).1
      generalize swc (swr F k i) k j = G at *
      have e0 : rowP G k k k = G k k := rowP_row
      have a1 := row_bd2 hp (by omega) (by omega) s2 s3
      have a2 := col_bd2 (G := rowP G k) (by rw [e0]; exact hp) (by omega) (by omega) a1 s3'
      rw [e0] at a2
      refine bdM_mono a2 ?_
      have : 2 * Kc / (G k k).natAbs + 2 * Kc / (G k k).natAbs ≤ 4 * Kc / (G k k).natAbs := by
        have := Nat.div_mul_le_self (2 * Kc) (G k k).natAbs
        refine (Nat.le_div_iff_mul_le p0).mpr ?_
        rw [Nat.add_mul]
        omega
      omega
    · unfold stp
      generalize swc (swr F k i) k j = G at *
      exact bdM_1.mpr fun x y hxy => by
        have := step_ent hp (by omega) (by omega) s2 x y hxy
        omega
    · unfold stp
      generalize swc (swr F k i) k j = G at *
      obtain ⟨a, b, c1, c2, c3⟩ := fail_ex (R := R) (K' := K') (by omega) (by omega) hp c
      exact .inr ⟨a, b, c1, c2, by omega⟩
