/-! PLAIN LAW, 93.f: the model's ranks -/
theorem isRk_of {R K r : Nat} {A : Nat → Nat → Int} (h1 : r ≤ R) (h2 : r ≤ K) (h3 : r = 0 ∨ ¬ dv r R K A 0) (h4 : ∀ k, r < k → k ≤ R → k ≤ K → dv k R K A 0) : isRk R K A r := by
  refine ⟨h1, h2, ?_, fun k hk => ?_⟩
  · rcases h3 with rfl | h3
    · exact dv_00
    · exact h3
  · by_cases c1 : R < k
    · exact dv_big (.inl c1)
    · by_cases c2 : K < k
      · exact dv_big (.inr c2)
      · exact h4 k hk (by omega) (by omega)
section RK
variable {N m : Nat} {ad : Nat → Nat} {M0 M : Mem} {S : MS} {C : CX} {f : Nat → Int64}
theorem jm_rankOf (h : jMM m ad M0 (s15 S f) M) (hC : jEnc C (S.1 0)) (hW : jWf C) (hN : 9223372036854775809 < N) {d c cs : Nat} (hd : d = 1 ∨ d = 2) (hc : c < 3) (hcs : cs < 64) (h5 : cRows C d ≤ 5 ∨ sN cs ≤ 5) (hok : ∀ j, cs.testBit j = true → j < cCols C d ∨ (d = 2 ∧ j = 4)) :
    jo (jf_X1_rankOf N m (nI d) (nI cs) (nI c)) M (fun x M' => (∃ r : Nat, x = nI r ∧ isRk (cRows C d) (sN cs) (cSub C d c cs) r) ∧ ∃ g, jMM m ad M0 (s15 S g) M') := by
  have hr6 := cRows_le hW (d := d)
  have hs6 := sN_le cs hcs
  unfold jf_X1_rankOf jf_X1_rankOf_k6_54
  refine jo_bd (jo_mono (jo_up (min (sN cs) (cRows C d) + 1) (fun k z M' => 1 ≤ k ∧ (∃ r : Nat, z = (nI r, nI k) ∧ r < k ∧ (r = 0 ∨ ¬ dv r (cRows C d) (sN cs) (cSub C d c cs) 0) ∧ ∀ k', r < k' → k' < k → dv k' (cRows C d) (sN cs) (cSub C d c cs) 0) ∧ ∃ g, jMM m ad M0 (s15 S g) M') (fun x M' => (∃ r : Nat, x = nI r ∧ isRk (cRows C d) (sN cs) (cSub C d c cs) r) ∧ ∃ g, jMM m ad M0 (s15 S g) M') ?_ ?_ N 1 _ M ⟨Nat.le_refl _, ⟨0, rfl, by omega, .inl rfl, fun k' _ _ => by omega⟩, f, h⟩ (by omega) ?_) ?_)
  · rintro k z M' hk ⟨k1, ⟨r, rfl, e1, e2, e3⟩, w, h'⟩
    have ks : k ≤ sN cs := Nat.le_trans (Nat.le_of_lt_succ hk) (Nat.min_le_left _ _)
    have kr : k ≤ cRows C d := Nat.le_trans (Nat.le_of_lt_succ hk) (Nat.min_le_right _ _)
    unfold jf_X1_rankOf_L6 jf_X1_rankOf_j46
    refine jo_eq (jr_ones hcs (by omega)) (jo_f (by rw [nI_ltI (by omega) (by omega)]; omega) (jo_rd (jM_cl h') (jo_eq (jr_rows h' hC hd) (jo_f (by rw [nI_ltI (by omega) (by omega)]; omega) (jo_rd (jM_cl h') ?_)))))
    refine jo_bd (jo_mono (jm_minorsOf h' hC hW hN hd hc hcs (k := k) (by omega) hok) ?_)
    rintro x M1 ⟨⟨g, rfl, g1, g2⟩, w1, h1⟩
    have e : (∀ r c', vS C d cs k r c' → (0 : Int) ∣ mS C d c k r c') ↔ (0 : Int) ∣ (g : Int) := g2 0
    rw [vS_dv hW hcs, Int.zero_dvd] at e
    by_cases c0 : g = 0
    · subst c0
      refine jo_t rfl (jo_ret ⟨by omega, ⟨r, by rw [nI_1], by omega, e2, fun k' a b => ?_⟩, w1, h1⟩)
      by_cases ee : k' = k
      · subst ee; exact e.mpr rfl
      · exact e3 k' a (by omega)
    · refine jo_f (by rw [jI_0 (by omega)]; omega) (jo_ret ⟨by omega, ⟨k, by rw [nI_1], by omega, .inr (fun y => c0 (by have := e.mp y; omega)), fun k' a b => by omega⟩, w1, h1⟩)
  · rintro z M' ⟨k1, ⟨r, rfl, e1, e2, e3⟩, w, h'⟩
    have fin : isRk (cRows C d) (sN cs) (cSub C d c cs) r := by
      have hr : r ≤ min (sN cs) (cRows C d) := by omega
      exact isRk_of (Nat.le_trans hr (Nat.min_le_right _ _)) (Nat.le_trans hr (Nat.min_le_left _ _)) e2 (fun k a b c => e3 k a (Nat.lt_succ_of_le (Nat.le_min.mpr ⟨c, b⟩)))
    unfold jf_X1_rankOf_L6
    refine jo_eq (jr_ones hcs (by omega)) ?_
    have hmin : min (sN cs) (cRows C d) ≤ 6 := Nat.le_trans (Nat.min_le_left _ _) hs6
    by_cases c1 : sN cs < min (sN cs) (cRows C d) + 1
    · exact jo_t (by rw [nI_ltI (by omega) (by omega)]; exact c1) (jo_ret ⟨⟨r, rfl, fin⟩, w, h'⟩)
    · refine jo_f (by rw [nI_ltI (by omega) (by omega)]; exact c1) (jo_rd (jM_cl h') (jo_eq (jr_rows h' hC hd) (jo_t ?_ (jo_ret ⟨⟨r, rfl, fin⟩, w, h'⟩))))
      rw [nI_ltI (by omega) (by omega)]
      have : min (sN cs) (cRows C d) = sN cs ∨ min (sN cs) (cRows C d) = cRows C d := by
        by_cases q : sN cs ≤ cRows C d
        · exact .inl (Nat.min_eq_left q)
        · exact .inr (Nat.min_eq_right (by omega))
      omega
  · have := Nat.min_le_left (sN cs) (cRows C d)
    omega
  · rintro x M' hx
    exact jo_ret hx
theorem sN_all : ∀ K, K < 7 → sN (2 ^ K - 1) = K ∧ ∀ j, j < K → nt (2 ^ K - 1) j = j := by decide +kernel
theorem tb_all {K j : Nat} (h : (2 ^ K - 1).testBit j = true) : j < K := by
  refine tb_lt (s := 2 ^ K - 1) ?_ h
  have : 0 < 2 ^ K := Nat.pow_pos (by decide)
  omega
theorem jr_allColumns (h : jMM m ad M0 S M) (hC : jEnc C (S.1 0)) (hW : jWf C) {d : Nat} (hd : d = 1 ∨ d = 2) : (jf_X1_allColumns N m (nI d)).1 M = some (nI (2 ^ cCols C d - 1), M) := by
  have hk := cCols_le hW (d := d)
  refine jo_out ?_
  unfold jf_X1_allColumns
  refine jo_rd (jM_cl h) (jo_eq (jr_cols h hC hd) ?_)
  rw [shl_nI _ (by omega)]
  have : 0 < 2 ^ cCols C d := Nat.pow_pos (by decide)
  exact jo_ret ⟨nI_sub (a := 2 ^ cCols C d) (b := 1) this, rfl⟩
theorem cSub_all (hW : jWf C) {d c : Nat} (hd : d = 1 ∨ d = 2) : ∀ i j, i < cRows C d → j < cCols C d → cSub C d c (2 ^ cCols C d - 1) i j = cTab C d i j := by
  intro i j _ hj
  have hk := cCols_le hW (d := d)
  unfold cSub cWd
  rw [(sN_all _ (by omega)).2 j hj, if_neg]
  rintro ⟨rfl, rfl⟩
  have h4 := hW.2.2.1
  have hj : 4 < cF C := hj
  omega
theorem all_lt (hW : jWf C) {d : Nat} : 2 ^ cCols C d - 1 < 64 := by
  have hk := cCols_le hW (d := d)
  have : 2 ^ cCols C d ≤ 64 := Nat.pow_le_pow_right (n := 2) (by decide) hk
  have : 0 < 2 ^ cCols C d := Nat.pow_pos (by decide)
  omega
theorem rank5 (hW : jWf C) {d : Nat} (hd : d = 1 ∨ d = 2) : cRows C d ≤ 5 ∨ cCols C d ≤ 5 := by
  rcases hd with rfl | rfl
  · exact .inl hW.1
  · right; have := hW.2.2.1; show cF C ≤ 5; omega
theorem isRk_cg {R K r : Nat} {A B : Nat → Nat → Int} (e : ∀ i j, i < R → j < K → A i j = B i j) (h : isRk R K A r) : isRk R K B r :=
  ⟨h.1, h.2.1, fun y => h.2.2.1 (dv_cg (fun i j a b => (e i j a b).symm) y), fun k hk => dv_cg e (h.2.2.2 k hk)⟩
/-- the rank of a table -/
theorem jm_rankAll (h : jMM m ad M0 (s15 S f) M) (hC : jEnc C (S.1 0)) (hW : jWf C) (hN : 9223372036854775809 < N) {d : Nat} (hd : d = 1 ∨ d = 2) :
    jo (jf_X1_rankAll N m (nI d)) M (fun x M' => (∃ r : Nat, x = nI r ∧ isRk (cRows C d) (cCols C d) (cTab C d) r) ∧ ∃ g, jMM m ad M0 (s15 S g) M') := by
  have hk := cCols_le hW (d := d)
  have sa := (sN_all (cCols C d) (by omega)).1
  unfold jf_X1_rankAll
  refine jo_rd (jM_cl h) (jo_eq (jr_allColumns h hC hW hd) (jo_rd (jM_cl h) ?_))
  refine jo_bd (jo_mono (jm_rankOf (c := 0) h hC hW hN hd (by decide) (all_lt hW) (by rw [sa]; exact rank5 hW hd) (fun j hj => .inl (tb_all hj))) ?_)
  rintro x M1 ⟨⟨r, rfl, hr⟩, w, h1⟩
  rw [sa] at hr
  exact jo_ret ⟨⟨r, rfl, isRk_cg (cSub_all hW hd) hr⟩, w, h1⟩
end RK
