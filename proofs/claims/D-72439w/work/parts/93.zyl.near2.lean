/-! SIZES, 93.zyl: near 2, numbers and masses; rank 3 and less (no program in sight) -/
section N2
variable {C : CX}
/-- the mass of a row of table 2 -/
def mT (C : CX) (e : Nat) : Nat := nsm (cF C) (fun f => (cTwo C e f).natAbs)
theorem mT_sum (hW : jWf C) {n : Nat} {τ : Nat → Nat} (h : ij n τ) : nsm n (fun b => mT C (τ b)) ≤ 16 := by
  unfold mT
  rw [nsm_swap]
  have := nsm_c (n := cF C) (x := 4) fun f hf => two_mass hW h hf
  have := hW.2.2.1
  omega
theorem near2_eq {i j : Nat} : cNear C 2 i j = jsum (cF C) (fun f => cTwo C i f * ((cFw C f : Int) * cTwo C j f)) := by
  unfold cNear
  rw [if_neg (by decide)]
  show jsum (cF C) (fun k => cTwo C i k * (cFw C k : Int) * cTwo C j k) = _
  exact jsum_cg fun e _ => Int.mul_assoc _ _ _
theorem near2_sy {i j : Nat} : cNear C 2 i j = cNear C 2 j i := by
  rw [near2_eq, near2_eq]
  exact jsum_cg fun f _ => by ac_rfl
theorem near2_bd (hW : jWf C) {n : Nat} {τ σ : Nat → Nat} : (mn n (fun a b => cNear C 2 (σ a) (τ b))).natAbs ≤ npr n (fun b => mT C (τ b) * 3) * 4 ^ n := by
  rw [mn_cg (A := fun a b => cNear C 2 (σ a) (τ b)) (B := fun a b => jsum (cF C) (fun f => cTwo C (σ a) f * ((cFw C f : Int) * cTwo C (τ b) f))) (fun a b _ _ => near2_eq)]
  refine mn_mulB (k := n) (K := cF C) (A := fun a f => cTwo C (σ a) f) (B := fun f b => (cFw C f : Int) * cTwo C (τ b) f) (S := fun b => mT C (τ b) * 3) (Mx := 4 ^ n) (fun b _ => ?_) (fun τ' h' => mn_two hW h')
  unfold mT
  rw [← nsm_mul]
  refine nsm_le fun f hf => ?_
  have := hW.2.2.2.2.1 f hf
  rw [Int.natAbs_mul, Nat.mul_comm]
  exact Nat.mul_le_mul_left _ (by omega)
theorem near2_1 (hW : jWf C) : bdM 1 (cE C) (cE C) 0 (cNear C 2) 192 := fun σ τ _ _ => by
  refine Nat.le_trans (near2_bd hW) ?_
  have h := mT_sum hW (n := 1) (τ := τ) (fun a b ha hb _ => by omega)
  have e : nsm 1 (fun b => mT C (τ b)) = 0 + mT C (τ 0) := rfl
  have e2 : npr 1 (fun b => mT C (τ b) * 3) = 1 * (mT C (τ 0) * 3) := rfl
  rw [e] at h
  rw [e2, Nat.one_mul, Nat.pow_one]
  omega
theorem near2_2 (hW : jWf C) : bdM 2 (cE C) (cE C) 0 (cNear C 2) 9216 := fun σ τ _ _ => by
  by_cases c : ij 2 τ
  · refine Nat.le_trans (near2_bd hW) ?_
    have h := mT_sum hW c
    have e : nsm 2 (fun b => mT C (τ b)) = 0 + mT C (τ 0) + mT C (τ 1) := rfl
    have e2 : npr 2 (fun b => mT C (τ b) * 3) = 1 * (mT C (τ 0) * 3) * (mT C (τ 1) * 3) := rfl
    rw [e] at h
    rw [e2, Nat.one_mul]
    have := am4 (x := mT C (τ 0)) (y := mT C (τ 1)) (z := 8) (w := 8) (s := 16) (by omega)
    have e3 : mT C (τ 0) * 3 * (mT C (τ 1) * 3) = mT C (τ 0) * mT C (τ 1) * 9 := by ac_rfl
    rw [e3]
    omega
  · rw [mn_nijc c]; exact Nat.zero_le _
theorem near2_3 (hW : jWf C) : bdM 3 (cE C) (cE C) 0 (cNear C 2) 262656 := fun σ τ _ _ => by
  by_cases c : ij 3 τ
  · refine Nat.le_trans (near2_bd hW) ?_
    have h := mT_sum hW c
    have e : nsm 3 (fun b => mT C (τ b)) = 0 + mT C (τ 0) + mT C (τ 1) + mT C (τ 2) := rfl
    have e2 : npr 3 (fun b => mT C (τ b) * 3) = 1 * (mT C (τ 0) * 3) * (mT C (τ 1) * 3) * (mT C (τ 2) * 3) := rfl
    rw [e] at h
    rw [e2, Nat.one_mul]
    have := am4 (x := mT C (τ 0)) (y := mT C (τ 1)) (z := mT C (τ 2)) (w := 6) (s := 11) (by omega)
    rw [← Nat.mul_assoc (mT C (τ 0) * mT C (τ 1))] at this
    have e3 : mT C (τ 0) * 3 * (mT C (τ 1) * 3) * (mT C (τ 2) * 3) = mT C (τ 0) * mT C (τ 1) * mT C (τ 2) * 27 := by ac_rfl
    rw [e3]
    omega
  · rw [mn_nijc c]; exact Nat.zero_le _
theorem near2_z {e : Nat} (h : mT C e = 0) {y : Nat} : cNear C 2 e y = 0 := by
  have z : ∀ m, nsm m (fun f => (cTwo C e f).natAbs) = 0 → ∀ f, f < m → cTwo C e f = 0 := by
    intro m
    induction m with
    | zero => intro _ f hf; omega
    | succ m ih =>
      intro hz f hf
      have hz : nsm m (fun f => (cTwo C e f).natAbs) + (cTwo C e m).natAbs = 0 := hz
      by_cases c : f = m
      · subst c; omega
      · exact ih (by omega) f (by omega)
  rw [near2_eq]
  exact ds_0 fun f hf => by rw [z _ h f hf, Int.zero_mul]
/-- the number beside a row itself -/
theorem near2_dg (hW : jWf C) {e : Nat} : (cNear C 2 e e).natAbs ≤ 3 * (mT C e * mT C e) ∧ (mT C e ≠ 0 → cNear C 2 e e ≠ 0) := by
  have p : ∀ m, m ≤ cF C → 0 ≤ jsum m (fun f => cTwo C e f * ((cFw C f : Int) * cTwo C e f)) ∧ (jsum m (fun f => cTwo C e f * ((cFw C f : Int) * cTwo C e f))).natAbs ≤ 3 * (nsm m (fun f => (cTwo C e f).natAbs) * nsm m (fun f => (cTwo C e f).natAbs)) ∧ (nsm m (fun f => (cTwo C e f).natAbs) ≠ 0 → jsum m (fun f => cTwo C e f * ((cFw C f : Int) * cTwo C e f)) ≠ 0) := by
    intro m
    induction m with
    | zero => intro _; exact ⟨Int.le_refl _, Nat.zero_le _, fun h => absurd rfl h⟩
    | succ m ih =>
      intro hm
      obtain ⟨h1, h2, h3⟩ := ih (by omega)
      have hw := hW.2.2.2.2.1 m (by omega)
      show 0 ≤ jsum m _ + cTwo C e m * ((cFw C m : Int) * cTwo C e m) ∧ (jsum m _ + cTwo C e m * ((cFw C m : Int) * cTwo C e m)).natAbs ≤ 3 * ((nsm m _ + (cTwo C e m).natAbs) * (nsm m _ + (cTwo C e m).natAbs)) ∧ (nsm m _ + (cTwo C e m).natAbs ≠ 0 → jsum m _ + cTwo C e m * ((cFw C m : Int) * cTwo C e m) ≠ 0)
      generalize jsum m (fun f => cTwo C e f * ((cFw C f : Int) * cTwo C e f)) = S at *
      generalize nsm m (fun f => (cTwo C e f).natAbs) = N at *
      have sq : cTwo C e m * ((cFw C m : Int) * cTwo C e m) = (((cFw C m) * ((cTwo C e m).natAbs * (cTwo C e m).natAbs) : Nat) : Int) := by
        rw [Int.natCast_mul, Int.natAbs_mul_self]
        ac_rfl
      rw [sq]
      generalize (cTwo C e m).natAbs = x at *
      have w3 : cFw C m * (x * x) ≤ 3 * (x * x) := Nat.mul_le_mul_right _ (by omega)
      have w1 : 1 * (x * x) ≤ cFw C m * (x * x) := Nat.mul_le_mul_right _ (by omega)
      have e2 : (N + x) * (N + x) = N * N + 2 * (N * x) + x * x := by
        simp only [Nat.add_mul, Nat.mul_add, Nat.mul_comm x N]; omega
      rw [e2]
      generalize cFw C m * (x * x) = y at *
      refine ⟨by omega, by omega, fun hN => ?_⟩
      by_cases c : x = 0
      · subst c
        have := h3 (by omega)
        omega
      · have : 0 < x * x := Nat.mul_pos (by omega) (by omega)
        omega
  rw [near2_eq]
  exact ⟨(p _ (Nat.le_refl _)).2.1, (p _ (Nat.le_refl _)).2.2⟩
/-- near 2 where minors of size 4 come to nothing -/
theorem small_near2_3 (hW : jWf C) (h4 : dv 4 (cE C) (cF C) (cTwo C) 0) : smallA (cE C) (cE C) (cNear C 2) := by
  have hE := hW.2.1
  have z4 : bdM 4 (cE C) (cE C) 0 (cNear C 2) 0 := bdM_dv (dv_cg (fun i j _ _ => near2_eq.symm) (dv_mul h4))
  have cnt : ∀ m, m ≤ cE C → nsm m (fun i => @ite Nat (∃ y, y < cE C ∧ cNear C 2 i y ≠ 0) (Classical.propDecidable _) 1 0) ≤ nsm m (fun i => if mT C i = 0 then 0 else 1) := fun m _ => nsm_le fun i _ => by
    by_cases c : mT C i = 0
    · rw [if_neg (fun ⟨y, _, y2⟩ => y2 (near2_z c))]; exact Nat.zero_le _
    · rw [if_neg c]; split <;> omega
  by_cases c : cE C = 6 ∧ ∀ e, e < 6 → mT C e ≠ 0
  · obtain ⟨e6, hm⟩ := c
    have hs := mT_sum hW (n := 6) (τ := fun e => e) (fun _ _ _ _ h => h)
    have : ∃ e, e < 6 ∧ mT C e ≤ 2 := Classical.byContradiction fun z => by
      have h3 : ∀ e, e < 6 → 3 ≤ mT C e := fun e he => by
        rcases Nat.lt_or_ge (mT C e) 3 with y | y
        · exact absurd ⟨e, he, by omega⟩ z
        · exact y
      have s6 : nsm 6 (fun e => mT C e) = 0 + mT C 0 + mT C 1 + mT C 2 + mT C 3 + mT C 4 + mT C 5 := rfl
      have := h3 0 (by decide); have := h3 1 (by decide); have := h3 2 (by decide); have := h3 3 (by decide); have := h3 4 (by decide); have := h3 5 (by decide)
      omega
    obtain ⟨e, he, h2⟩ := this
    obtain ⟨d1, d2⟩ := near2_dg hW (e := e)
    have d3 : mT C e * mT C e ≤ 2 * 2 := Nat.mul_le_mul h2 h2
    refine smallA_3z (m := 4) (q := 12) (a := 9216) (b := 262656) (E := 192) (n := 3) (fun i j _ _ => near2_sy) z4 (near2_3 hW) (near2_2 hW) (near2_1 hW) (.inr ⟨e, e, ⟨Nat.zero_le _, by omega, Nat.zero_le _, by omega⟩, d2 (hm e he), by omega⟩) (by decide) (by decide) ?_ (by decide)
    refine Nat.le_trans (cnt _ (Nat.le_refl _)) ?_
    rw [e6]
    exact nsm_c (x := 1) fun k _ => by split <;> omega
  · refine smallA_3z (m := 8) (q := 192) (a := 9216) (b := 262656) (E := 192) (n := 2) (fun i j _ _ => near2_sy) z4 (near2_3 hW) (near2_2 hW) (near2_1 hW) (lsB_of (near2_1 hW)) (by decide) (by decide) ?_ (by decide)
    refine Nat.le_trans (cnt _ (Nat.le_refl _)) ?_
    by_cases c6 : cE C = 6
    · have : ∃ e, e < 6 ∧ mT C e = 0 := Classical.byContradiction fun z => c ⟨c6, fun e he y => z ⟨e, he, y⟩⟩
      obtain ⟨e, he, h0⟩ := this
      rw [c6]
      have s6 : nsm 6 (fun i => if mT C i = 0 then 0 else 1) = 0 + (if mT C 0 = 0 then 0 else 1) + (if mT C 1 = 0 then 0 else 1) + (if mT C 2 = 0 then 0 else 1) + (if mT C 3 = 0 then 0 else 1) + (if mT C 4 = 0 then 0 else 1) + (if mT C 5 = 0 then 0 else 1) := rfl
      rw [s6]
      have b : ∀ i, (if mT C i = 0 then 0 else 1) ≤ 1 := fun i => by split <;> omega
      have b0 := b 0; have b1 := b 1; have b2 := b 2; have b3 := b 3; have b4 := b 4; have b5 := b 5
      have z : (if mT C e = 0 then 0 else 1) = 0 := if_pos h0
      rcases (show e = 0 ∨ e = 1 ∨ e = 2 ∨ e = 3 ∨ e = 4 ∨ e = 5 by omega) with rfl | rfl | rfl | rfl | rfl | rfl <;> omega
    · have := nsm_c (n := cE C) (f := fun i => if mT C i = 0 then 0 else 1) (x := 1) fun k _ => by split <;> omega
      omega
end N2
