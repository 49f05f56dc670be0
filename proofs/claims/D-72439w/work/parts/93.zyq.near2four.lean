/-! SIZES, 93.zyq: near 2 of four rows (no program in sight) -/
section N4
variable {C : CX}
theorem near2_4 (hW : jWf C) : bdM 4 (cE C) (cE C) 0 (cNear C 2) 5308416 := fun σ τ _ _ => by
  by_cases c : ij 4 τ
  · refine Nat.le_trans (near2_bd hW) ?_
    have h := mT_sum hW c
    have e : nsm 4 (fun b => mT C (τ b)) = 0 + mT C (τ 0) + mT C (τ 1) + mT C (τ 2) + mT C (τ 3) := rfl
    have e2 : npr 4 (fun b => mT C (τ b) * 3) = 1 * (mT C (τ 0) * 3) * (mT C (τ 1) * 3) * (mT C (τ 2) * 3) * (mT C (τ 3) * 3) := rfl
    rw [e] at h
    rw [e2, Nat.one_mul]
    have := am4 (x := mT C (τ 0)) (y := mT C (τ 1)) (z := mT C (τ 2)) (w := mT C (τ 3)) (s := 8) (by omega)
    have e3 : mT C (τ 0) * 3 * (mT C (τ 1) * 3) * (mT C (τ 2) * 3) * (mT C (τ 3) * 3) = mT C (τ 0) * mT C (τ 1) * (mT C (τ 2) * mT C (τ 3)) * 81 := by ac_rfl
    rw [e3]
    omega
  · rw [mn_nijc c]; exact Nat.zero_le _
theorem mT_row {e : Nat} (h : mT C e = 0) {f : Nat} (hf : f < cF C) : cTwo C e f = 0 := by
  have z : ∀ m, nsm m (fun f => (cTwo C e f).natAbs) = 0 → ∀ f, f < m → cTwo C e f = 0 := by
    intro m
    induction m with
    | zero => intro _ f hf; omega
    | succ m ih =>
      intro hz f hf
      have hz : nsm m (fun f => (cTwo C e f).natAbs) + (cTwo C e m).natAbs = 0 := hz
      by_cases c : f = m
      · subst c; omega
      · exact ih (by omega) f (by omega)
  exact z _ h f hf
/-- of rank 4: four rows other than 0, one of mass 4 or less -/
theorem rank4_ex (hW : jWf C) (h4 : ¬ dv 4 (cE C) (cF C) (cTwo C) 0) : ∃ σ : Nat → Nat, ij 4 σ ∧ (∀ a, a < 4 → σ a < cE C) ∧ (∀ a, a < 4 → mT C (σ a) ≠ 0) ∧ ∃ a, a < 4 ∧ mT C (σ a) ≤ 4 := by
  have : ∃ σ τ : Nat → Nat, (∀ a, a < 4 → σ a < cE C) ∧ (∀ b, b < 4 → τ b < cF C) ∧ mn 4 (fun a b => cTwo C (σ a) (τ b)) ≠ 0 := Classical.byContradiction fun z => h4 fun σ τ hs ht => by
    have : mn 4 (fun a b => cTwo C (σ a) (τ b)) = 0 := Classical.byContradiction fun y => z ⟨σ, τ, hs, ht, y⟩
    rw [this]; exact Int.dvd_refl 0
  obtain ⟨σ, τ, hs, ht, hm⟩ := this
  have hi : ij 4 σ := Classical.byContradiction fun c => hm (mn_nij (A := cTwo C) c)
  refine ⟨σ, hi, hs, fun a ha z => hm (mn_row0 ha fun b hb => mT_row z (ht b hb)), Classical.byContradiction fun z => ?_⟩
  have h5 : ∀ a, a < 4 → 5 ≤ mT C (σ a) := fun a ha => by
    rcases Nat.lt_or_ge (mT C (σ a)) 5 with y | y
    · exact absurd ⟨a, ha, by omega⟩ z
    · exact y
  have h := mT_sum hW hi
  have e : nsm 4 (fun b => mT C (σ b)) = 0 + mT C (σ 0) + mT C (σ 1) + mT C (σ 2) + mT C (σ 3) := rfl
  have := h5 0 (by decide); have := h5 1 (by decide); have := h5 2 (by decide); have := h5 3 (by decide)
  omega
theorem small_near2_4 (hW : jWf C) (h4 : ¬ dv 4 (cE C) (cF C) (cTwo C) 0) (hz : ∀ ρ : Nat → Nat, ij 5 ρ → (∀ a, a < 5 → ρ a < cE C) → ∃ a, a < 5 ∧ mT C (ρ a) = 0) : smallA (cE C) (cE C) (cNear C 2) := by
  obtain ⟨σ, _, hs, hn, a, ha, hm⟩ := rank4_ex hW h4
  obtain ⟨d1, d2⟩ := near2_dg hW (e := σ a)
  have d3 : mT C (σ a) * mT C (σ a) ≤ 4 * 4 := Nat.mul_le_mul hm hm
  refine smallA_4z (m := 6) (m2 := 42) (q := 48) (a := 9216) (b := 262656) (c := 5308416) (E := 192) (fun i j _ _ => near2_sy) (fun ρ hr hi => ?_) (near2_4 hW) (near2_3 hW) (near2_2 hW) (near2_1 hW) (.inr ⟨σ a, σ a, ⟨Nat.zero_le _, hs a ha, Nat.zero_le _, hs a ha⟩, d2 (hn a ha), by omega⟩) (by decide) (by decide) 102405703680 2867359712256 (by decide) (by decide) (by decide) (by decide) (by decide)
  obtain ⟨b, b5, b0⟩ := hz ρ hi fun a ha => (hr a ha).2
  exact ⟨b, b5, fun y _ _ => near2_z b0⟩
end N4
