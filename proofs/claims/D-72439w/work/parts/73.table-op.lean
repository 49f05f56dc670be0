/-! PLAIN LAW, 73: table: component; drop keeps the standing -/
section TO
variable {md : Nat → Bool} {N c s x : Nat} {M0 M : Mem} {C : CX} {T : ST}
theorem aTable_no {C : CX} {d i j : Int32} (h : ¬ ((1 ≤ d.toInt ∧ d.toInt ≤ 2) ∧ (0 ≤ i.toInt ∧ i.toInt ≤ (cRows C (tn d) : Int) - 1) ∧ (0 ≤ j.toInt ∧ j.toInt ≤ (cCols C (tn d) : Int) - 1))) : aTable C d i j = BAD := if_neg h
theorem jx_table (h : jRX x T (jMk md M.2.2)) (hM : ∀ a, md a = true → a < M0.1) (hE : jExt md c s M0 M) (hW : jWfS T) (hN : 1000 < N) {d i j : Int32} : jo (jf_X0_table N x d i j) M (jOX x md (c + 8) (s + 45) M0 (aTable (sC T) d i j, T)) := by
  have hR := h
  have w1 := hW.1
  have hE' := hE.mono (show c ≤ c + 8 by omega) (show s ≤ s + 45 by omega)
  obtain ⟨its, tp, pa, im, tf, pf, mf, h⟩ := h
  unfold jf_X0_table
  by_cases c0 : d = 0
  · refine jo_t c0 (jo_ret ⟨(aTable_no (fun y => ?_)).symm, hR, hE'⟩)
    have h1 := y.1.1
    rw [c0] at h1
    exact absurd h1 (by decide)
  refine jo_f c0 (jo_cl (mkg h.ob).2 (jo_eq (jx_isCell (hR.sub jMk.sub) w1) ?_))
  have dims : ∀ d' : Nat, d = nI d' → d' = 1 ∨ d' = 2 → cCols (sC T) d' = cMany (sC T) d' ∧ cRows (sC T) d' = cMany (sC T) (d' - 1) := by
    rintro d' - (rfl | rfl) <;> exact ⟨rfl, rfl⟩
  refine jo_bI (fun c1 => jo_ret ⟨(aTable_no (fun y => c1 ?_)).symm, hR, hE'⟩) (fun c1 => ?_)
  · obtain ⟨d', q1, rfl, q3⟩ := n_of (n := 2) (show 0 ≤ d.toInt by omega) y.1.2 (by decide)
    have hd : d' = 1 ∨ d' = 2 := by have := y.1.1; omega
    rw [tn_nI (by omega)] at y
    have e := dims d' rfl hd
    refine ⟨⟨by omega, by omega⟩, y.2.2.1, ?_⟩
    have := y.2.2.2
    rw [q3, Int.toNat_natCast, ← e.1]
    exact this
  obtain ⟨d', j', d2, j2, rfl, rfl⟩ := cIsCell_of w1 c1
  have hd : d' = 1 ∨ d' = 2 := by
    have : d' ≠ 0 := fun y => c0 (by rw [y]; rfl)
    omega
  have e := dims d' rfl hd
  have hj6 := Nat.lt_of_lt_of_le j2 (cMany_le w1 d')
  refine jo_cl (mkg h.ob).2 (jo_eq (jx_isCell (hR.sub jMk.sub) w1) ?_)
  rw [show (nI d' - 1 : Int32) = nI (d' - 1) from nI_sub (b := 1) (by omega)]
  refine jo_bI (fun c2 => jo_ret ⟨(aTable_no (fun y => c2 ?_)).symm, hR, hE'⟩) (fun c2 => ?_)
  · rw [tn_nI (by omega)] at y
    have y2 := y.2.1
    rw [e.2] at y2
    refine ⟨?_, y2.1, ?_⟩
    · rw [nI_toInt (by omega)]; omega
    · rw [nI_toInt (by omega), Int.toNat_natCast]; exact y2.2
  obtain ⟨d3, i', d4, i2, d5, rfl⟩ := cIsCell_of w1 c2
  have hd3 : d3 = d' - 1 := by
    have := (nI_eq (by omega) (by omega)).mp d5
    omega
  subst hd3
  have hi6 := Nat.lt_of_lt_of_le i2 (cMany_le w1 _)
  have hp := cell_pos hW.2.1 c1
  obtain ⟨q, rfl, hq⟩ := h.ge hp
  obtain ⟨vq, b1⟩ := hq.ob
  have hR6 : cRows (sC T) d' ≤ 6 := by rw [e.2]; exact cMany_le w1 _
  have hC6 : cCols (sC T) d' ≤ 6 := by rw [e.1]; exact cMany_le w1 _
  refine jo_fR (mkg h.ob).2 (by decide) rfl (jo_cl (mkg b1).2 (jo_bd (jo_mono (jx_table9 hM hE hq w1 hd (by omega)) ?_)))
  rintro r M1 ⟨t, rfl, s1, E1, hT⟩
  refine jT_at (hT.sub jMk.sub) rfl rfl (by rw [e.2]; exact i2) (by rw [e.1]; exact j2) (by omega) (by omega) (jo_ret ⟨?_, hR.sub s1, E1⟩)
  unfold aTable
  rw [tn_nI (by omega), tn_nI (by omega), tn_nI (by omega), if_pos]
  · exact Int64.toInt32_ofInt
  · rw [nI_toInt (by omega), nI_toInt (by omega), nI_toInt (by omega), e.1, e.2]
    omega
theorem oDrop_wf (h : jWfS T) {d k : Int32} : jWfS (oDrop T d k).2 := by
  unfold oDrop
  by_cases g : d = 0 ∨ ¬ cIsCell (sC T) d k
  · rw [if_pos g]; exact h
  rw [if_neg g]
  have g2 : cIsCell (sC T) d k := Classical.byContradiction fun y => g (.inr y)
  have hp := cell_pos h.2.1 g2
  obtain ⟨d', k', d2, k2, rfl, rfl⟩ := cIsCell_of h.1 g2
  have h6 := Nat.lt_of_lt_of_le k2 (cMany_le h.1 d')
  rw [tn_nI (by omega)]
  have hd : d' = 1 ∨ d' = 2 := by
    have : d' ≠ 0 := fun y => g (.inl (by rw [y]; rfl))
    omega
  rcases hd with rfl | rfl
  · by_cases u : cSpB (sC T) k' = true
    · rw [if_pos ⟨rfl, u⟩]; exact h
    · rw [if_neg (fun y => u y.2), if_pos (show nI 1 = 1 from rfl)]
      exact h.push hp (jWf_dropE h.1 k2 (fun y => u ((cSpB_iff h.1).mpr y))) hp
  · rw [if_neg (fun y => absurd y.1 (by decide)), if_neg (show ¬ nI 2 = 1 by decide)]
    exact h.push hp (jWf_dropF h.1 k2) hp
end TO
