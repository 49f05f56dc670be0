/-! PLAIN LAW, 81: near: component -/
section NO
variable {md : Nat → Bool} {N c s x : Nat} {M0 M : Mem} {T : ST}
theorem jx_near (h : jRX x T (jMk md M.2.2)) (hM : ∀ a, md a = true → a < M0.1) (hE : jExt md c s M0 M) (hW : jWfS T) (hN : 1000 < N) {w i j : Int32} : jo (jf_X0_near N x w i j) M (jOX x md (c + 60) (s + 400) M0 (aNear (sC T) w i j, T)) := by
  have hR := h
  have w1 := hW.1
  have hE' := hE.mono (show c ≤ c + 60 by omega) (show s ≤ s + 400 by omega)
  obtain ⟨its, tp, pa, im, tf, pf, mf, h⟩ := h
  have no : ¬ ((0 ≤ w.toInt ∧ w.toInt ≤ 2) ∧ (0 ≤ i.toInt ∧ i.toInt ≤ (cNs (sC T) (tn w) : Int) - 1) ∧ (0 ≤ j.toInt ∧ j.toInt ≤ (cNs (sC T) (tn w) : Int) - 1)) → aNear (sC T) w i j = BAD := fun y => if_neg y
  have main : ∀ t0 : Nat, t0 < 2 → (0 ≤ w.toInt ∧ w.toInt ≤ 2 → cNs (sC T) (tn w) = cMany (sC T) t0) → jo (jf_X0_near_j9 N x w i j (nI t0)) M (jOX x md (c + 60) (s + 400) M0 (aNear (sC T) w i j, T)) := by
    intro t0 ht hn
    unfold jf_X0_near_j9
    refine jo_eq (in32X (a := 0) (b := 2) rfl rfl) ?_
    refine jo_bI (fun c0 => jo_ret ⟨(no (fun y => c0 y.1)).symm, hR, hE'⟩) (fun c0 => ?_)
    have hn := hn c0
    rw [hn] at no
    have cell : ∀ k : Int32, cIsCell (sC T) (nI t0) k ↔ 0 ≤ k.toInt ∧ k.toInt ≤ (cMany (sC T) t0 : Int) - 1 := by
      intro k
      unfold cIsCell
      rw [nI_toInt (by omega), Int.toNat_natCast]
      omega
    refine jo_cl (mkg h.ob).2 (jo_eq (jx_isCell (hR.sub jMk.sub) w1) ?_)
    refine jo_bI (fun c1 => jo_ret ⟨(no (fun y => c1 ((cell i).mpr y.2.1))).symm, hR, hE'⟩) (fun c1 => ?_)
    refine jo_cl (mkg h.ob).2 (jo_eq (jx_isCell (hR.sub jMk.sub) w1) ?_)
    refine jo_bI (fun c2 => jo_ret ⟨(no (fun y => c2 ((cell j).mpr y.2.2))).symm, hR, hE'⟩) (fun c2 => ?_)
    have hp := cell_pos hW.2.1 c1
    obtain ⟨q, rfl, hq⟩ := h.ge hp
    obtain ⟨vq, b1⟩ := hq.ob
    have y1 := (cell i).mp c1
    have y2 := (cell j).mp c2
    have hm := cMany_le w1 t0
    obtain ⟨w', q1, rfl, q3⟩ := n_of (n := 2) c0.1 c0.2 (by decide)
    obtain ⟨i', i1, rfl, i3⟩ := n_of (n := 6) y1.1 (by omega) (by decide)
    obtain ⟨j', j1, rfl, j3⟩ := n_of (n := 6) y2.1 (by omega) (by decide)
    rw [tn_nI (by omega)] at hn
    refine jo_fR (mkg h.ob).2 (by decide) rfl (jo_cl (mkg b1).2 (jo_bd (jo_mono (jx_near9 hM hE hq w1 (by omega) (by omega)) ?_)))
    rintro r M1 ⟨t, rfl, s1, E1, hT⟩
    refine jT_at (hT.sub jMk.sub) rfl rfl (show i' < _ by omega) (show j' < _ by omega) (by omega) (by omega) (jo_ret ⟨?_, hR.sub s1, E1⟩)
    unfold aNear
    rw [tn_nI (by omega), tn_nI (by omega), tn_nI (by omega), hn, if_pos ⟨c0, y1, y2⟩]
    exact Int64.toInt32_ofInt
  unfold jf_X0_near
  by_cases c0 : w = 0
  · exact jo_t c0 (main 0 (by decide) (fun _ => by rw [c0]; rfl))
  · refine jo_f c0 (main 1 (by decide) (fun y => ?_))
    have : tn w ≠ 0 := fun z => c0 (by
      have e : w.toInt = 0 := by unfold tn at z; omega
      exact Int32.toInt_inj.mp e)
    unfold cNs
    rw [if_neg this]; rfl
end NO
