/-! PLAIN LAW, 79: the tables of neighbours: component -/
section NE
variable {md : Nat → Bool} {N c s : Nat} {M0 M : Mem} {C : CX}
theorem jx_near31 (hM : ∀ a, md a = true → a < M0.1) (hE : jExt md c s M0 M) {a d : Nat} (h : jCx a C (jMk md M.2.2)) (hW : jWf C) (hd : d = 1 ∨ d = 2) (hN : 100 < N) : jo (jf_X9_near_j31 N a (nI d)) M (jNew md (c + 60) (s + 400) M0 M (fun t H => jTb t (cRows C d) (cRows C d) (fun i j => jsum (cCols C d) (fun k => cTab C d i k * cWt C d k * cTab C d j k)) H)) := by
  have h5 := hW.1
  have h6 := hW.2.1
  have h4 := hW.2.2.1
  have hK : cCols C d ≤ 6 := by rcases hd with rfl | rfl; exact h6; exact Nat.le_trans h4 (by decide)
  have hR : cRows C d ≤ 6 := by rcases hd with rfl | rfl; exact Nat.le_trans h5 (by decide); exact h6
  have hRK : cRows C d * cCols C d ≤ 6 * 6 := Nat.mul_le_mul hR hK
  have hKR : cCols C d * cRows C d ≤ 6 * 6 := Nat.mul_le_mul hK hR
  have hRR : cRows C d * cRows C d ≤ 6 * 6 := Nat.mul_le_mul hR hR
  have hwt : ∀ k, k < cCols C d → cWt C d k < 100 := by
    intro k hk
    rcases hd with rfl | rfl
    · have := (hW.2.2.2.1 k hk).2.2.2
      show cEd C k 2 < 100
      omega
    · have := (hW.2.2.2.2.1 k hk).2.1
      show cFw C k < 100
      omega
  obtain ⟨vq, b1⟩ := h.ob
  unfold jf_X9_near_j31
  refine jo_cl (mkg b1).2 (jo_bd (jo_mono (jx_table9 hM hE h hW hd hN) ?_))
  rintro r1 M1 ⟨t1, rfl, s1, E1, T1⟩
  refine jo_cl (mkg (s1 _ _ b1)).2 (jo_bd (jo_mono (jx_weights hM E1 (h.kp s1.kp) hW hd hN) ?_))
  rintro r2 M2 ⟨q2, rfl, s2, E2, g, T2, hg⟩
  refine jT_cl ((T1.sub s2).sub jMk.sub) (jo_bd (jo_mono (jx_weighed (W := cWt C d) hM E2 (T1.sub s2) T2 (fun k hk => ⟨hg k hk, hwt k hk⟩) (by omega) (by omega) hN) ?_))
  rintro r3 M3 ⟨t3, rfl, s3, E3, T3⟩
  have s13 := (s1.tr s2).tr s3
  refine jo_cl (mkg (s13 _ _ b1)).2 (jo_bd (jo_mono (jx_table9 hM E3 (h.kp s13.kp) hW hd hN) ?_))
  rintro r4 M4 ⟨t4, rfl, s4, E4, T4⟩
  refine jT_cl (T4.sub jMk.sub) (jo_bd (jo_mono (jx_turned hM E4 T4 (by omega) (by omega) hN) ?_))
  rintro r5 M5 ⟨t5, rfl, s5, E5, T5⟩
  have T3' := (T3.sub s4).sub s5
  refine jT_cl (T3'.sub jMk.sub) (jo_bd (jo_mono (jx_times hM E5 T3' T5 (by omega) (by omega) (by omega) hN) ?_))
  rintro r6 M6 ⟨t6, rfl, s6, E6, T6⟩
  exact jo_ret ⟨t6, rfl, ((s13.tr s4).tr s5).tr s6, E6.mono (by omega) (by omega), T6⟩
end NE
