/-! PLAIN LAW, 80: near: component -/
section NE
variable {md : Nat → Bool} {N c s : Nat} {M0 M : Mem} {C : CX}
theorem jx_near9 (hM : ∀ a, md a = true → a < M0.1) (hE : jExt md c s M0 M) {a w : Nat} (h : jCx a C (jMk md M.2.2)) (hW : jWf C) (hw : w < 3) (hN : 100 < N) : jo (jf_X9_near N a (nI w)) M (jNew md (c + 60) (s + 400) M0 M (fun t H => jTb t (cNs C w) (cNs C w) (cNear C w) H)) := by
  have h5 := hW.1
  have h6 := hW.2.1
  obtain ⟨vq, b1⟩ := h.ob
  unfold jf_X9_near
  rcases (show w = 0 ∨ w = 1 ∨ w = 2 by omega) with rfl | rfl | rfl
  · refine jo_f (show ¬ nI 0 = 1 by decide) (jo_t (show nI 0 = 0 from rfl) ?_)
    exact jo_mono (jx_near31 (d := 1) hM hE h hW (.inl rfl) hN) (fun r M' hr => hr)
  · have hRR : cE C * cE C ≤ 6 * 6 := Nat.mul_le_mul h6 h6
    have hEP : cE C * cP C ≤ 6 * 5 := Nat.mul_le_mul h6 h5
    refine jo_t (show nI 1 = 1 from rfl) (jo_cl (mkg b1).2 (jo_bd (jo_mono (jx_table9 (d := 1) hM hE h hW (.inl rfl) hN) ?_)))
    rintro r1 M1 ⟨t1, rfl, s1, E1, T1⟩
    have T1 : jTb t1 (cP C) (cE C) (cOne C) (jMk md M1.2.2) := T1
    refine jT_cl (T1.sub jMk.sub) (jo_bd (jo_mono (jx_turned hM E1 T1 (by omega) (by omega) hN) ?_))
    rintro r2 M2 ⟨t2, rfl, s2, E2, T2⟩
    have s12 := s1.tr s2
    refine jo_cl (mkg (s12 _ _ b1)).2 (jo_bd (jo_mono (jx_table9 (d := 1) hM E2 (h.kp s12.kp) hW (.inl rfl) hN) ?_))
    rintro r3 M3 ⟨t3, rfl, s3, E3, T3⟩
    have T3 : jTb t3 (cP C) (cE C) (cOne C) (jMk md M3.2.2) := T3
    refine jT_cl ((T2.sub s3).sub jMk.sub) (jo_bd (jo_mono (jx_times hM E3 (T2.sub s3) T3 (by omega) (by omega) (by omega) hN) ?_))
    rintro r4 M4 ⟨t4, rfl, s4, E4, T4⟩
    exact jo_ret ⟨t4, rfl, (s12.tr s3).tr s4, E4.mono (by omega) (by omega), T4⟩
  · refine jo_f (show ¬ nI 2 = 1 by decide) (jo_f (show ¬ nI 2 = 0 by decide) ?_)
    exact jo_mono (jx_near31 (d := 2) hM hE h hW (.inr rfl) hN) (fun r M' hr => hr)
end NE
