/-! PLAIN LAW, 78: a table weighed: component -/
section WE
variable {md : Nat → Bool} {N c s R K : Nat} {M0 M : Mem} {F : Nat → Nat → Int} {W : Nat → Nat}
theorem jx_weighed (hM : ∀ a, md a = true → a < M0.1) (hE : jExt md c s M0 M) {a q : Nat} {g : Nat → Int32} (h : jTb a R K F (jMk md M.2.2)) (hq : jMk md M.2.2 q = some (aI 0 K g)) (hg : ∀ k, k < K → g k = nI (W k) ∧ W k < 100) (hR : R ≤ 50) (hK : K ≤ 50) (hN : 100 < N) : jo (jf_X11_weighed N a (some q)) M (jNew md (c + 2 + R + R) (s + 3 + R + R * K + K * R) M0 M (fun t H => jTb t R K (fun i j => F i j * (W j : Int)) H)) := by
  unfold jf_X11_weighed
  refine jT_cl (h.sub jMk.sub) (jo_bd (jo_mono (jx_like hM hE h hR hK hN) ?_))
  rintro r M2 ⟨t, ar, rr, rf, rfl, hT, E2⟩
  refine jo_bd (jo_mono (jo_up R (fun i z M' => z = nI i ∧ jExt md (c + 2 + R + R) (s + 3 + R + R * K + K * R) M0 M' ∧ jTn t ar R K rr rf (fun a b => if a < i then F a b * (W b : Int) else F a b) (jMk md M.2.2) (jMk md M'.2.2)) (fun _ M' => jExt md (c + 2 + R + R) (s + 3 + R + R * K + K * R) M0 M' ∧ jTn t ar R K rr rf (fun i j => F i j * (W j : Int)) (jMk md M.2.2) (jMk md M'.2.2)) ?_ ?_ N 0 _ M2 ⟨rfl, E2, hT.cg (fun i j _ _ => by rw [if_neg (by omega)])⟩ (by omega) (by omega)) ?_)
  · rintro i z M' hi ⟨rfl, EE, hT⟩
    unfold jf_X11_weighed_L7
    refine jT_rows ((h.sub hT.2.2.2.2).sub jMk.sub) (jo_f (show ¬ nI R ≤ nI i by rw [nI_leI (by omega) (by omega)]; omega) ?_)
    refine jo_bd (jo_mono (jo_up K (fun j z M' => z = nI j ∧ jExt md (c + 2 + R + R) (s + 3 + R + R * K + K * R) M0 M' ∧ jTn t ar R K rr rf (fun a b => if a < i ∨ (a = i ∧ b < j) then F a b * (W b : Int) else F a b) (jMk md M.2.2) (jMk md M'.2.2)) (fun _ M' => jExt md (c + 2 + R + R) (s + 3 + R + R * K + K * R) M0 M' ∧ jTn t ar R K rr rf (fun a b => if a < i ∨ (a = i ∧ b < K) then F a b * (W b : Int) else F a b) (jMk md M.2.2) (jMk md M'.2.2)) ?_ ?_ N 0 _ M' ⟨rfl, EE, hT.cg (fun a b _ _ => ?_)⟩ (by omega) (by omega)) ?_)
    · rintro j z M3 hj ⟨rfl, E3, hT3⟩
      unfold jf_X11_weighed_L18
      refine jT_cols ((h.sub hT3.2.2.2.2).sub jMk.sub) (jo_f (show ¬ nI K ≤ nI j by rw [nI_leI (by omega) (by omega)]; omega) ?_)
      refine jo_fR (mkg hT3.1.1).2 (by decide) rfl (jo_ldR (mkg hT3.1.2.1).2 rfl hi (by omega) ?_)
      obtain ⟨r1, g', g1, g2⟩ := hT3.1.2.2.1 _ hi
      have e0 : (fun a b => if a < i ∨ (a = i ∧ b < j) then F a b * (W b : Int) else F a b) i j = F i j := if_neg (by omega)
      refine jo_rd (x := jI (F i j)) (by
        rw [r1, ← e0, ← g2 j hj]
        exact jl_ld (mkg g1).2 (jm_ixn hj (by omega))) ?_
      refine jo_ldI (mkg (hT3.2.2.2.2 _ _ hq)).2 rfl hj (by omega) ?_
      have hw := hg j hj
      rw [hw.1, show (nI (W j)).toInt64 = jI (W j : Int) by rw [nI_iI, iI_l (by omega) (by omega)], jI_mul]
      refine jT_st hT3 rfl hi hj (by omega) E3 rfl (fun M4 hT4 E4 => jo_ret ⟨nI_1 j, E4, hT4.cg (fun a b ha hb => ?_)⟩)
      unfold uTb
      by_cases c1 : a = i ∧ b = j
      · rw [if_pos c1, if_pos (.inr ⟨c1.1, by omega⟩), c1.1, c1.2]
      · rw [if_neg c1]
        show (if a < i ∨ (a = i ∧ b < j) then F a b * (W b : Int) else F a b) = _
        by_cases c2 : a < i ∨ (a = i ∧ b < j)
        · rw [if_pos c2, if_pos (by omega)]
        · rw [if_neg c2, if_neg (by omega)]
    · rintro z M3 ⟨rfl, E3, hT3⟩
      unfold jf_X11_weighed_L18
      exact jT_cols ((h.sub hT3.2.2.2.2).sub jMk.sub) (jo_t (show nI K ≤ nI K by rw [nI_leI (by omega) (by omega)]; omega) (jo_ret ⟨E3, hT3⟩))
    · by_cases c2 : a < i
      · rw [if_pos c2, if_pos (.inl c2)]
      · rw [if_neg c2, if_neg (by omega)]
    · rintro _ M3 ⟨E3, hT3⟩
      unfold jf_X11_weighed_k18_50
      refine jo_ret ⟨nI_1 i, E3, hT3.cg (fun a b ha hb => ?_)⟩
      by_cases c2 : a < i + 1
      · rw [if_pos c2, if_pos (by omega)]
      · rw [if_neg c2, if_neg (by omega)]
  · rintro z M' ⟨rfl, EE, hT⟩
    unfold jf_X11_weighed_L7
    exact jT_rows ((h.sub hT.2.2.2.2).sub jMk.sub) (jo_t (show nI R ≤ nI R by rw [nI_leI (by omega) (by omega)]; omega) (jo_ret ⟨EE, hT.cg (fun a b ha hb => by rw [if_pos ha])⟩))
  · rintro _ M' ⟨EE, hT⟩
    unfold jf_X11_weighed_k7_56
    exact jo_ret ⟨t, rfl, hT.2.2.2.2, EE, hT.tb⟩
end WE
