/-! PLAIN LAW, 74: a table turned; a product of tables: component -/
section TU
variable {md : Nat → Bool} {N c s R K L : Nat} {M0 M : Mem} {F G : Nat → Nat → Int}
theorem jx_turned (hM : ∀ a, md a = true → a < M0.1) (hE : jExt md c s M0 M) {a : Nat} (h : jTb a R K F (jMk md M.2.2)) (hR : R ≤ 50) (hK : K ≤ 50) (hN : 100 < N) : jo (jf_X11_turned N a) M (jNew md (c + 2 + K) (s + 3 + K + K * R) M0 M (fun t H => jTb t K R (fun i j => F j i) H)) := by
  unfold jf_X11_turned
  refine jX_al (hE.md hM) hE fun t M1 ht m1 e1 E1 => ?_
  have s1 : jSub (jMk md M.2.2) (jMk md M1.2.2) := by rw [e1]; exact jSub.new ht
  have o1 : jMk md M1.2.2 t = some (.inr (11, [.null, .int 0, .int 0])) := by rw [e1, va_up_self]
  refine jT_cols ((h.sub s1).sub jMk.sub) (jT_rows ((h.sub s1).sub jMk.sub) ?_)
  refine jX_in11 (H0 := jMk md M.2.2) hM E1 s1 ht o1 (by omega) (by omega) (fun M2 ar rr rf hT E2 => ?_)
  refine jo_bd (jo_mono (jo_up R (fun i z M' => z = nI i ∧ jExt md (c + 1 + 1 + K) (s + 3 + K + K * R) M0 M' ∧ jTn t ar K R rr rf (fun a b => if b < i then F b a else 0) (jMk md M.2.2) (jMk md M'.2.2)) (fun _ M' => jExt md (c + 1 + 1 + K) (s + 3 + K + K * R) M0 M' ∧ jTn t ar K R rr rf (fun a b => if b < R then F b a else 0) (jMk md M.2.2) (jMk md M'.2.2)) ?_ ?_ N 0 _ M2 ⟨rfl, E2, hT.cg (fun i j _ _ => by rw [if_neg (by omega)])⟩ (by omega) (by omega)) ?_)
  · rintro i z M' hi ⟨rfl, EE, hT⟩
    have hA := (h.sub hT.2.2.2.2).sub jMk.sub
    unfold jf_X11_turned_L18
    refine jT_rows hA (jo_f (show ¬ nI R ≤ nI i by rw [nI_leI (by omega) (by omega)]; omega) ?_)
    refine jo_bd (jo_mono (jo_up K (fun k z M' => z = nI k ∧ jExt md (c + 1 + 1 + K) (s + 3 + K + K * R) M0 M' ∧ jTn t ar K R rr rf (fun a b => if b < i ∨ (b = i ∧ a < k) then F b a else 0) (jMk md M.2.2) (jMk md M'.2.2)) (fun _ M' => jExt md (c + 1 + 1 + K) (s + 3 + K + K * R) M0 M' ∧ jTn t ar K R rr rf (fun a b => if b < i ∨ (b = i ∧ a < K) then F b a else 0) (jMk md M.2.2) (jMk md M'.2.2)) ?_ ?_ N 0 _ M' ⟨rfl, EE, hT.cg (fun a b _ _ => ?_)⟩ (by omega) (by omega)) ?_)
    · rintro k z M2 hk ⟨rfl, E2, hT2⟩
      have hA2 := (h.sub hT2.2.2.2.2).sub jMk.sub
      unfold jf_X11_turned_L28
      refine jT_cols hA2 (jo_f (show ¬ nI K ≤ nI k by rw [nI_leI (by omega) (by omega)]; omega) ?_)
      refine jo_fR (mkg hT2.1.1).2 (by decide) rfl (jo_ldR (mkg hT2.1.2.1).2 rfl hk (by omega) ?_)
      refine jT_at hA2 rfl rfl hi hk (by omega) (by omega) ?_
      refine jT_st hT2 rfl hk hi (by omega) E2 rfl (fun M3 hT3 E3 => jo_ret ⟨nI_1 k, E3, hT3.cg (fun a b ha hb => ?_)⟩)
      unfold uTb
      by_cases c1 : a = k ∧ b = i
      · rw [if_pos c1, if_pos (.inr ⟨c1.2, by omega⟩), c1.1, c1.2]
      · rw [if_neg c1]
        show (if b < i ∨ (b = i ∧ a < k) then F b a else 0) = _
        by_cases c2 : b < i ∨ (b = i ∧ a < k)
        · rw [if_pos c2, if_pos (by omega)]
        · rw [if_neg c2, if_neg (by omega)]
    · rintro z M2 ⟨rfl, E2, hT2⟩
      unfold jf_X11_turned_L28
      exact jT_cols ((h.sub hT2.2.2.2.2).sub jMk.sub) (jo_t (show nI K ≤ nI K by rw [nI_leI (by omega) (by omega)]; omega) (jo_ret ⟨E2, hT2⟩))
    · by_cases c2 : b < i
      · rw [if_pos c2, if_pos (.inl c2)]
      · rw [if_neg c2, if_neg (by omega)]
    · rintro _ M2 ⟨E2, hT2⟩
      unfold jf_X11_turned_k28_58
      refine jo_ret ⟨nI_1 i, E2, hT2.cg (fun a b ha hb => ?_)⟩
      by_cases c2 : b < i + 1
      · rw [if_pos c2, if_pos (by omega)]
      · rw [if_neg c2, if_neg (by omega)]
  · rintro z M' ⟨rfl, EE, hT⟩
    unfold jf_X11_turned_L18
    exact jT_rows ((h.sub hT.2.2.2.2).sub jMk.sub) (jo_t (show nI R ≤ nI R by rw [nI_leI (by omega) (by omega)]; omega) (jo_ret ⟨EE, hT⟩))
  · rintro _ M' ⟨EE, hT⟩
    unfold jf_X11_turned_k18_64
    exact jo_ret ⟨t, rfl, hT.2.2.2.2, EE.mono (by omega) (by omega), (hT.cg (G := fun i j => F j i) (fun a b _ hb => by rw [if_pos hb])).tb⟩
end TU
