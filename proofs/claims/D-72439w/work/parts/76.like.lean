/-! PLAIN LAW, 76: a table copied: component -/
section LK
variable {md : Nat → Bool} {N c s R K : Nat} {M0 M : Mem} {F : Nat → Nat → Int}
theorem jx_like (hM : ∀ a, md a = true → a < M0.1) (hE : jExt md c s M0 M) {a : Nat} (h : jTb a R K F (jMk md M.2.2)) (hR : R ≤ 50) (hK : K ≤ 50) (hN : 100 < N) : jo (jf_X11_like N a) M (fun r M' => ∃ t ar rr rf, r = some t ∧ jTn t ar R K rr rf F (jMk md M.2.2) (jMk md M'.2.2) ∧ jExt md (c + 2 + R + R) (s + 3 + R + R * K + K * R) M0 M') := by
  unfold jf_X11_like
  refine jX_al (hE.md hM) hE fun t M1 ht m1 e1 E1 => ?_
  have s1 : jSub (jMk md M.2.2) (jMk md M1.2.2) := by rw [e1]; exact jSub.new ht
  have o1 : jMk md M1.2.2 t = some (.inr (11, [.null, .int 0, .int 0])) := by rw [e1, va_up_self]
  refine jT_rows ((h.sub s1).sub jMk.sub) (jT_cols ((h.sub s1).sub jMk.sub) ?_)
  refine jX_in11 (H0 := jMk md M.2.2) hM E1 s1 ht o1 (by omega) (by omega) (fun M2 ar rr rf hT E2 => ?_)
  refine jo_bd (jo_mono (jo_up R (fun i z M' => z = nI i ∧ jExt md (c + 1 + 1 + R + i) (s + 3 + R + R * K + K * i) M0 M' ∧ ∃ rr rf, jTn t ar R K rr rf (fun a b => if a < i then F a b else 0) (jMk md M.2.2) (jMk md M'.2.2)) (fun _ M' => jExt md (c + 1 + 1 + R + R) (s + 3 + R + R * K + K * R) M0 M' ∧ ∃ rr rf, jTn t ar R K rr rf F (jMk md M.2.2) (jMk md M'.2.2)) ?_ ?_ N 0 _ M2 ⟨rfl, E2, rr, rf, hT.cg (fun i j _ _ => by rw [if_neg (by omega)])⟩ (by omega) (by omega)) ?_)
  · rintro i z M' hi ⟨rfl, EE, rr, rf, hT⟩
    have hA := h.sub hT.2.2.2.2
    unfold jf_X11_like_L18
    refine jT_rows (hA.sub jMk.sub) (jo_f (show ¬ nI R ≤ nI i by rw [nI_leI (by omega) (by omega)]; omega) ?_)
    obtain ⟨ar0, rr0, rf0, x1, x2, x3, x4⟩ := hA
    obtain ⟨y1, g, y2, y3⟩ := x3 i hi
    refine jo_fR (mkg hT.1.1).2 (by decide) rfl (jo_fR (mkg x1).2 (by decide) rfl (jo_ldR (mkg x2).2 rfl hi (by omega) ?_))
    rw [y1]
    refine jo_rd (x := (K, g)) (by unfold jm_arJ jm_ar; simp only [(mkg y2).2, if_true]) ?_
    refine jX_al (EE.md hM) EE fun q M3 hq m3 e3 E3 => ?_
    have s3 : jSub (jMk md M'.2.2) (jMk md M3.2.2) := by rw [e3]; exact jSub.new hq
    have o3 : jMk md M3.2.2 q = some (aJ K g) := by rw [e3, va_up_self]
    refine jo_rd (x := (K, .inr (.inl g))) (by unfold jm_ar; simp only [(mkg o3).2, if_true]) (jo_ck (by simp) ?_)
    refine jX_stR (n := R) (j := i) (f := rf) (s3 _ _ hT.1.2.1) rfl hi (by omega) ?_ E3 (fun M4 e4 E4 => jo_ret ⟨nI_1 i, E4.mono (by omega) (by show s + 3 + R + R * K + K * i + K ≤ s + 3 + R + R * K + K * (i + 1); rw [Nat.mul_add]; omega), va_up rr i q, va_up rf i (some q), ?_⟩)
    · unfold jm_fit
      simp only [(mkg o3).2]
      rfl
    have nq : ∀ j, j < R → rr j ≠ q := fun j hj y => by
      obtain ⟨_, g', z1, _⟩ := hT.1.2.2.1 j hj
      rw [y, hq] at z1
      cases z1
    have na : ∀ j, j < R → rr j ≠ ar := fun j hj y => by
      obtain ⟨_, g', z1, _⟩ := hT.1.2.2.1 j hj
      rw [y, hT.1.2.1] at z1
      cases z1
    have qa : q ≠ ar := fun y => by rw [y, hT.1.2.1] at hq; cases hq
    have ta : t ≠ ar := fun y => by
      have := hT.1.1
      rw [y, hT.1.2.1] at this
      cases this
    refine ⟨⟨?_, ?_, fun j hj => ?_, fun j k hj hk hjk => ?_⟩, hT.2.1, hT.2.2.1, fun j => ?_, ?_⟩
    · rw [e4, va_up_ne _ _ ta]; exact s3 _ _ hT.1.1
    · rw [e4, va_up_self]
    · by_cases ji : j = i
      · subst ji
        refine ⟨by rw [va_up_self, va_up_self], g, ?_, fun b hb => ?_⟩
        · rw [va_up_self, e4, va_up_ne _ _ qa]; exact o3
        · rw [y3 b hb]
          dsimp only
          rw [if_pos (by omega)]
      · obtain ⟨z0, g', z1, z2⟩ := hT.1.2.2.1 j hj
        refine ⟨by rw [va_up_ne _ _ ji, va_up_ne _ _ ji]; exact z0, g', ?_, fun b hb => ?_⟩
        · rw [va_up_ne _ _ ji, e4, va_up_ne _ _ (na j hj)]; exact s3 _ _ z1
        · rw [z2 b hb]
          dsimp only
          by_cases jl : j < i
          · rw [if_pos jl, if_pos (by omega)]
          · rw [if_neg jl, if_neg (by omega)]
    · by_cases ji : j = i <;> by_cases ki : k = i
      · omega
      · rw [ji, va_up_self, va_up_ne _ _ ki] at hjk
        exact absurd hjk.symm (nq k hk)
      · rw [ki, va_up_self, va_up_ne _ _ ji] at hjk
        exact absurd hjk (nq j hj)
      · rw [va_up_ne _ _ ji, va_up_ne _ _ ki] at hjk
        exact hT.1.2.2.2 j k hj hk hjk
    · by_cases ji : j = i
      · rw [ji, va_up_self]
        cases hh : jMk md M.2.2 q with
        | none => rfl
        | some e => have := hT.2.2.2.2 _ _ hh; rw [hq] at this; cases this
      · rw [va_up_ne _ _ ji]; exact hT.2.2.2.1 j
    · rw [e4]; exact (hT.2.2.2.2.tr s3).wr hT.2.2.1
  · rintro z M' ⟨rfl, EE, rr, rf, hT⟩
    unfold jf_X11_like_L18
    exact jT_rows ((h.sub hT.2.2.2.2).sub jMk.sub) (jo_t (show nI R ≤ nI R by rw [nI_leI (by omega) (by omega)]; omega) (jo_ret ⟨EE, rr, rf, hT.cg (fun a b ha hb => by rw [if_pos ha])⟩))
  · rintro _ M' ⟨EE, rr, rf, hT⟩
    unfold jf_X11_like_k18_50
    exact jo_ret ⟨t, ar, rr, rf, rfl, hT, EE.mono (by omega) (by omega)⟩
end LK
