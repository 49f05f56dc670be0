/-! PLAIN LAW, 75: a product of tables: component -/
section TU
variable {md : Nat → Bool} {N c s R K L : Nat} {M0 M : Mem} {F G : Nat → Nat → Int}
def tMul (K : Nat) (F G : Nat → Nat → Int) : Nat → Nat → Int := fun i j => jsum K (fun k => F i k * G k j)
/-- a product up to row i, column j, term k -/
def tPart (K : Nat) (F G : Nat → Nat → Int) (i j k : Nat) : Nat → Nat → Int := fun a b => if a < i ∨ (a = i ∧ b < j) then tMul K F G a b else if a = i ∧ b = j then jsum k (fun t => F a t * G t b) else 0
theorem jx_times (hM : ∀ a, md a = true → a < M0.1) (hE : jExt md c s M0 M) {a b : Nat} (h : jTb a R K F (jMk md M.2.2)) (h' : jTb b K L G (jMk md M.2.2)) (hR : R ≤ 50) (hK : K ≤ 50) (hL : L ≤ 50) (hN : 100 < N) : jo (jf_X11_times N a (some b)) M (jNew md (c + 2 + R) (s + 3 + R + R * L) M0 M (fun t H => jTb t R L (tMul K F G) H)) := by
  unfold jf_X11_times
  refine jX_al (hE.md hM) hE fun t M1 ht m1 e1 E1 => ?_
  have s1 : jSub (jMk md M.2.2) (jMk md M1.2.2) := by rw [e1]; exact jSub.new ht
  have o1 : jMk md M1.2.2 t = some (.inr (11, [.null, .int 0, .int 0])) := by rw [e1, va_up_self]
  refine jT_rows ((h.sub s1).sub jMk.sub) (jT_cols ((h'.sub s1).sub jMk.sub) ?_)
  refine jX_in11 (H0 := jMk md M.2.2) hM E1 s1 ht o1 (by omega) (by omega) (fun M2 ar rr rf hT E2 => ?_)
  refine jo_bd (jo_mono (jo_up R (fun i z M' => z = nI i ∧ jExt md (c + 1 + 1 + R) (s + 3 + R + R * L) M0 M' ∧ jTn t ar R L rr rf (tPart K F G i 0 0) (jMk md M.2.2) (jMk md M'.2.2)) (fun _ M' => jExt md (c + 1 + 1 + R) (s + 3 + R + R * L) M0 M' ∧ jTn t ar R L rr rf (tMul K F G) (jMk md M.2.2) (jMk md M'.2.2)) ?_ ?_ N 0 _ M2 ⟨rfl, E2, hT.cg (fun i j _ _ => ?_)⟩ (by omega) (by omega)) ?_)
  · rintro i z M' hi ⟨rfl, EE, hT⟩
    unfold jf_X11_times_L18
    refine jT_rows ((h.sub hT.2.2.2.2).sub jMk.sub) (jo_f (show ¬ nI R ≤ nI i by rw [nI_leI (by omega) (by omega)]; omega) ?_)
    refine jo_bd (jo_mono (jo_up L (fun j z M' => z = nI j ∧ jExt md (c + 1 + 1 + R) (s + 3 + R + R * L) M0 M' ∧ jTn t ar R L rr rf (tPart K F G i j 0) (jMk md M.2.2) (jMk md M'.2.2)) (fun _ M' => jExt md (c + 1 + 1 + R) (s + 3 + R + R * L) M0 M' ∧ jTn t ar R L rr rf (tPart K F G i L 0) (jMk md M.2.2) (jMk md M'.2.2)) ?_ ?_ N 0 _ M' ⟨rfl, EE, hT⟩ (by omega) (by omega)) ?_)
    · rintro j z M2 hj ⟨rfl, E2, hT2⟩
      unfold jf_X11_times_L29
      refine jT_cols ((h'.sub hT2.2.2.2.2).sub jMk.sub) (jo_f (show ¬ nI L ≤ nI j by rw [nI_leI (by omega) (by omega)]; omega) ?_)
      refine jo_bd (jo_mono (jo_up K (fun k z M' => z = nI k ∧ jExt md (c + 1 + 1 + R) (s + 3 + R + R * L) M0 M' ∧ jTn t ar R L rr rf (tPart K F G i j k) (jMk md M.2.2) (jMk md M'.2.2)) (fun _ M' => jExt md (c + 1 + 1 + R) (s + 3 + R + R * L) M0 M' ∧ jTn t ar R L rr rf (tPart K F G i j K) (jMk md M.2.2) (jMk md M'.2.2)) ?_ ?_ N 0 _ M2 ⟨rfl, E2, hT2⟩ (by omega) (by omega)) ?_)
      · rintro k z M3 hk ⟨rfl, E3, hT3⟩
        have hA := (h.sub hT3.2.2.2.2).sub jMk.sub
        have hB := (h'.sub hT3.2.2.2.2).sub jMk.sub
        unfold jf_X11_times_L41
        refine jT_cols hA (jo_f (show ¬ nI K ≤ nI k by rw [nI_leI (by omega) (by omega)]; omega) ?_)
        refine jo_fR (mkg hT3.1.1).2 (by decide) rfl (jo_ldR (mkg hT3.1.2.1).2 rfl hi (by omega) ?_)
        obtain ⟨r1, g, g1, g2⟩ := hT3.1.2.2.1 _ hi
        refine jo_rd (x := jI (tPart K F G i j k i j)) (by
          rw [r1]
          rw [← g2 j hj]
          exact jl_ld (mkg g1).2 (jm_ixn hj (by omega))) ?_
        refine jT_at hA rfl rfl hi hk (by omega) (by omega) (jT_at hB rfl rfl hk hj (by omega) (by omega) ?_)
        rw [jI_mul, jI_add]
        refine jT_st hT3 rfl hi hj (by omega) E3 rfl (fun M4 hT4 E4 => jo_ret ⟨nI_1 k, E4, hT4.cg (fun a b ha hb => ?_)⟩)
        unfold uTb
        by_cases c1 : a = i ∧ b = j
        · rw [if_pos c1, c1.1, c1.2]
          unfold tPart
          rw [if_neg (by omega), if_pos ⟨rfl, rfl⟩, if_neg (by omega), if_pos ⟨rfl, rfl⟩]
          rfl
        · rw [if_neg c1]
          unfold tPart
          rw [if_neg c1, if_neg c1]
      · rintro z M3 ⟨rfl, E3, hT3⟩
        unfold jf_X11_times_L41
        exact jT_cols ((h.sub hT3.2.2.2.2).sub jMk.sub) (jo_t (show nI K ≤ nI K by rw [nI_leI (by omega) (by omega)]; omega) (jo_ret ⟨E3, hT3⟩))
      · rintro _ M3 ⟨E3, hT3⟩
        unfold jf_X11_times_k41_88
        refine jo_ret ⟨nI_1 j, E3, hT3.cg (fun a b ha hb => ?_)⟩
        unfold tPart
        by_cases c1 : a = i ∧ b = j
        · rw [if_neg (by omega), if_pos c1, if_pos (by omega)]
          rfl
        · rw [if_neg c1]
          by_cases c2 : a < i ∨ (a = i ∧ b < j)
          · rw [if_pos c2, if_pos (by omega)]
          · rw [if_neg c2, if_neg (by omega)]
            split <;> rfl
    · rintro z M2 ⟨rfl, E2, hT2⟩
      unfold jf_X11_times_L29
      exact jT_cols ((h'.sub hT2.2.2.2.2).sub jMk.sub) (jo_t (show nI L ≤ nI L by rw [nI_leI (by omega) (by omega)]; omega) (jo_ret ⟨E2, hT2⟩))
    · rintro _ M2 ⟨E2, hT2⟩
      unfold jf_X11_times_k29_94
      refine jo_ret ⟨nI_1 i, E2, hT2.cg (fun a b ha hb => ?_)⟩
      unfold tPart
      by_cases c2 : a < i ∨ (a = i ∧ b < L)
      · rw [if_pos c2, if_pos (by omega)]
      · rw [if_neg c2, if_neg (by omega), if_neg (by omega)]
        split <;> rfl
  · rintro z M' ⟨rfl, EE, hT⟩
    unfold jf_X11_times_L18
    refine jT_rows ((h.sub hT.2.2.2.2).sub jMk.sub) (jo_t (show nI R ≤ nI R by rw [nI_leI (by omega) (by omega)]; omega) (jo_ret ⟨EE, hT.cg (fun a b ha hb => ?_)⟩))
    unfold tPart
    rw [if_pos (.inl ha)]
  · unfold tPart
    rw [if_neg (by omega)]
    split <;> rfl
  · rintro _ M' ⟨EE, hT⟩
    unfold jf_X11_times_k18_100
    exact jo_ret ⟨t, rfl, hT.2.2.2.2, EE.mono (by omega) (by omega), hT.tb⟩
end TU
