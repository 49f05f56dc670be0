/-! PLAIN LAW, 93.zp: the rank of some rows of table 1, the independent ones: model -/
theorem sub_1 : ∀ s, s < 32 → ∀ r, r < 32 → (r = 0 ∨ ¬ r &&& s = r ∨ (((r - 1) &&& s) &&& s = (r - 1) &&& s ∧ (r - 1) &&& s < r)) := by decide +kernel
theorem sub_2 : ∀ s, s < 32 → ∀ r, r < 32 → (r = 0 ∨ ¬ r &&& s = r ∨ ∀ r', r' < r → (¬ r' &&& s = r' ∨ r' ≤ (r - 1) &&& s)) := by decide +kernel
theorem sub_3 : ∀ s, s < 32 → ∀ r, r < 32 → (r = 0 ∨ (nI r - (1 : Int32)) &&& nI s = nI ((r - 1) &&& s)) := by decide +kernel
theorem sub_4 : ∀ s, s < 32 → ∀ r, r < 32 → (¬ r &&& s = r ∨ sN r ≤ sN s) := by decide +kernel
theorem and_bits {r s i : Nat} (h : r &&& s = r) (hb : r.testBit i = true) : s.testBit i = true := by
  rw [← h, Nat.testBit_and, Bool.and_eq_true] at hb
  exact hb.2
/-- a minor of rows and columns of table 1 -/
def rwM (C : CX) (r c : Nat) : Int := mn (sN r) (fun a b => cOne C (nt r a) (nt c b))
section RR
variable {N m : Nat} {ad : Nat → Nat} {M0 M : Mem} {S : MS} {C : CX} {f : Nat → Int64}
theorem rwM_rk (hW : jWf C) {s k : Nat} (hs : s < 2 ^ cP C) (h1 : k = 0 ∨ ∃ r c, r &&& s = r ∧ r < 32 ∧ c < 2 ^ cE C ∧ sN r = k ∧ sN c = k ∧ rwM C r c ≠ 0) (h2 : ∀ r c, r &&& s = r → r < 32 → c < 2 ^ cE C → sN c = sN r → k < sN r → rwM C r c = 0) : isRk (sN s) (cE C) (fun a e => cOne C (nt s a) e) k := by
  have h5 := hW.1
  have h6 := hW.2.1
  have hs32 : s < 32 := Nat.lt_of_lt_of_le hs (Nat.pow_le_pow_right (n := 2) (by decide) h5)
  have hc64 : ∀ c, c < 2 ^ cE C → c < 64 := fun c hc => Nat.lt_of_lt_of_le hc (Nat.pow_le_pow_right (n := 2) (by decide) h6)
  refine isRk_of ?_ ?_ ?_ ?_
  · rcases h1 with rfl | ⟨r, c, a1, a2, a3, a4, a5, a6⟩
    · exact Nat.zero_le _
    · rw [← a4]; exact (sub_4 s hs32 r a2).resolve_left (fun y => y a1)
  · rcases h1 with rfl | ⟨r, c, a1, a2, a3, a4, a5, a6⟩
    · exact Nat.zero_le _
    · rw [← a5]; exact sN_K _ (by omega) c a3
  · rcases h1 with h1 | ⟨r, c, a1, a2, a3, a4, a5, a6⟩
    · exact .inl h1
    · right
      intro hd
      refine a6 ?_
      have pos : ∀ a, a < k → ∃ j, j < sN s ∧ nt s j = nt r a := by
        intro a ha
        have q := nt_ok r (by omega) a (by have := sN_le r (by omega); omega) (by omega)
        obtain ⟨j, _, j2, j3⟩ := nt_on s (by omega) (nt r a) q.2.1 (and_bits a1 q.2.2.1)
        exact ⟨j, j2, j3⟩
      have := hd (fun a => @dite Nat (∃ j, j < sN s ∧ nt s j = nt r a) (Classical.propDecidable _) (fun h => Classical.choose h) (fun _ => 0)) (nt c) (fun a ha => by
        rw [dif_pos (pos a ha)]
        exact (Classical.choose_spec (pos a ha)).1) (fun b hb => nt_lt a3 h6 (by omega))
      have := Int.zero_dvd.mp this
      unfold rwM
      rw [a4, ← this]
      refine mn_cg fun a b ha _ => ?_
      dsimp only
      rw [dif_pos (pos a ha), (Classical.choose_spec (pos a ha)).2]
  · intro k' kk k1 k2
    refine dv_inc.mpr fun σ τ i1 i2 i3 i4 => ?_
    have ninc := nt_inc (s := s) (by omega)
    have io : inc k' (fun a => nt s (σ a)) := fun a ha => inc_mono ninc (i1 a ha) (i2 _ ha)
    have lt6 : ∀ a, a < k' → nt s (σ a) < 5 := fun a ha => by
      have := nt_lt hs (by omega) (i2 a ha)
      omega
    obtain ⟨b1, b2, b3⟩ := bs_nt (R := 5) io lt6 (by decide)
    obtain ⟨c1, c2, c3⟩ := bs_nt (R := cE C) i3 i4 h6
    have hsub : bs k' (fun a => nt s (σ a)) &&& s = bs k' (fun a => nt s (σ a)) := by
      refine Nat.eq_of_testBit_eq fun i => ?_
      rw [Nat.testBit_and]
      by_cases hb : (bs k' (fun a => nt s (σ a))).testBit i = true
      · obtain ⟨a, a1, a2⟩ := (bs_bit io).mp hb
        have q := (nt_ok s (by omega) (σ a) (by have := sN_le s (by omega); have := i2 a a1; omega) (i2 a a1)).2.2.1
        rw [hb, ← a2, q]; rfl
      · rw [Bool.eq_false_iff.mpr hb]; rfl
    have := h2 _ _ hsub b1 c1 (by rw [c2, b2]) (by rw [b2]; exact kk)
    unfold rwM at this
    rw [b2] at this
    rw [← mn_cg (A := fun a b => cOne C (nt (bs k' (fun a => nt s (σ a))) a) (nt (bs k' τ) b)) (fun a b ha hb => by rw [b3 a ha, c3 b hb]), this]
    exact Int.dvd_refl 0
theorem jm_rankOfRows (h : jMM m ad M0 (s15 S f) M) (hC : jEnc C (S.1 0)) (hW : jWf C) (hN : 9223372036854775809 < N) {s : Nat} (hs : s < 2 ^ cP C) :
    jo (jf_X1_rankOfRows N m (nI s)) M (fun x M' => (∃ k : Nat, x = nI k ∧ isRk (sN s) (cE C) (fun a e => cOne C (nt s a) e) k) ∧ ∃ g, jMM m ad M0 (s15 S g) M') := by
  have h5 := hW.1
  have h6 := hW.2.1
  have hs32 : s < 32 := Nat.lt_of_lt_of_le hs (Nat.pow_le_pow_right (n := 2) (by decide) h5)
  have pE : 2 ^ cE C ≤ 64 := Nat.pow_le_pow_right (n := 2) (by decide) h6
  have main : ∀ (n r N' k : Nat) (M : Mem), r ≤ n → r < N' → r &&& s = r → r < 32 → k ≤ 6 → (k = 0 ∨ ∃ r c, r &&& s = r ∧ r < 32 ∧ c < 2 ^ cE C ∧ sN r = k ∧ sN c = k ∧ rwM C r c ≠ 0) → (∀ r' c, r' &&& s = r' → r' < 32 → r < r' → c < 2 ^ cE C → sN c = sN r' → k < sN r' → rwM C r' c = 0) → (∃ g, jMM m ad M0 (s15 S g) M) → jo (jm_it (fun z => jf_X1_rankOfRows_L4 N m (nI s) z.1 z.2) N' (nI k, nI r)) M (fun x M' => (∃ k : Nat, x = nI k ∧ isRk (sN s) (cE C) (fun a e => cOne C (nt s a) e) k) ∧ ∃ g, jMM m ad M0 (s15 S g) M') := by
    intro n
    induction n with
    | zero =>
      intro r N' k M hr hN' hsub r32 k6 e1 e2 hM
      obtain rfl : r = 0 := by omega
      obtain ⟨N', rfl⟩ : ∃ n, N' = n + 1 := ⟨N' - 1, by omega⟩
      have hd : jo (jf_X1_rankOfRows_L4 N m (nI s) (nI k) (nI 0)) M (fun z M' => M' = M ∧ z = .inr (nI k)) := by
        unfold jf_X1_rankOfRows_L4
        exact jo_t (by decide) (jo_ret ⟨rfl, rfl⟩)
      refine jo_its (jo_mono hd ?_)
      rintro z M1 ⟨rfl, rfl⟩
      refine ⟨⟨k, rfl, rwM_rk hW hs e1 fun r c a1 a2 a3 a4 a5 => ?_⟩, hM⟩
      by_cases r0 : r = 0
      · subst r0
        exact absurd a5 (Nat.not_lt_zero k)
      · exact e2 r c a1 a2 (by omega) a3 a4 a5
    | succ n ih =>
      intro r N' k M hr hN' hsub r32 k6 e1 e2 hM
      by_cases r0 : r = 0
      · exact ih r N' k M (by omega) hN' hsub r32 k6 e1 e2 hM
      · obtain ⟨N', rfl⟩ : ∃ n, N' = n + 1 := ⟨N' - 1, by omega⟩
        obtain ⟨w1, w2⟩ := ((sub_1 s hs32 r r32).resolve_left r0).resolve_left (fun y => y hsub)
        have w3 := ((sub_2 s hs32 r r32).resolve_left r0).resolve_left (fun y => y hsub)
        have w4 := (sub_3 s hs32 r r32).resolve_left r0
        have hd : jo (jf_X1_rankOfRows_L4 N m (nI s) (nI k) (nI r)) M (fun z M' => ∃ k' : Nat, z = .inl (nI k', nI ((r - 1) &&& s)) ∧ k' ≤ 6 ∧ k ≤ k' ∧ (k' = 0 ∨ ∃ r c, r &&& s = r ∧ r < 32 ∧ c < 2 ^ cE C ∧ sN r = k' ∧ sN c = k' ∧ rwM C r c ≠ 0) ∧ (∀ c, c < 2 ^ cE C → sN c = sN r → k' < sN r → rwM C r c = 0) ∧ ∃ g, jMM m ad M0 (s15 S g) M') := by
          have hsN := sN_le r (by omega)
          have hr2 : r < 2 ^ cP C := by
            have : r ≤ s := by rw [← hsub]; exact Nat.and_le_right
            omega
          have n5 : sN r ≤ 5 := Nat.le_trans (sN_K _ (by omega) r hr2) h5
          unfold jf_X1_rankOfRows_L4 jf_X1_rankOfRows_k11_69
          refine jo_f (by rw [show (0 : Int32) = nI 0 from rfl, nI_leI (by omega) (by omega)]; omega) ?_
          refine jo_bd (jo_mono (jo_up (2 ^ cE C) (fun c z M' => ∃ k' : Nat, z = (nI k', nI c) ∧ k' ≤ 6 ∧ k ≤ k' ∧ (k' = 0 ∨ ∃ r c, r &&& s = r ∧ r < 32 ∧ c < 2 ^ cE C ∧ sN r = k' ∧ sN c = k' ∧ rwM C r c ≠ 0) ∧ (∀ c', c' < c → sN c' = sN r → k' < sN r → rwM C r c' = 0) ∧ ∃ g, jMM m ad M0 (s15 S g) M') (fun z M' => ∃ k' : Nat, z = nI k' ∧ k' ≤ 6 ∧ k ≤ k' ∧ (k' = 0 ∨ ∃ r c, r &&& s = r ∧ r < 32 ∧ c < 2 ^ cE C ∧ sN r = k' ∧ sN c = k' ∧ rwM C r c ≠ 0) ∧ (∀ c, c < 2 ^ cE C → sN c = sN r → k' < sN r → rwM C r c = 0) ∧ ∃ g, jMM m ad M0 (s15 S g) M') ?_ ?_ N 0 _ M ⟨k, rfl, k6, Nat.le_refl _, e1, fun c' hc' => absurd hc' (Nat.not_lt_zero _), hM⟩ (Nat.zero_le _) (by omega)) ?_)
          · rintro c z M1 hc ⟨k', rfl, i1, i2, i3, i4, g, i5⟩
            have hc64 : c < 64 := by omega
            unfold jf_X1_rankOfRows_L11 jf_X1_rankOfRows_j63
            refine jo_rd (jM_fR i5 (k := 0) rfl) (jo_rd (jr_now1 i5 hC rfl) ?_)
            rw [shl_nI _ (by omega)]
            refine jo_f (by rw [nI_leI (by omega) (by omega)]; omega) (jo_eq (jr_ones hc64 (by omega)) (jo_eq (jr_ones (by omega) (by omega)) ?_))
            have hsc := sN_le c hc64
            by_cases c1 : sN c = sN r
            · refine jo_t (by rw [c1]) (jo_eq (jr_ones (by omega) (by omega)) ?_)
              by_cases c2 : sN r ≤ k'
              · refine jo_t (by rw [nI_leI (by omega) (by omega)]; exact c2) (jo_ret ⟨k', by rw [nI_1], i1, i2, i3, fun c' hc' a1 a2 => by omega, g, i5⟩)
              · refine jo_f (by rw [nI_leI (by omega) (by omega)]; exact c2) (jo_rd (jM_cl i5) (jo_bd (jo_mono (jm_minor (c := 0) (d := 1) i5 hC hW (by omega) (.inl rfl) (by decide) hr2 hc64 rfl c1 n5 (fun j hj => .inl (tb_lt hc hj))) ?_)))
                rintro x M2 ⟨rfl, g2, i6⟩
                have ex : mn (sN r) (fun a b => cWd C 1 0 (nt r a) (nt c b)) = rwM C r c := by
                  unfold rwM
                  refine mn_cg fun a b _ _ => ?_
                  unfold cWd cTab
                  rw [if_neg (by omega), if_pos rfl]
                rw [ex]
                have rg : (rwM C r c).natAbs ≤ 1 := mn_one
                by_cases c3 : rwM C r c = 0
                · refine jo_t (by rw [c3]; rfl) (jo_ret ⟨k', by rw [nI_1], i1, i2, i3, fun c' hc' a1 a2 => ?_, g2, i6⟩)
                  by_cases cc : c' = c
                  · rw [cc]; exact c3
                  · exact i4 c' (by omega) a1 a2
                · refine jo_f (by rw [jI_0 (by omega)]; exact c3) (jo_eq (jr_ones (by omega) (by omega)) (jo_ret ⟨sN r, by rw [nI_1], by omega, by omega, .inr ⟨r, c, hsub, r32, hc, rfl, c1, c3⟩, fun c' hc' a1 a2 => by omega, g2, i6⟩))
            · refine jo_f (by rw [nI_eq (by omega) (by omega)]; exact c1) (jo_ret ⟨k', by rw [nI_1], i1, i2, i3, fun c' hc' a1 a2 => ?_, g, i5⟩)
              by_cases cc : c' = c
              · exact absurd (by rw [← cc]; exact a1) c1
              · exact i4 c' (by omega) a1 a2
          · rintro z M1 ⟨k', rfl, i1, i2, i3, i4, g, i5⟩
            unfold jf_X1_rankOfRows_L11
            refine jo_rd (jM_fR i5 (k := 0) rfl) (jo_rd (jr_now1 i5 hC rfl) ?_)
            rw [shl_nI _ (by omega)]
            exact jo_t (by rw [nI_leI (by omega) (by omega)]; omega) (jo_ret ⟨k', rfl, i1, i2, i3, i4, g, i5⟩)
          · rintro z M1 ⟨k', rfl, i1, i2, i3, i4, i5⟩
            exact jo_ret ⟨k', by rw [w4], i1, i2, i3, i4, i5⟩
        refine jo_its (jo_mono hd ?_)
        rintro z M1 ⟨k', rfl, i1, i2, i3, i4, i5⟩
        refine ih _ N' k' M1 (by omega) (by omega) w1 (by omega) i1 i3 (fun r' c a1 a2 a3 a4 a5 a6 => ?_) i5
        by_cases rr : r' = r
        · subst rr; exact i4 c a4 a5 a6
        · by_cases rl : r' < r
          · have := (w3 r' rl).resolve_left (fun y => y a1)
            omega
          · exact e2 r' c a1 a2 (by omega) a4 a5 (by omega)
  unfold jf_X1_rankOfRows jf_X1_rankOfRows_k4_78
  refine jo_bd (jo_mono (main s s N 0 M (Nat.le_refl _) (by omega) (Nat.and_self s) hs32 (by decide) (.inl rfl) (fun r' c a1 a2 a3 => ?_) ⟨f, h⟩) ?_)
  · have : r' ≤ s := by rw [← a1]; exact Nat.and_le_right
    omega
  · rintro x M1 hx
    exact jo_ret hx
end RR
