/-! PLAIN LAW, 93.j: a table is brought to a diagonal: component -/
/-- one step: the least number is brought to (k, k), row and column k are lessened by it -/
def stp (F : Nat → Nat → Int) (K' k i j : Nat) : Nat → Nat → Int := colP (rowP (swc (swr F k i) k j) k) k K'
theorem diag_aux {w C l n : Nat} (h : w * C + C + l ≤ n + 1) (hl : 1 ≤ l) (hC : 1 ≤ C) : w * C + (C - 1) ≤ n := by omega
section DG
variable {md : Nat → Bool} {N c s t ar R K' : Nat} {M0 M : Mem} {rr : Nat → Nat} {rf : Nat → Option Nat} {H0 : HM}
theorem jx_diagL {I : Nat → (Nat → Nat → Int) → Prop} (hR : R ≤ 50) (hK : K' ≤ 50) (hN : 1000 < N)
    (hr : ∀ k F, I k F → ∀ i j, inn R K' k i j → (F i j).natAbs < 9223372036854775808)
    (hs : ∀ k F i j, I k F → isLst F R K' k i j → (clrd (swc (swr F k i) k j) R K' k → I (k + 1) (stp F K' k i j)) ∧ (¬ clrd (swc (swr F k i) k j) R K' k → I k (stp F K' k i j))) :
    ∀ (n k l N' : Nat) (F : Nat → Nat → Int) (rr : Nat → Nat) (rf : Nat → Option Nat) (M : Mem), n < N' → I k F → k ≤ R → k ≤ K' → (R - k) * 9223372036854775808 + l ≤ n → ((∀ x y, inn R K' k x y → F x y = 0) ∨ ∃ x y, inn R K' k x y ∧ F x y ≠ 0 ∧ (F x y).natAbs ≤ l) → jTn t ar R (K' + 1) rr rf F H0 (jMk md M.2.2) → jExt md c s M0 M →
    jo (jm_it (fun z => jf_X11_diagonal_L2 N t z) N' (nI k)) M (fun r M' => ∃ k F rr rf, r = nI k ∧ k ≤ R ∧ k ≤ K' ∧ I k F ∧ (∀ x y, inn R K' k x y → F x y = 0) ∧ jTn t ar R (K' + 1) rr rf F H0 (jMk md M'.2.2) ∧ jExt md c s M0 M') := by
  intro n
  induction n with
  | zero =>
    intro k l N' F rr rf M hn hI hkR hkK hl hx h hE
    obtain ⟨N', rfl⟩ : ∃ q, N' = q + 1 := ⟨N' - 1, by omega⟩
    have z : ∀ x y, inn R K' k x y → F x y = 0 := by
      rcases hx with z | ⟨x, y, hi, h0, h1⟩
      · exact z
      · have : l = 0 := by omega
        exact absurd (by omega) h0
    have st : jo (jf_X11_diagonal_L2 N t (nI k)) M (fun x M' => M' = M ∧ x = .inr (nI k)) := by
      unfold jf_X11_diagonal_L2
      refine jN_cl h.md (jo_bd (jo_mono (jx_least h.md hR hK (by omega) hkR hkK (hr k F hI)) ?_))
      rintro r M1 ⟨rfl, ⟨rfl, _⟩ | ⟨i, j, rfl, hl⟩⟩
      · exact jo_t (by decide +kernel) (jo_ret ⟨rfl, rfl⟩)
      · exact absurd (z i j hl.1) hl.2.1
    refine jo_its (jo_mono st ?_)
    rintro x M1 ⟨rfl, rfl⟩
    exact ⟨k, F, rr, rf, rfl, hkR, hkK, hI, z, h, hE⟩
  | succ n ih =>
    intro k l N' F rr rf M hn hI hkR hkK hl hx h hE
    obtain ⟨N', rfl⟩ : ∃ q, N' = q + 1 := ⟨N' - 1, by omega⟩
    have rg := hr k F hI
    have st : jo (jf_X11_diagonal_L2 N t (nI k)) M (fun x M' => (x = .inr (nI k) ∧ M' = M ∧ ∀ x y, inn R K' k x y → F x y = 0) ∨ ∃ i j k' rr' rf', x = .inl (nI k') ∧ isLst F R K' k i j ∧ ((k' = k + 1 ∧ clrd (swc (swr F k i) k j) R K' k) ∨ (k' = k ∧ ¬ clrd (swc (swr F k i) k j) R K' k)) ∧ jTn t ar R (K' + 1) rr' rf' (stp F K' k i j) H0 (jMk md M'.2.2) ∧ jExt md c s M0 M') := by
      unfold jf_X11_diagonal_L2 jf_X11_diagonal_j45
      refine jN_cl h.md (jo_bd (jo_mono (jx_least h.md hR hK (by omega) hkR hkK rg) ?_))
      rintro r M1 ⟨rfl, ⟨rfl, hz⟩ | ⟨i, j, rfl, hlt⟩⟩
      · exact jo_t (by decide +kernel) (jo_ret (.inl ⟨rfl, rfl, hz⟩))
      obtain ⟨⟨i1, i2, i3, i4⟩, i5, i6⟩ := id hlt
      refine jo_f (show ¬ nI (100 * i + j) = iI (-1000000) by rw [nI_iI, iI_eqI (by omega) (by omega)]; omega) ?_
      have d1 : nI (100 * i + j) / (100 : Int32) = nI i := by
        rw [show (100 : Int32) = nI 100 from rfl, nI_div (by omega) (by omega) (by omega)]
        congr 1; omega
      have d2 : nI (100 * i + j) - nI i * (100 : Int32) = nI j := by
        rw [show (100 : Int32) = nI 100 from rfl, nI_mul, nI_sub (by omega)]
        congr 1; omega
      rw [d1, d2]
      refine jN_cl h.md (jo_bd (jo_mono (jx_swapRows hE h (by omega) (show k < R by omega) i2) ?_))
      rintro _ M2 ⟨rr2, rf2, h2, E2⟩
      refine jN_cl h2.md (jo_bd (jo_mono (jx_swapColumns E2 h2 (by omega) (by omega) (by omega) (show k < K' + 1 by omega) (show j < K' + 1 by omega)) ?_))
      rintro _ M3 ⟨h3, E3⟩
      have g0 : swc (swr F k i) k j k k = F i j := by unfold swc swr; rw [if_pos rfl, if_pos rfl]
      refine jN_cl h3.md (jo_bd (jo_mono (jx_clear E3 h3 hR hK (by omega) (show k < R by omega) (show k < K' by omega) (by rw [g0]; exact i5) (fun x y hxy => ?_)) ?_))
      · unfold swc swr
        refine rg _ _ ?_
        unfold inn at hxy ⊢
        refine ⟨?_, ?_, ?_, ?_⟩
        · split; exact i1; split <;> omega
        · split; exact i2; split <;> omega
        · split; exact i3; split <;> omega
        · split; exact i4; split <;> omega
      · rintro r M4 ⟨⟨rfl, hc⟩ | ⟨rfl, hc⟩, h4, E4⟩
        · refine jo_f (by decide) (jo_ret (.inr ⟨i, j, k + 1, rr2, rf2, by rw [nI_1], hlt, .inl ⟨rfl, hc⟩, h4, E4⟩))
        · exact jo_t rfl (jo_ret (.inr ⟨i, j, k, rr2, rf2, rfl, hlt, .inr ⟨rfl, hc⟩, h4, E4⟩))
    refine jo_its (jo_mono st ?_)
    rintro x M1 (⟨rfl, rfl, hz⟩ | ⟨i, j, k', rr', rf', rfl, hlt, hk', h', E'⟩)
    · exact ⟨k, F, rr, rf, rfl, hkR, hkK, hI, hz, h, hE⟩
    · obtain ⟨⟨i1, i2, i3, i4⟩, i5, i6⟩ := id hlt
      have hs' := hs k F i j hI hlt
      -- the least number is at most l
      have pl : (F i j).natAbs ≤ l := by
        rcases hx with z | ⟨x, y, hxy, h0, h1⟩
        · exact absurd (z i j ⟨i1, i2, i3, i4⟩) i5
        · exact Nat.le_trans (i6 x y hxy h0).1 h1
      have p1 : 1 ≤ (F i j).natAbs := by omega
      rcases hk' with ⟨rfl, hc⟩ | ⟨rfl, hc⟩
      · have I' := hs'.1 hc
        have e : (R - k) = (R - (k + 1)) + 1 := by omega
        rw [e, Nat.succ_mul] at hl
        generalize hw : R - (k + 1) = w at hl
        have hm := diag_aux hl (Nat.le_trans p1 pl) (Nat.le_of_ble_eq_true rfl)
        refine ih (k + 1) (9223372036854775808 - 1) N' _ rr' rf' M1 (by omega) I' (by omega) (by omega) ?_ ?_ h' E'
        · rw [hw]; exact hm
        by_cases z : ∀ x y, inn R K' (k + 1) x y → stp F K' k i j x y = 0
        · exact .inl z
        · right
          have : ∃ x y, inn R K' (k + 1) x y ∧ stp F K' k i j x y ≠ 0 := Classical.byContradiction fun q => z (fun x y hxy => Classical.byContradiction fun q2 => q ⟨x, y, hxy, q2⟩)
          obtain ⟨x, y, hxy, h0⟩ := this
          exact ⟨x, y, hxy, h0, Nat.le_sub_one_of_lt (hr _ _ I' x y hxy)⟩
      · have I' := hs'.2 hc
        have g0 : swc (swr F k' i) k' j k' k' = F i j := by unfold swc swr; rw [if_pos rfl, if_pos rfl]
        have gn : swc (swr F k' i) k' j k' k' ≠ 0 := by rw [g0]; exact i5
        have ex : ∃ x y, inn R K' k' x y ∧ stp F K' k' i j x y ≠ 0 ∧ (stp F K' k' i j x y).natAbs < (F i j).natAbs := by
          unfold clrd at hc
          by_cases a1 : ∀ x, k' < x → x < R → rowP (swc (swr F k' i) k' j) k' x k' = 0
          · have : ∃ y, k' < y ∧ y < K' ∧ colP (rowP (swc (swr F k' i) k' j) k') k' K' k' y ≠ 0 := Classical.byContradiction fun q => hc ⟨a1, fun y y1 y2 => Classical.byContradiction fun q2 => q ⟨y, y1, y2, q2⟩⟩
            obtain ⟨y, y1, y2, y3⟩ := this
            refine ⟨k', y, ⟨Nat.le_refl _, by omega, by omega, y2⟩, y3, ?_⟩
            show (colP _ k' K' k' y).natAbs < _
            rw [colP_k y1 y2, ← g0]
            exact tmod_lt' gn
          · have : ∃ x, k' < x ∧ x < R ∧ rowP (swc (swr F k' i) k' j) k' x k' ≠ 0 := Classical.byContradiction fun q => a1 (fun x x1 x2 => Classical.byContradiction fun q2 => q ⟨x, x1, x2, q2⟩)
            obtain ⟨x, x1, x2, x3⟩ := this
            have e : stp F K' k' i j x k' = rowP (swc (swr F k' i) k' j) k' x k' := by unfold stp colP; rw [if_neg (by omega)]
            refine ⟨x, k', ⟨by omega, x2, Nat.le_refl _, by omega⟩, by rw [e]; exact x3, ?_⟩
            rw [e, rowP_k x1, ← g0]
            exact tmod_lt' gn
        obtain ⟨x, y, hxy, h0, h1⟩ := ex
        exact ih k' (l - 1) N' _ rr' rf' M1 (by omega) I' hkR hkK (by omega) (.inr ⟨x, y, hxy, h0, by omega⟩) h' E'
theorem jx_diagonal {I : Nat → (Nat → Nat → Int) → Prop} {F : Nat → Nat → Int} (hR : R ≤ 50) (hK : K' ≤ 50) (hN : 1180591620717411303424 < N)
    (hr : ∀ k F, I k F → ∀ i j, inn R K' k i j → (F i j).natAbs < 9223372036854775808)
    (hs : ∀ k F i j, I k F → isLst F R K' k i j → (clrd (swc (swr F k i) k j) R K' k → I (k + 1) (stp F K' k i j)) ∧ (¬ clrd (swc (swr F k i) k j) R K' k → I k (stp F K' k i j)))
    (h0 : I 0 F) (h : jTn t ar R (K' + 1) rr rf F H0 (jMk md M.2.2)) (hE : jExt md c s M0 M) :
    jo (jf_X11_diagonal N t) M (fun r M' => ∃ k F rr rf, r = nI k ∧ k ≤ R ∧ k ≤ K' ∧ I k F ∧ (∀ x y, inn R K' k x y → F x y = 0) ∧ jTn t ar R (K' + 1) rr rf F H0 (jMk md M'.2.2) ∧ jExt md c s M0 M') := by
  unfold jf_X11_diagonal jf_X11_diagonal_k2_14
  refine jo_bd (jo_mono (jx_diagL hR hK (by omega) hr hs (51 * 9223372036854775808) 0 9223372036854775807 N F rr rf M (by omega) h0 (Nat.zero_le _) (Nat.zero_le _) (by omega) ?_ h hE) ?_)
  · by_cases z : ∀ x y, inn R K' 0 x y → F x y = 0
    · exact .inl z
    · right
      have : ∃ x y, inn R K' 0 x y ∧ F x y ≠ 0 := Classical.byContradiction fun q => z (fun x y hxy => Classical.byContradiction fun q2 => q ⟨x, y, hxy, q2⟩)
      obtain ⟨x, y, hxy, h1⟩ := this
      exact ⟨x, y, hxy, h1, by have := hr _ _ h0 x y hxy; omega⟩
  · rintro r M' hq
    exact jo_ret hq
end DG
