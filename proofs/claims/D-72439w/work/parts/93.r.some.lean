/-! PLAIN LAW, 93.r: some columns of a table: component -/
/-- how many of a set stand below b -/
def cN (s b : Nat) : Nat := (jsum b (fun k => if s.testBit k = true then 1 else 0)).toNat
theorem cN_in : ∀ s, s < 64 → ∀ b, b < 6 → s.testBit b = true → cN s b < sN s ∧ nt s (cN s b) = b ∧ cN s (b + 1) = cN s b + 1 := by decide +kernel
theorem cN_out : ∀ s, s < 64 → ∀ b, b < 6 → s.testBit b = false → cN s (b + 1) = cN s b := by decide +kernel
theorem cN_all : ∀ K, K < 7 → ∀ s, s < 2 ^ K → cN s K = sN s := by decide +kernel
theorem sN_K : ∀ K, K < 7 → ∀ s, s < 2 ^ K → sN s ≤ K := by decide +kernel
theorem jx_bits {N s : Nat} (hs : s < 64) {M : Mem} : (jf_J6_bitCount N (nI s)).1 M = some (nI (sN s), M) := by
  have key : ∀ s, s < 64 → (let v0 := nI s
      let x1 := (((v0.toUInt32 >>> ((1 : Int32).toUInt32 &&& Int32.toUInt32 31)).toInt32) &&& (1431655765 : Int32))
      let x2 := (((v0 - x1).toUInt32 >>> ((2 : Int32).toUInt32 &&& Int32.toUInt32 31)).toInt32)
      let x3 := (((((v0 - x1) &&& (858993459 : Int32)) + (x2 &&& (858993459 : Int32))).toUInt32 >>> ((4 : Int32).toUInt32 &&& Int32.toUInt32 31)).toInt32)
      let x4 := ((((v0 - x1) &&& (858993459 : Int32)) + (x2 &&& (858993459 : Int32))) + x3)
      let x5 := (((x4 &&& (252645135 : Int32)).toUInt32 >>> ((8 : Int32).toUInt32 &&& Int32.toUInt32 31)).toInt32)
      let x6 := ((((x4 &&& (252645135 : Int32)) + x5).toUInt32 >>> ((16 : Int32).toUInt32 &&& Int32.toUInt32 31)).toInt32)
      ((((x4 &&& (252645135 : Int32)) + x5) + x6) &&& (63 : Int32)) = nI (sN s)) := by decide +kernel
  have := key s hs
  dsimp only at this
  unfold jf_J6_bitCount
  refine jo_out (jo_lt (jo_lt (jo_lt (jo_lt (jo_lt (jo_lt (jo_ret ⟨this, rfl⟩)))))))
theorem jx_has0 {N s k : Nat} (hs : s < 64) (hk : k < 32) {M : Mem} : (jf_X0_has N (nI s) (nI k)).1 M = some (bI (s.testBit k = true), M) := jr_has (N := N) hs hk
/-- the columns of a set -/
def smT (F : Nat → Nat → Int) (s : Nat) : Nat → Nat → Int := fun i j => F i (nt s j)
section SO
variable {β : Type} {Q : β → Mem → Prop} {md : Nat → Bool} {N c s t R K : Nat} {M0 M : Mem} {F : Nat → Nat → Int}
theorem jx_some (hM : ∀ a, md a = true → a < M0.1) (hE : jExt md c s M0 M) (h : jTb t R K F (jMk md M.2.2)) (hR : R ≤ 50) (hK : K ≤ 6) (hN : 100 < N) {b : Nat} (hb : b < 2 ^ K) :
    jo (jf_X11_some N t (nI b)) M (fun r M' => ∃ t' ar rr rf, r = some t' ∧ jTn t' ar R (sN b) rr rf (smT F b) (jMk md M.2.2) (jMk md M'.2.2) ∧ jExt md (c + 2 + R) (s + 3 + R + R * sN b) M0 M') := by
  have hb6 : b < 64 := Nat.lt_of_lt_of_le hb (Nat.pow_le_pow_right (n := 2) (by decide) hK)
  have hsN : sN b ≤ 6 := sN_le b hb6
  unfold jf_X11_some jf_X11_some_k21_88
  refine jX_al (hE.md hM) hE fun t2 M1 hn _ e1 E1 => ?_
  have s1 : jSub (jMk md M.2.2) (jMk md M1.2.2) := by rw [e1]; exact jSub.new hn
  have hm1 : jTb t R K F M1.2.2 := (h.sub s1).sub jMk.sub
  refine jT_rows hm1 (jo_eq (jx_bits hb6) ?_)
  refine jX_in11 hM E1 s1 hn (by rw [e1, va_up_self]) (by omega) (by omega) (fun M2 ar rr rf h2 E2 => ?_)
  refine jo_bd (jo_mono (jo_up K (fun k z M' => z = (nI (cN b k), nI k) ∧ jTn t2 ar R (sN b) rr rf (fun x y => if y < cN b k then smT F b x y else 0) (jMk md M.2.2) (jMk md M'.2.2) ∧ jExt md (c + 1 + 1 + R) (s + 3 + R + R * sN b) M0 M') (fun _ M' => jTn t2 ar R (sN b) rr rf (smT F b) (jMk md M.2.2) (jMk md M'.2.2) ∧ jExt md (c + 1 + 1 + R) (s + 3 + R + R * sN b) M0 M') ?_ ?_ N 0 _ M2 ⟨rfl, h2.cg (fun x y _ _ => by rw [if_neg (show ¬ y < cN b 0 from Nat.not_lt_zero y)]), E2.mono (Nat.le_refl _) (by show s + 3 + R + R * (sN b) ≤ _; omega)⟩ (Nat.zero_le _) (by omega)) ?_)
  · rintro k z M' hk ⟨rfl, h', E'⟩
    have hA : jTb t R K F M'.2.2 := (h.sub h'.2.2.2.2).sub jMk.sub
    unfold jf_X11_some_L21
    refine jT_cols hA (jo_f (by rw [nI_leI (by omega) (by omega)]; omega) (jo_eq (jx_has0 hb6 (by omega)) (jo_bI (fun cc => ?_) (fun cc => ?_))))
    · unfold jf_X11_some_j82
      refine jo_ret ⟨by rw [nI_1, cN_out b hb6 k (by omega) (by simpa using cc)], h'.cg (fun x y _ _ => by rw [cN_out b hb6 k (by omega) (by simpa using cc)]), E'⟩
    · obtain ⟨c1, c2, c3⟩ := cN_in b hb6 k (by omega) cc
      refine jo_bd (jo_mono (jo_up R (fun i z M' => z = nI i ∧ jTn t2 ar R (sN b) rr rf (fun x y => if y < cN b k ∨ (y = cN b k ∧ x < i) then smT F b x y else 0) (jMk md M.2.2) (jMk md M'.2.2) ∧ jExt md (c + 1 + 1 + R) (s + 3 + R + R * sN b) M0 M') (fun _ M' => jTn t2 ar R (sN b) rr rf (fun x y => if y < cN b (k + 1) then smT F b x y else 0) (jMk md M.2.2) (jMk md M'.2.2) ∧ jExt md (c + 1 + 1 + R) (s + 3 + R + R * sN b) M0 M') ?_ ?_ N 0 _ M' ⟨rfl, h'.cg (fun x y _ _ => ?_), E'⟩ (Nat.zero_le _) (by omega)) ?_)
      · rintro i z M3 hi ⟨rfl, h3, E3⟩
        have hA3 : jTb t R K F M3.2.2 := (h.sub h3.2.2.2.2).sub jMk.sub
        unfold jf_X11_some_L45
        refine jT_rows hA3 (jo_f (by rw [nI_leI (by omega) (by omega)]; omega) ?_)
        refine jN_at h3.md (jN_row h3.md rfl hi (by omega) (jT_at hA3 rfl rfl hi hk (by omega) (by omega) ?_))
        refine jT_st h3 rfl hi c1 (by omega) E3 rfl (fun M4 h4 E4 => jo_ret ⟨by rw [nI_1], h4.cg (fun x y hx hy => ?_), E4⟩)
        unfold uTb
        dsimp only
        by_cases y1 : x = i ∧ y = cN b k
        · rw [if_pos y1, if_pos (.inr ⟨y1.2, by omega⟩), y1.1, y1.2]
          unfold smT
          rw [c2]
        · rw [if_neg y1]
          by_cases y2 : y < cN b k ∨ (y = cN b k ∧ x < i)
          · rw [if_pos y2, if_pos (by omega)]
          · rw [if_neg y2, if_neg (by omega)]
      · rintro z M3 ⟨rfl, h3, E3⟩
        have hA3 : jTb t R K F M3.2.2 := (h.sub h3.2.2.2.2).sub jMk.sub
        unfold jf_X11_some_L45
        refine jT_rows hA3 (jo_t (by rw [nI_leI (by omega) (by omega)]; omega) (jo_ret ⟨h3.cg (fun x y hx _ => ?_), E3⟩))
        rw [c3]
        by_cases y1 : y < cN b k
        · rw [if_pos (.inl y1), if_pos (by omega)]
        · by_cases y2 : y = cN b k
          · rw [if_pos (.inr ⟨y2, hx⟩), if_pos (by omega)]
          · rw [if_neg (by omega), if_neg (by omega)]
      · by_cases y1 : y < cN b k
        · rw [if_pos y1, if_pos (.inl y1)]
        · rw [if_neg y1, if_neg (by omega)]
      · rintro _ M3 ⟨h3, E3⟩
        unfold jf_X11_some_k45_79 jf_X11_some_j82
        exact jo_ret ⟨by rw [nI_1, nI_1, c3], h3, E3⟩
  · rintro z M' ⟨rfl, h', E'⟩
    have hA : jTb t R K F M'.2.2 := (h.sub h'.2.2.2.2).sub jMk.sub
    unfold jf_X11_some_L21
    refine jT_cols hA (jo_t (by rw [nI_leI (by omega) (by omega)]; omega) (jo_ret ⟨h'.cg (fun x y _ hy => ?_), E'⟩))
    rw [cN_all K (by omega) b hb, if_pos hy]
  · rintro _ M' ⟨h', E'⟩
    exact jo_ret ⟨t2, ar, rr, rf, rfl, h', E'⟩
end SO
