/-! PLAIN LAW, 63: whether an edge is used; a complex without a face: component -/
section US
variable {md : Nat → Bool} {N c s : Nat} {M0 M : Mem} {C : CX}
theorem bI_or (a b : Bool) : bI (a = true) ||| bI (b = true) = bI ((a || b) = true) := by cases a <;> cases b <;> decide +kernel
theorem lDec_ed {L : Int} (h0 : L ≠ 0) (k : Nat) : (lDec L = (k : Int) ∨ lDec L = -1 - (k : Int)) ↔ lEd L = k := by
  unfold lDec lEd
  by_cases n : L < 0 <;> simp only [n, if_true, if_false] <;> omega
theorem jx_has {a w l k : Nat} {L : Nat → Int} (h : jFa a w l L M.2.2) (hl : wRg l L) (hk : k < 100) (hN : 100 < N) : ∃ b : Bool, (b = true ↔ ∃ j, j < l ∧ lEd (L j) = k) ∧ (jf_D_X7_has N (some a) (nI k)).1 M = some (bI (b = true), M) := by
  obtain ⟨wa, g, h1, h2, h3⟩ := h
  have hl4 := hl.1
  have em : (-1 : Int32) - nI k = iI (-1 - (k : Int)) := by rw [nI_iI, show (-1 : Int32) = iI (-1) from rfl, iI_sub]
  have key : jo (jf_X7_has N a (nI k)) M (fun r M' => M' = M ∧ ∃ b : Bool, r = bI (b = true) ∧ (b = true ↔ ∃ j, j < l ∧ lEd (L j) = k)) := by
    unfold jf_X7_has
    refine jo_fR h1 (mem_78 _) rfl (jo_len h2 rfl ?_)
    refine jo_bd (jo_mono (jo_up l (fun i z M' => M' = M ∧ ∃ b : Bool, z = (bI (b = true), nI i) ∧ (b = true ↔ ∃ j, j < i ∧ lEd (L j) = k)) (fun r M' => M' = M ∧ ∃ b : Bool, r = bI (b = true) ∧ (b = true ↔ ∃ j, j < l ∧ lEd (L j) = k)) ?_ ?_ N 0 _ M ⟨rfl, false, rfl, ⟨fun x => (by cases x), fun ⟨j, hj, _⟩ => absurd hj (Nat.not_lt_zero _)⟩⟩ (by omega) (by omega)) ?_)
    · rintro i z M' hi ⟨rfl, b, rfl, hb⟩
      have hL := hl.2 i hi
      have dr := lDec_rg hL.2.1 hL.2.2
      have de := lDec_ed hL.1 k
      unfold jf_X7_has_L14 jf_X7_has_j42 jf_X7_has_j47
      refine jo_f (show ¬ nI l ≤ nI i by rw [nI_leI (by omega) (by omega)]; omega) (jo_ldI h2 rfl hi (by omega) ?_)
      rw [h3 i hi]
      have yes : lEd (L i) = k → jo (jm_ret (α := (Int32 × Int32) ⊕ Int32) (Sum.inl (bI (b = true) ||| 1, nI i + 1))) M' (fun x M1 => match x with
        | .inl z => M1 = M' ∧ ∃ b : Bool, z = (bI (b = true), nI (i + 1)) ∧ (b = true ↔ ∃ j, j < i + 1 ∧ lEd (L j) = k)
        | .inr r => M1 = M' ∧ ∃ b : Bool, r = bI (b = true) ∧ (b = true ↔ ∃ j, j < l ∧ lEd (L j) = k)) := fun y => jo_ret ⟨rfl, true, by rw [nI_1]; refine Prod.ext ?_ rfl; dsimp only; cases b <;> decide +kernel, ⟨fun _ => ⟨i, by omega, y⟩, fun _ => rfl⟩⟩
      by_cases c1 : lDec (L i) = (k : Int)
      · exact jo_t (show iI _ = nI k by rw [nI_iI, c1]) (jo_mono (yes (de.mp (.inl c1))) (fun r M' hr => by cases r <;> exact hr))
      · refine jo_f (show ¬ iI _ = nI k by rw [nI_iI, iI_eqI (by omega) (by omega)]; exact c1) ?_
        rw [em]
        by_cases c2 : lDec (L i) = -1 - (k : Int)
        · exact jo_t (by rw [c2]) (jo_mono (yes (de.mp (.inr c2))) (fun r M' hr => by cases r <;> exact hr))
        · refine jo_f (by rw [iI_eqI (by omega) (by omega)]; exact c2) (jo_ret ⟨rfl, b, ?_, ⟨fun x => ?_, fun ⟨j, hj, hje⟩ => ?_⟩⟩)
          · rw [nI_1]; refine Prod.ext ?_ rfl; dsimp only; cases b <;> decide +kernel
          · obtain ⟨j, hj, hje⟩ := hb.mp x
            exact ⟨j, by omega, hje⟩
          · refine hb.mpr ⟨j, ?_, hje⟩
            rcases (show j < i ∨ j = i by omega) with y | y
            · exact y
            · exact ((de.mpr (y ▸ hje)).elim c1 c2).elim
    · rintro z M' ⟨rfl, b, rfl, hb⟩
      unfold jf_X7_has_L14
      exact jo_t (show nI l ≤ nI l by rw [nI_leI (by omega) (by omega)]; omega) (jo_ret ⟨rfl, b, rfl, hb⟩)
    · rintro r M' ⟨rfl, b, rfl, hb⟩
      unfold jf_X7_has_k14_55
      exact jo_ck (by cases b <;> simp [bI]) (jo_ret ⟨rfl, b, rfl, hb⟩)
  obtain ⟨r, M', k1, rfl, b, rfl, k2⟩ := key
  refine ⟨b, k2, jo_out ?_⟩
  unfold jf_D_X7_has
  cases hs : wSl l L with
  | true =>
    rw [hs] at h1
    exact jo_rd (x := (a, 8)) (by unfold jm_kl; simp only [h1]; rfl) (jo_f (show ¬ (8 : Nat) = 7 by decide) (jo_t rfl (jo_of k1 ⟨rfl, rfl⟩)))
  | false =>
    rw [hs] at h1
    exact jo_rd (x := (a, 7)) (by unfold jm_kl; simp only [h1]; rfl) (jo_t rfl (jo_of k1 ⟨rfl, rfl⟩))
theorem jx_isUsed {q k : Nat} (h : jCx q C M.2.2) (hW : jWf C) (hk : k < 100) (hN : 100 < N) : (jf_X9_isUsed N q (nI k)).1 M = some (bI (cSpB C k = true), M) := by
  have h4 := hW.2.2.1
  obtain ⟨eA, fA, cA, h1, -, ⟨fr, h2, h3⟩, -⟩ := h
  have key : jo (jf_X9_isUsed N q (nI k)) M (fun r M' => M' = M ∧ ∃ b : Bool, r = bI (b = true) ∧ (b = true ↔ cSp C k)) := by
    unfold jf_X9_isUsed
    refine jo_fR h1 (by decide) rfl (jo_len h2 rfl ?_)
    refine jo_bd (jo_mono (jo_up (cF C) (fun i z M' => M' = M ∧ ∃ b : Bool, z = (bI (b = true), nI i) ∧ (b = true ↔ ∃ f j, f < i ∧ j < cFl C f ∧ lEd (cLt C f j) = k)) (fun r M' => M' = M ∧ ∃ b : Bool, r = bI (b = true) ∧ (b = true ↔ cSp C k)) ?_ ?_ N 0 _ M ⟨rfl, false, rfl, ⟨fun x => (by cases x), fun ⟨j, _, hj, _⟩ => absurd hj (Nat.not_lt_zero _)⟩⟩ (by omega) (by omega)) ?_)
    · rintro i z M' hi ⟨rfl, b, rfl, hb⟩
      unfold jf_X9_isUsed_L14
      refine jo_f (show ¬ nI (cF C) ≤ nI i by rw [nI_leI (by omega) (by omega)]; omega) (jo_ldR h2 rfl hi (by omega) ?_)
      obtain ⟨a, a1, a2⟩ := h3 i hi
      rw [a1]
      obtain ⟨b2, hb2, e2⟩ := jx_has (N := N) a2 (wRg_of hW hi) hk hN
      refine jo_eq e2 (jo_ret ⟨rfl, b || b2, ?_, ⟨fun x => ?_, fun ⟨f, j, hf, hj, hje⟩ => ?_⟩⟩)
      · rw [nI_1]; exact Prod.ext (bI_or b b2) rfl
      · rcases (Bool.or_eq_true _ _ ▸ x : b = true ∨ b2 = true) with y | y
        · obtain ⟨f, j, hf, hj, hje⟩ := hb.mp y
          exact ⟨f, j, by omega, hj, hje⟩
        · obtain ⟨j, hj, hje⟩ := hb2.mp y
          exact ⟨i, j, by omega, hj, hje⟩
      · rcases (show f < i ∨ f = i by omega) with y | y
        · rw [hb.mpr ⟨f, j, y, hj, hje⟩]; rfl
        · subst y
          rw [hb2.mpr ⟨j, hj, hje⟩, Bool.or_true]
    · rintro z M' ⟨rfl, b, rfl, hb⟩
      unfold jf_X9_isUsed_L14
      exact jo_t (show nI (cF C) ≤ nI (cF C) by rw [nI_leI (by omega) (by omega)]; omega) (jo_ret ⟨rfl, b, rfl, hb⟩)
    · rintro r M' ⟨rfl, b, rfl, hb⟩
      unfold jf_X9_isUsed_k14_42
      exact jo_ck (by cases b <;> simp [bI]) (jo_ret ⟨rfl, b, rfl, hb⟩)
  obtain ⟨r, M', k1, rfl, b, rfl, k2⟩ := key
  rw [k1, show b = cSpB C k from by
    have e := (k2.trans (cSpB_iff hW).symm)
    cases b <;> cases hx : cSpB C k <;> simp_all]
theorem jx_withoutFace (hM : ∀ a, md a = true → a < M0.1) (hE : jExt md c s M0 M) {a k : Nat} (h : jCx a C (jMk md M.2.2)) (hW : jWf C) (hk : k < cF C) (hN : 100 < N) : jo (jf_X9_withoutFace N a (nI k)) M (jNew md (c + 2) (s + 8) M0 M (fun q H => jCx q (xDropF C k) H)) := by
  have h4 := hW.2.2.1
  obtain ⟨eA, fA, cA, h1, h2, ⟨fr, f1, f2⟩, h5⟩ := h
  unfold jf_X9_withoutFace
  refine jo_fR (mkg h1).2 (by decide) rfl (jo_len (mkg f1).2 rfl ?_)
  rw [show (nI (cF C) - 1 : Int32) = nI (cF C - 1) from nI_sub (b := 1) (by omega)]
  refine jo_ck (ckL (by omega)) ?_
  rw [nI_tc (by omega)]
  refine jX_al (hE.md hM) hE fun q7 M1 hq m1 e1 E1 => ?_
  refine jo_bd (jo_mono (jo_up (cF C - 1) (fun i z M' => z = nI i ∧ jExt md (c + 1) (s + (cF C - 1)) M0 M' ∧ ∃ g, jMk md M'.2.2 = va_up (jMk md M.2.2) q7 (some (aR 5 (cF C - 1) g)) ∧ ∀ j, j < i → g j = fr (sk k j)) (fun _ M' => jExt md (c + 1) (s + (cF C - 1)) M0 M' ∧ ∃ g, jMk md M'.2.2 = va_up (jMk md M.2.2) q7 (some (aR 5 (cF C - 1) g)) ∧ ∀ j, j < cF C - 1 → g j = fr (sk k j)) ?_ ?_ N 0 _ M1 ⟨rfl, E1, fun _ => none, e1, fun j hj => absurd hj (Nat.not_lt_zero _)⟩ (by omega) (by omega)) ?_)
  · rintro i z M' hi ⟨rfl, EE, g, ee, hg⟩
    have ss : jSub (jMk md M.2.2) (jMk md M'.2.2) := by rw [ee]; exact jSub.new hq
    have og : jMk md M'.2.2 q7 = some (aR 5 (cF C - 1) g) := by rw [ee, va_up_self]
    unfold jf_X9_withoutFace_L13
    refine jo_len (mkg og).2 rfl (jo_f (show ¬ nI (cF C - 1) ≤ nI i by rw [nI_leI (by omega) (by omega)]; omega) (jo_fR (mkg (ss _ _ h1)).2 (by decide) rfl ?_))
    have go : ∀ x : Int32, x = nI (sk k i) → jo (jf_X9_withoutFace_j37 N a (nI k) (some q7) (nI i) (some q7) (nI i) (some fA) x) M' (fun x M1 => match x with
        | .inl z => z = nI (i + 1) ∧ jExt md (c + 1) (s + (cF C - 1)) M0 M1 ∧ ∃ g, jMk md M1.2.2 = va_up (jMk md M.2.2) q7 (some (aR 5 (cF C - 1) g)) ∧ ∀ j, j < i + 1 → g j = fr (sk k j)
        | .inr _ => jExt md (c + 1) (s + (cF C - 1)) M0 M1 ∧ ∃ g, jMk md M1.2.2 = va_up (jMk md M.2.2) q7 (some (aR 5 (cF C - 1) g)) ∧ ∀ j, j < cF C - 1 → g j = fr (sk k j)) := by
      rintro x rfl
      have hsk : sk k i < cF C := by unfold sk; split <;> omega
      unfold jf_X9_withoutFace_j37
      refine jo_ldR (mkg (ss _ _ f1)).2 rfl hsk (by omega) ?_
      obtain ⟨z, z1, z2⟩ := f2 _ hsk
      rw [z1]
      refine jX_stR og rfl hi (by omega) (fit78 ((z2.kp ss.kp).kp jMk.sub.kp)) EE (fun M2 e2 E2 => jo_ret ⟨nI_1 i, E2, va_up g i (some z), by rw [e2, ee, va_up2], fun j hj => ?_⟩)
      by_cases ji : j = i
      · rw [ji, va_up_self, z1]
      · rw [va_up_ne _ _ ji]; exact hg j (by omega)
    by_cases c1 : k ≤ i
    · exact jo_t (by rw [nI_leI (by omega) (by omega)]; exact c1) (jo_mono (go _ (by rw [show (1 : Int32) = nI 1 from rfl, nI_add]; unfold sk; rw [if_neg (by omega)])) (fun r M' hr => by cases r <;> exact hr))
    · exact jo_f (by rw [nI_leI (by omega) (by omega)]; exact c1) (jo_mono (go _ (by unfold sk; rw [if_pos (by omega)])) (fun r M' hr => by cases r <;> exact hr))
  · rintro z M' ⟨rfl, EE, g, ee, hg⟩
    have og : jMk md M'.2.2 q7 = some (aR 5 (cF C - 1) g) := by rw [ee, va_up_self]
    unfold jf_X9_withoutFace_L13
    exact jo_len (mkg og).2 rfl (jo_t (show nI (cF C - 1) ≤ nI (cF C - 1) by rw [nI_leI (by omega) (by omega)]; omega) (jo_ret ⟨EE, g, ee, hg⟩))
  · rintro _ M3 ⟨E3, g, ee, hg⟩
    have s3 : jSub (jMk md M.2.2) (jMk md M3.2.2) := by rw [ee]; exact jSub.new hq
    unfold jf_X9_withoutFace_k13_45
    refine jX_cx9 hM E3 fun q M4 s4 o4 u4 E4 => ?_
    refine jo_fI (mkg (s4 _ _ (s3 _ _ h1))).2 (by decide) rfl (jo_fR (mkg (s4 _ _ (s3 _ _ h1))).2 (by decide) rfl (jo_fR (mkg (s4 _ _ (s3 _ _ h1))).2 (by decide) rfl ?_))
    refine jX_in9 o4 E4 (fun M5 e5 E5 => jo_ret ?_)
    have o5 : jMk md M5.2.2 q = some (.inr (9, [.int (nI (cP C)), .ref eA, .ref q7, .ref cA])) := by rw [e5, va_up_self]; rfl
    have s5 : jSub (jMk md M3.2.2) (jMk md M5.2.2) := u4 M5 (by rw [o5]; exact e5)
    have s6 := s3.tr s5
    refine ⟨q, rfl, s6, E5.mono (by omega) (by omega), eA, q7, cA, o5, h2.kp s6.kp, ⟨g, s5 _ _ (by rw [ee, va_up_self]; rfl), fun i hi => ?_⟩, h5.kp s6.kp⟩
    have hi : i < cF C - 1 := hi
    have hsk : sk k i < cF C := by unfold sk; split <;> omega
    obtain ⟨z, z1, z2⟩ := f2 _ hsk
    exact ⟨z, by rw [hg i hi, z1], z2.kp s6.kp⟩
end US
