/-! PLAIN LAW, 64: a complex without an edge: component -/
theorem jSub.wr {H H' : HM} {a : Nat} {v : Option CE} (h : jSub H H') (ha : H a = none) : jSub H (va_up H' a v) := by
  intro b e hb
  rw [va_up_ne _ _ (fun c => by subst c; rw [ha] at hb; cases hb)]
  exact h b e hb
theorem jFa.up5 {H : HM} {a w l q n : Nat} {L : Nat → Int} {f : Nat → Option Nat} {v : Option CE} (h : jFa a w l L H) (hq : H q = some (aR 5 n f)) : jFa a w l L (va_up H q v) := by
  obtain ⟨wa, g, h1, h2, h3⟩ := h
  refine ⟨wa, g, ?_, ?_, h3⟩
  · rw [va_up_ne _ _ (fun y => by rw [y, hq] at h1; cases h1)]; exact h1
  · rw [va_up_ne _ _ (fun y => by rw [y, hq] at h2; cases h2)]; exact h2
section WE
variable {β : Type} {Q : β → Mem → Prop} {md : Nat → Bool} {N c s : Nat} {M0 M : Mem} {C : CX}
/-- three new rows of six -/
theorem jX_ml (hM : ∀ a, md a = true → a < M0.1) (hE : jExt md c s M0 M) {k : Nat → jm_P β} (kk : ∀ (q : Nat) (r : Nat → Nat) (cr : Nat → Option Nat) M1, (∀ j, jMk md M.2.2 (r j) = none) → (∀ j, q ≠ r j) → (∀ i j, r i = r j → i = j) → (∀ j, j < 3 → cr j = some (r j)) → jSub (jMk md M.2.2) (jMk md M1.2.2) → jMk md M1.2.2 q = some (aR 12 3 cr) → (∀ j, j < 3 → jMk md M1.2.2 (r j) = some (aI 0 6 (fun _ => 0))) → jExt md (c + 4) (s + 21) M0 M1 → jo (k q) M1 Q) : jo (jm_ml 12 0 3 6 (.inl (fun _ => 0)) k) M Q := by
  have hm : ∀ a, M.1 ≤ a → md a = false := fun a ha => by
    cases h : md a
    · rfl
    · exact absurd (hE.md hM _ h) (by omega)
  obtain ⟨h1, h2, h3, h4, h5⟩ := hE
  show jo (k M.1) (jm_mul 12 0 3 6 (.inl (fun _ => 0)) M) Q
  have hn : ∀ a, M.1 ≤ a → jMk md M.2.2 a = none := fun a ha => by unfold jMk; rw [h5 a ha]; split <;> rfl
  refine kk M.1 (fun j => M.1 + 1 + j) (fun j => if j < 3 then some (M.1 + 1 + j) else none) _ (fun j => hn _ (by omega)) (fun j => by omega) (fun i j h => by omega) (fun j hj => if_pos hj) ?_ ?_ ?_ ⟨?_, ?_, ?_, ?_, ?_⟩
  · intro a e ha
    have g := mkg ha
    have la : ¬ M.1 ≤ a := fun y => by rw [hn a y] at ha; cases ha
    show (if md a = true then none else (if a = M.1 then _ else if M.1 < a ∧ a < M.1 + 1 + 3 then _ else M.2.2 a)) = _
    rw [if_neg (by rw [g.1]; simp), if_neg (by omega), if_neg (by omega)]
    exact g.2
  · show (if md M.1 = true then none else (if M.1 = M.1 then _ else _)) = _
    rw [if_neg (by rw [hm _ (Nat.le_refl _)]; simp), if_pos rfl]
  · intro j hj
    show (if md (M.1 + 1 + j) = true then none else (if M.1 + 1 + j = M.1 then _ else if M.1 < M.1 + 1 + j ∧ M.1 + 1 + j < M.1 + 1 + 3 then _ else _)) = _
    rw [if_neg (by rw [hm _ (by omega)]; simp), if_neg (by omega), if_pos (by omega)]
  · show M0.1 ≤ M.1 + 1 + 3; omega
  · show M.1 + 1 + 3 ≤ _; omega
  · show M.2.1 + 3 + 3 * 6 ≤ _; omega
  · intro a ha
    have : a < M.1 := by
      rcases Nat.lt_or_ge a M.1 with y | y
      · exact y
      · rw [hm a y] at ha; cases ha
    show (if a = M.1 then _ else if M.1 < a ∧ a < M.1 + 1 + 3 then _ else M.2.2 a) = _
    rw [if_neg (by omega), if_neg (by omega)]
    exact h4 a ha
  · intro a ha
    have ha : M.1 + 1 + 3 ≤ a := ha
    show (if a = M.1 then _ else if M.1 < a ∧ a < M.1 + 1 + 3 then _ else M.2.2 a) = _
    rw [if_neg (by omega), if_neg (by omega)]
    exact h5 a (by omega)
/-- the edges that stay -/
theorem jx_woE {H0 : HM} (hs : jSub H0 (jMk md M.2.2)) (hE : jExt md c s M0 M) {a k q : Nat} {g0 : Nat → Option Nat} (h : jCx a C H0) (hW : jWf C) (hk : k < cE C) (hN : 100 < N) (hq : H0 q = none) (hg0 : jMk md M.2.2 q = some (aR 4 (cE C - 1) g0)) : jo (jm_it (fun z => jf_X9_withoutEdge_L13 N a (nI k) (some q) z) N (0 : Int32)) M (fun _ M' => jSub H0 (jMk md M'.2.2) ∧ jEs q (cE C - 1) (fun e i => cEd C (sk k e) i) (jMk md M'.2.2) ∧ jExt md c s M0 M') := by
  have h6 := hW.2.1
  obtain ⟨eA, fA, cA, h1, ⟨er, f1, f2⟩, -⟩ := h
  refine jo_mono (jo_up (cE C - 1) (fun i z M' => z = nI i ∧ jExt md c s M0 M' ∧ jSub H0 (jMk md M'.2.2) ∧ ∃ g, jMk md M'.2.2 q = some (aR 4 (cE C - 1) g) ∧ ∀ j, j < i → g j = er (sk k j)) (fun _ M' => jExt md c s M0 M' ∧ jSub H0 (jMk md M'.2.2) ∧ ∃ g, jMk md M'.2.2 q = some (aR 4 (cE C - 1) g) ∧ ∀ j, j < cE C - 1 → g j = er (sk k j)) ?_ ?_ N 0 _ M ⟨rfl, hE, hs, g0, hg0, fun j hj => absurd hj (Nat.not_lt_zero _)⟩ (by omega) (by omega)) ?_
  · rintro i z M' hi ⟨rfl, EE, ss, g, og, hg⟩
    unfold jf_X9_withoutEdge_L13
    refine jo_len (mkg og).2 rfl (jo_f (show ¬ nI (cE C - 1) ≤ nI i by rw [nI_leI (by omega) (by omega)]; omega) (jo_fR (mkg (ss _ _ h1)).2 (by decide) rfl ?_))
    have go : ∀ x : Int32, x = nI (sk k i) → jo (jf_X9_withoutEdge_j37 N a (nI k) (some q) (nI i) (some q) (nI i) (some eA) x) M' (fun x M1 => match x with
        | .inl z => z = nI (i + 1) ∧ jExt md c s M0 M1 ∧ jSub H0 (jMk md M1.2.2) ∧ ∃ g, jMk md M1.2.2 q = some (aR 4 (cE C - 1) g) ∧ ∀ j, j < i + 1 → g j = er (sk k j)
        | .inr _ => jExt md c s M0 M1 ∧ jSub H0 (jMk md M1.2.2) ∧ ∃ g, jMk md M1.2.2 q = some (aR 4 (cE C - 1) g) ∧ ∀ j, j < cE C - 1 → g j = er (sk k j)) := by
      rintro x rfl
      have hsk : sk k i < cE C := by unfold sk; split <;> omega
      unfold jf_X9_withoutEdge_j37
      refine jo_ldR (mkg (ss _ _ f1)).2 rfl hsk (by omega) ?_
      obtain ⟨z, z1, z2⟩ := f2 _ hsk
      rw [z1]
      refine jX_stR og rfl hi (by omega) (fit56 (mkg (ss _ _ z2)).2) EE (fun M2 e2 E2 => jo_ret ⟨nI_1 i, E2, by rw [e2]; exact ss.wr hq, va_up g i (some z), by rw [e2, va_up_self], fun j hj => ?_⟩)
      by_cases ji : j = i
      · rw [ji, va_up_self, z1]
      · rw [va_up_ne _ _ ji]; exact hg j (by omega)
    by_cases c1 : k ≤ i
    · exact jo_t (by rw [nI_leI (by omega) (by omega)]; exact c1) (jo_mono (go _ (by rw [show (1 : Int32) = nI 1 from rfl, nI_add]; unfold sk; rw [if_neg (by omega)])) (fun r M' hr => by cases r <;> exact hr))
    · exact jo_f (by rw [nI_leI (by omega) (by omega)]; exact c1) (jo_mono (go _ (by unfold sk; rw [if_pos (by omega)])) (fun r M' hr => by cases r <;> exact hr))
  · rintro z M' ⟨rfl, EE, ss, g, og, hg⟩
    unfold jf_X9_withoutEdge_L13
    exact jo_len (mkg og).2 rfl (jo_t (show nI (cE C - 1) ≤ nI (cE C - 1) by rw [nI_leI (by omega) (by omega)]; omega) (jo_ret ⟨EE, ss, g, og, hg⟩))
  · rintro _ M' ⟨EE, ss, g, og, hg⟩
    refine ⟨ss, ⟨g, og, fun e he => ?_⟩, EE⟩
    have hsk : sk k e < cE C := by unfold sk; split <;> omega
    obtain ⟨z, z1, z2⟩ := f2 _ hsk
    exact ⟨z, by rw [hg e he, z1], ss _ _ z2⟩
/-- the faces, without an edge that no word has -/
theorem jx_woF {H0 : HM} (hM : ∀ a, md a = true → a < M0.1) (hs : jSub H0 (jMk md M.2.2)) (hE : jExt md c s M0 M) {a k q : Nat} {v2 : Option Nat} {g0 : Nat → Option Nat} (h : jCx a C H0) (hW : jWf C) (hk : k < cE C) (hns : ¬ cSp C k) (hN : 100 < N) (hq : H0 q = none) (hg0 : jMk md M.2.2 q = some (aR 5 (cF C) g0)) : jo (jm_it (fun z => jf_X9_withoutEdge_L57 N a (nI k) v2 (some q) z) N (0 : Int32)) M (fun _ M' => jSub H0 (jMk md M'.2.2) ∧ jFs q (cF C) (cFw C) (cFl C) (fun f j => lDn k (cLt C f j)) (jMk md M'.2.2) ∧ jExt md (c + 12) (s + 32) M0 M') := by
  have h4 := hW.2.2.1
  have h6 := hW.2.1
  obtain ⟨eA, fA, cA, h1, -, ⟨fr, f1, f2⟩, -⟩ := h
  refine jo_mono (jo_up (cF C) (fun i z M' => z = nI i ∧ jExt md (c + 3 * i) (s + 8 * i) M0 M' ∧ jSub H0 (jMk md M'.2.2) ∧ ∃ g, jMk md M'.2.2 q = some (aR 5 (cF C) g) ∧ ∀ j, j < i → ∃ b, g j = some b ∧ jFa b (cFw C j) (cFl C j) (fun t => lDn k (cLt C j t)) (jMk md M'.2.2)) (fun _ M' => jExt md (c + 12) (s + 32) M0 M' ∧ jSub H0 (jMk md M'.2.2) ∧ ∃ g, jMk md M'.2.2 q = some (aR 5 (cF C) g) ∧ ∀ j, j < cF C → ∃ b, g j = some b ∧ jFa b (cFw C j) (cFl C j) (fun t => lDn k (cLt C j t)) (jMk md M'.2.2)) ?_ ?_ N 0 _ M ⟨rfl, hE, hs, g0, hg0, fun j hj => absurd hj (Nat.not_lt_zero _)⟩ (by omega) (by omega)) ?_
  · rintro i z M' hi ⟨rfl, EE, ss, g, og, hg⟩
    unfold jf_X9_withoutEdge_L57
    refine jo_fR (mkg (ss _ _ h1)).2 (by decide) rfl (jo_len (mkg (ss _ _ f1)).2 rfl (jo_f (show ¬ nI (cF C) ≤ nI i by rw [nI_leI (by omega) (by omega)]; omega) ?_))
    refine jo_fR (mkg (ss _ _ h1)).2 (by decide) rfl (jo_ldR (mkg (ss _ _ f1)).2 rfl hi (by omega) ?_)
    obtain ⟨z, z1, z2⟩ := f2 i hi
    rw [z1]
    refine jo_bd (jo_mono (jx_without hM EE (z2.kp ss.kp) (wRg_of hW hi) (by omega) (fun j hj y => hns ⟨i, j, hi, hj, y⟩) hN) ?_)
    rintro r M2 ⟨b, rfl, s2, E2, hb⟩
    have o2 := s2 _ _ og
    refine jX_stR o2 rfl hi (by omega) (fit78 (hb.kp jMk.sub.kp)) E2 (fun M3 e3 E3 => jo_ret ⟨nI_1 i, E3.mono (by omega) (by omega), by rw [e3]; exact (ss.tr s2).wr hq, va_up g i (some b), by rw [e3, va_up_self], fun j hj => ?_⟩)
    rw [e3]
    by_cases ji : j = i
    · subst ji
      exact ⟨b, va_up_self _ _ _, hb.up5 o2⟩
    · obtain ⟨b', b1, b2⟩ := hg j (by omega)
      exact ⟨b', by rw [va_up_ne _ _ ji]; exact b1, (b2.kp s2.kp).up5 o2⟩
  · rintro z M' ⟨rfl, EE, ss, g, og, hg⟩
    unfold jf_X9_withoutEdge_L57
    exact jo_fR (mkg (ss _ _ h1)).2 (by decide) rfl (jo_len (mkg (ss _ _ f1)).2 rfl (jo_t (show nI (cF C) ≤ nI (cF C) by rw [nI_leI (by omega) (by omega)]; omega) (jo_ret ⟨EE.mono (by omega) (by omega), ss, g, og, hg⟩)))
  · rintro _ M' ⟨EE, ss, g, og, hg⟩
    exact ⟨ss, ⟨g, og, hg⟩, EE⟩
end WE
