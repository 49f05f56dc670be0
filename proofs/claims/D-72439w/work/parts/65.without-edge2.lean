/-! PLAIN LAW, 65: a complex without an edge, its chains: component -/
section WE
variable {β : Type} {Q : β → Mem → Prop} {md : Nat → Bool} {N c s : Nat} {M0 M : Mem} {C : CX}
/-- what a chain holds without edge k -/
def tCh (C : CX) (k d e : Nat) : Int32 := iI (if e < cE C - 1 then cCh C d (sk k e) else 0)
theorem jx_woC {H0 : HM} (hs : jSub H0 (jMk md M.2.2)) (hE : jExt md c s M0 M) {a k q v : Nat} {v3 : Option Nat} {r : Nat → Nat} {cr : Nat → Option Nat} {ev : Nat → Option Nat} (h : jCx a C H0) (hW : jWf C) (hk : k < cE C) (hN : 100 < N) (hv : H0 v = some (aR 4 (cE C - 1) ev)) (n1 : ∀ j, H0 (r j) = none) (n2 : ∀ j, q ≠ r j) (n3 : ∀ i j, r i = r j → i = j) (n4 : ∀ j, j < 3 → cr j = some (r j)) (o1 : jMk md M.2.2 q = some (aR 12 3 cr)) (o2 : ∀ j, j < 3 → jMk md M.2.2 (r j) = some (aI 0 6 (fun _ => 0))) : jo (jm_it (fun z => jf_X9_withoutEdge_L100 N a (nI k) (some v) v3 (some q) z) N (0 : Int32)) M (fun _ M' => jSub H0 (jMk md M'.2.2) ∧ jMk md M'.2.2 q = some (aR 12 3 cr) ∧ (∀ d, d < 3 → ∃ g, jMk md M'.2.2 (r d) = some (aI 0 6 g) ∧ ∀ e, e < 6 → g e = tCh C k d e) ∧ jExt md c s M0 M') := by
  have h6 := hW.2.1
  obtain ⟨eA, fA, cA, h1, -, -, ⟨ch, f1, f2⟩⟩ := h
  have inner : ∀ (ci : Nat) (M1 : Mem), ci < 3 → jExt md c s M0 M1 → jSub H0 (jMk md M1.2.2) → jMk md M1.2.2 q = some (aR 12 3 cr) → (∀ d, d < 3 → ∃ g, jMk md M1.2.2 (r d) = some (aI 0 6 g) ∧ ∀ e, e < 6 → g e = if d < ci then tCh C k d e else 0) →
      jo (jm_it (fun z => jf_X9_withoutEdge_L109 N a (nI k) (some v) v3 (some q) (nI ci) z) N (0 : Int32)) M1 (fun _ M' => jExt md c s M0 M' ∧ jSub H0 (jMk md M'.2.2) ∧ jMk md M'.2.2 q = some (aR 12 3 cr) ∧ (∀ d, d < 3 → ∃ g, jMk md M'.2.2 (r d) = some (aI 0 6 g) ∧ ∀ e, e < 6 → g e = if d < ci + 1 then tCh C k d e else 0)) := by
    intro ci M1 hci E1 s1 oq og
    refine jo_mono (jo_up (cE C - 1) (fun i z M' => z = nI i ∧ jExt md c s M0 M' ∧ jSub H0 (jMk md M'.2.2) ∧ jMk md M'.2.2 q = some (aR 12 3 cr) ∧ (∀ d, d < 3 → ∃ g, jMk md M'.2.2 (r d) = some (aI 0 6 g) ∧ ∀ e, e < 6 → g e = if d < ci ∨ (d = ci ∧ e < i) then tCh C k d e else 0)) (fun _ M' => jExt md c s M0 M' ∧ jSub H0 (jMk md M'.2.2) ∧ jMk md M'.2.2 q = some (aR 12 3 cr) ∧ (∀ d, d < 3 → ∃ g, jMk md M'.2.2 (r d) = some (aI 0 6 g) ∧ ∀ e, e < 6 → g e = if d < ci ∨ (d = ci ∧ e < cE C - 1) then tCh C k d e else 0)) ?_ ?_ N 0 _ M1 ⟨rfl, E1, s1, oq, fun d hd => ?_⟩ (by omega) (by omega)) ?_
    · rintro i z M' hi ⟨rfl, EE, ss, oq, og⟩
      obtain ⟨zc, gc, b1, b2, b3⟩ := f2 ci hci
      obtain ⟨gr, r1, r2⟩ := og ci hci
      unfold jf_X9_withoutEdge_L109
      refine jo_len (mkg (ss _ _ hv)).2 rfl (jo_f (show ¬ nI (cE C - 1) ≤ nI i by rw [nI_leI (by omega) (by omega)]; omega) ?_)
      refine jo_ldR (mkg oq).2 rfl hci (by decide) (jo_fR (mkg (ss _ _ h1)).2 (by decide) rfl (jo_ldR (mkg (ss _ _ f1)).2 rfl hci (by decide) ?_))
      rw [n4 ci hci, b1]
      have go : ∀ x : Int32, x = nI (sk k i) → jo (jf_X9_withoutEdge_j145 N a (nI k) (some v) v3 (some q) (nI ci) (nI i) (some (r ci)) (nI i) (some zc) x) M' (fun x M1 => match x with
          | .inl z => z = nI (i + 1) ∧ jExt md c s M0 M1 ∧ jSub H0 (jMk md M1.2.2) ∧ jMk md M1.2.2 q = some (aR 12 3 cr) ∧ (∀ d, d < 3 → ∃ g, jMk md M1.2.2 (r d) = some (aI 0 6 g) ∧ ∀ e, e < 6 → g e = if d < ci ∨ (d = ci ∧ e < i + 1) then tCh C k d e else 0)
          | .inr _ => jExt md c s M0 M1 ∧ jSub H0 (jMk md M1.2.2) ∧ jMk md M1.2.2 q = some (aR 12 3 cr) ∧ (∀ d, d < 3 → ∃ g, jMk md M1.2.2 (r d) = some (aI 0 6 g) ∧ ∀ e, e < 6 → g e = if d < ci ∨ (d = ci ∧ e < cE C - 1) then tCh C k d e else 0)) := by
        rintro x rfl
        have hsk : sk k i < cE C := by unfold sk; split <;> omega
        unfold jf_X9_withoutEdge_j145
        refine jo_ldI (mkg (ss _ _ b2)).2 rfl (by omega) (by decide) ?_
        rw [b3 _ (by omega), if_pos hsk]
        refine jX_stI r1 rfl (by omega) (by decide) EE (fun M2 e2 E2 => jo_ret ⟨nI_1 i, E2, by rw [e2]; exact ss.wr (n1 ci), by rw [e2, va_up_ne _ _ (n2 ci)]; exact oq, fun d hd => ?_⟩)
        rw [e2]
        by_cases dc : d = ci
        · subst dc
          refine ⟨_, va_up_self _ _ _, fun e he => ?_⟩
          show (if e = i then _ else gr e) = _
          by_cases ei : e = i
          · rw [if_pos ei, if_pos (.inr ⟨rfl, by omega⟩), ei]
            unfold tCh
            rw [if_pos (by omega)]
          · rw [if_neg ei, r2 e he]
            by_cases el : e < i
            · rw [if_pos (.inr ⟨rfl, el⟩), if_pos (.inr ⟨rfl, by omega⟩)]
            · rw [if_neg (by omega), if_neg (by omega)]
        · obtain ⟨gd, g1, g2⟩ := og d hd
          refine ⟨gd, by rw [va_up_ne _ _ (fun y => dc (n3 _ _ y))]; exact g1, fun e he => ?_⟩
          rw [g2 e he]
          by_cases dl : d < ci
          · rw [if_pos (.inl dl), if_pos (.inl dl)]
          · rw [if_neg (by omega), if_neg (by omega)]
      by_cases c1 : k ≤ i
      · exact jo_t (by rw [nI_leI (by omega) (by omega)]; exact c1) (jo_mono (go _ (by rw [show (1 : Int32) = nI 1 from rfl, nI_add]; unfold sk; rw [if_neg (by omega)])) (fun r M' hr => by cases r <;> exact hr))
      · exact jo_f (by rw [nI_leI (by omega) (by omega)]; exact c1) (jo_mono (go _ (by unfold sk; rw [if_pos (by omega)])) (fun r M' hr => by cases r <;> exact hr))
    · rintro z M' ⟨rfl, EE, ss, oq, og⟩
      unfold jf_X9_withoutEdge_L109
      exact jo_len (mkg (ss _ _ hv)).2 rfl (jo_t (show nI (cE C - 1) ≤ nI (cE C - 1) by rw [nI_leI (by omega) (by omega)]; omega) (jo_ret ⟨EE, ss, oq, og⟩))
    · obtain ⟨g, g1, g2⟩ := og d hd
      refine ⟨g, g1, fun e he => ?_⟩
      rw [g2 e he]
      by_cases dl : d < ci
      · rw [if_pos dl, if_pos (.inl dl)]
      · rw [if_neg dl, if_neg (by omega)]
    · rintro _ M' ⟨EE, ss, oq, og⟩
      refine ⟨EE, ss, oq, fun d hd => ?_⟩
      obtain ⟨g, g1, g2⟩ := og d hd
      refine ⟨g, g1, fun e he => ?_⟩
      rw [g2 e he]
      by_cases dl : d < ci
      · rw [if_pos (.inl dl), if_pos (by omega)]
      · by_cases dc : d = ci
        · rw [if_pos (show d < ci + 1 by omega)]
          by_cases el : e < cE C - 1
          · rw [if_pos (.inr ⟨dc, el⟩)]
          · rw [if_neg (by omega)]
            unfold tCh
            rw [if_neg el]; rfl
        · rw [if_neg (by omega), if_neg (by omega)]
  refine jo_mono (jo_up 3 (fun i z M' => z = nI i ∧ jExt md c s M0 M' ∧ jSub H0 (jMk md M'.2.2) ∧ jMk md M'.2.2 q = some (aR 12 3 cr) ∧ (∀ d, d < 3 → ∃ g, jMk md M'.2.2 (r d) = some (aI 0 6 g) ∧ ∀ e, e < 6 → g e = if d < i then tCh C k d e else 0)) (fun _ M' => jExt md c s M0 M' ∧ jSub H0 (jMk md M'.2.2) ∧ jMk md M'.2.2 q = some (aR 12 3 cr) ∧ (∀ d, d < 3 → ∃ g, jMk md M'.2.2 (r d) = some (aI 0 6 g) ∧ ∀ e, e < 6 → g e = if d < 3 then tCh C k d e else 0)) ?_ ?_ N 0 _ M ⟨rfl, hE, hs, o1, fun d hd => ⟨_, o2 d hd, fun e he => by rw [if_neg (by omega)]⟩⟩ (by omega) (by omega)) ?_
  · rintro i z M' hi ⟨rfl, EE, ss, oq, og⟩
    unfold jf_X9_withoutEdge_L100
    refine jo_f (show ¬ nI 3 ≤ nI i by rw [nI_leI (by omega) (by omega)]; omega) (jo_bd (jo_mono (inner i M' hi EE ss oq og) ?_))
    rintro _ M2 hr
    unfold jf_X9_withoutEdge_k109_153
    exact jo_ret ⟨nI_1 i, hr⟩
  · rintro z M' ⟨rfl, EE, ss, oq, og⟩
    unfold jf_X9_withoutEdge_L100
    exact jo_t (show nI 3 ≤ nI 3 by decide) (jo_ret ⟨EE, ss, oq, og⟩)
  · rintro _ M' ⟨EE, ss, oq, og⟩
    refine ⟨ss, oq, fun d hd => ?_, EE⟩
    obtain ⟨g, g1, g2⟩ := og d hd
    exact ⟨g, g1, fun e he => by rw [g2 e he, if_pos hd]⟩
end WE
