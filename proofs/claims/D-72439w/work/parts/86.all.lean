/-! PLAIN LAW, 86: the component's reader: edges, faces -/
/-- a row of faces that may be longer than the faces are many -/
def jFp (fA nF : Nat) (C : CX) (H : HM) : Prop := ∃ fr, H fA = some (aR 5 nF fr) ∧ cF C ≤ nF ∧ ∀ f, f < cF C → ∃ a, fr f = some a ∧ jFa a (cFw C f) (cFl C f) (cLt C f) H
theorem jFa_ne {b : Bool} {wa w tp n i : Nat} : jFaO b wa w ≠ jRq tp n i := by
  intro h
  unfold jFaO jRq at h
  injection h with h
  have := congrArg Prod.fst h
  dsimp only at this
  split at this <;> cases this
theorem jFa.sq {a w l q tp n i : Nat} {L : Nat → Int} {H H' : HM} (h : jFa a w l L H) (hq : H q = some (jRq tp n i)) (k : jSq q H H') : jFa a w l L H' := by
  obtain ⟨wa, g, h1, h2, h3⟩ := h
  exact ⟨wa, g, k _ _ (fun e => by rw [e, hq] at h1; exact jFa_ne (Option.some.inj h1).symm) h1, k _ _ (fun e => by rw [e, hq] at h2; cases h2) h2, h3⟩
theorem jFp.sq {fA nF q tp n i : Nat} {C : CX} {H H' : HM} (h : jFp fA nF C H) (hq : H q = some (jRq tp n i)) (k : jSq q H H') : jFp fA nF C H' := by
  obtain ⟨fr, h1, h2, h4⟩ := h
  refine ⟨fr, k _ _ (fun e => by rw [e, hq] at h1; cases h1) h1, h2, fun e he => ?_⟩
  obtain ⟨a, g1, g2⟩ := h4 e he
  exact ⟨a, g1, g2.sq hq k⟩
theorem jFp.sub {fA nF : Nat} {C : CX} {H H' : HM} (h : jFp fA nF C H) (k : jSub H H') : jFp fA nF C H' := by
  obtain ⟨fr, h1, h2, h4⟩ := h
  refine ⟨fr, k _ _ h1, h2, fun e he => ?_⟩
  obtain ⟨a, g1, g2⟩ := h4 e he
  exact ⟨a, g1, g2.kp k.kp⟩
section EL
variable {md : Nat → Bool} {N q tp n c s : Nat} {t : Nat → Nat} {M M0 : Mem}
/-- the state of the reading of the edges: the complex so far, where it stands -/
def jEi (md : Nat → Bool) (c s : Nat) (M0 : Mem) (q tp n : Nat) (eA : Nat) (H0 : HM) (C : CX) (i : Nat) (M : Mem) : Prop := jMk md M.2.2 q = some (jRq tp n i) ∧ jSq q H0 (jMk md M.2.2) ∧ jEp eA 6 C (jMk md M.2.2) ∧ jExt md (c + cE C) (s + 3 * cE C) M0 M ∧ i ≤ n
theorem tk_lt' {i k : Nat} (h : tk n t i = k) (hk : k ≠ 0) : i < n := by
  unfold tk at h
  split at h
  · assumption
  · exact absurd h.symm hk
theorem jx_edgeStep (hM : ∀ a, md a = true → a < M0.1) {H0 : HM} {eA i : Nat} {C : CX} (hq0 : H0 q = some (jRq tp n 0) ∨ ∃ j, H0 q = some (jRq tp n j)) (ht0 : jRt tp n t H0) (he0 : H0 eA = none) (hW : jWf C) (hn : n ≤ 90) (hI : jEi md c s M0 q tp n eA H0 C i M) (c1 : i < n) (c2 : t i = 101) :
    jo (jf_X2_all_L25 N q (nI (cP C)) (some eA) (nI (cE C))) M (fun x M1 => match pEdge n t C i with
      | .inl e => ∃ qf, x = .inr (.inr qf) ∧ jTh0 md (c + 8) (s + 32) M0 q H0 e qf M1
      | .inr y => x = .inl (nI (cE y.1)) ∧ jEi md c s M0 q tp n eA H0 y.1 y.2 M1 ∧ cE C < 6) := by
  obtain ⟨j0, hq0⟩ : ∃ j, H0 q = some (jRq tp n j) := hq0.elim (fun h => ⟨_, h⟩) id
  obtain ⟨b1, b2, b3, b4, b5⟩ := hI
  have h6 := hW.2.1
  have hp5 := hW.1
  have ht : jRt tp n t (jMk md M.2.2) := ht0.sq hq0 b2
  have h256 : t i < 256 := by obtain ⟨tf, _, _, z⟩ := ht; exact (z _ c1).2
  unfold jf_X2_all_L25
  refine jo_cl (mkg b1).2 (jo_eq (jx_look (mkg b1).2 (ht.sub jMk.sub) (by omega)) ?_)
  rw [if_pos c1]
  refine jo_t (by rw [c2]; rfl) ?_
  unfold jf_X2_all_j46 pEdge
  by_cases c6 : cE C = 6
  · rw [if_pos c6]
    refine jo_t (by rw [c6]; decide) (jo_cl (mkg b1).2 (jX_must hM b4 b1 3 (fun _ qf M1 h1 => jo_ret ⟨qf, rfl, h1.1, b2.tr h1.2.1, h1.2.2.mono (by omega) (by omega)⟩) (fun y => absurd rfl y)))
  rw [if_neg c6]
  refine jo_f (show ¬ nI 6 ≤ nI (cE C) by rw [nI_leI (by omega) (by omega)]; omega) (jo_cl (mkg b1).2 (jX_must hM b4 b1 3 (fun y => absurd y (by decide)) (fun _ => ?_)))
  refine jX_at b1 b4 (fun M1 ⟨o1, s1, E1⟩ => ?_)
  have hv : nI (cP C) - (1 : Int32) = iI ((cP C : Int) - 1) := by rw [nI_iI, show (1 : Int32) = iI 1 from rfl, iI_sub]
  rw [hv]
  have ss1 := b2.tr s1
  refine jo_cl (mkg o1).2 (jX_digit (lo := 0) (hi' := cP C) hM E1 o1 (ht0.sq hq0 ss1) (by omega) rfl rfl (by omega) (by omega) (fun e hp qf M2 h2 => ?_) (fun p hp M2 ⟨o2, s2, E2⟩ => ?_))
  · rw [hp]
    exact jo_ret ⟨qf, rfl, h2.1, ss1.tr h2.2.1, h2.2.2.mono (by omega) (by omega)⟩
  rw [hp]
  have rp := pDigit_rg hp
  have ss2 := ss1.tr s2
  refine jo_cl (mkg o2).2 (jX_digit (lo := 0) (hi' := cP C) hM E2 o2 (ht0.sq hq0 ss2) (by omega) rfl rfl (by omega) (by omega) (fun e hp2 qf M3 h3 => ?_) (fun u hp2 M3 ⟨o3, s3, E3⟩ => ?_))
  · have hp2 : pDigit n t 0 (cP C) (i + 2) = .inl e := hp2
    dsimp only
    rw [hp2]
    exact jo_ret ⟨qf, rfl, h3.1, ss2.tr h3.2.1, h3.2.2.mono (by omega) (by omega)⟩
  have hp2 : pDigit n t 0 (cP C) (i + 2) = .inr u := hp2
  dsimp only
  rw [hp2]
  have ru := pDigit_rg hp2
  have ss3 := ss2.tr s3
  refine jo_cl (mkg o3).2 (jX_digit (lo := 1) (hi' := 4) hM E3 o3 (ht0.sq hq0 ss3) (by omega) rfl rfl (by omega) (by omega) (fun e hp3 qf M4 h4 => ?_) (fun w hp3 M4 ⟨o4, s4, E4⟩ => ?_))
  · have hp3 : pDigit n t 1 4 (i + 3) = .inl e := hp3
    dsimp only
    rw [hp3]
    exact jo_ret ⟨qf, rfl, h4.1, ss3.tr h4.2.1, h4.2.2.mono (by omega) (by omega)⟩
  have hp3 : pDigit n t 1 4 (i + 3) = .inr w := hp3
  dsimp only
  rw [hp3]
  have rw' := pDigit_rg hp3
  have ss4 := ss3.tr s4
  refine jo_bd (jo_mono (jx_edgeBy (E4.md hM) E4 (by omega) (by omega)) ?_)
  rintro r M5 ⟨b, rfl, s5, E5, hb⟩
  have e5 : jEp eA 6 C (jMk md M5.2.2) := ((b3.sq b1 (((s1.tr s2).tr s3).tr s4)).sub s5)
  have eq : eA ≠ q := fun e => by rw [e, hq0] at he0; cases he0
  obtain ⟨er, g1, g2, g3, g4⟩ := e5
  refine jX_stR (n := 6) (j := cE C) g1 rfl (by omega) (by decide) (fit56 (mkg hb).2) E5 (fun M6 e6 E6 => ?_)
  have q6 : jMk md M6.2.2 q = some (jRq tp n (i + 1 + 1 + 1 + 1)) := by rw [e6, va_up_ne _ _ (Ne.symm eq)]; exact s5 _ _ o4
  have ss6 : jSq q H0 (jMk md M6.2.2) := fun a e ha hh => by
    rw [e6, va_up_ne _ _ (fun y => by rw [y, he0] at hh; cases hh)]
    exact s5 _ _ (ss4 a e ha hh)
  have ep6 : jEp eA 6 (xEdge C p u w) (jMk md M6.2.2) := by
    refine ⟨va_up er (cE C) (some b), by rw [e6, va_up_self], by show cE C + 1 ≤ 6; omega, by decide, fun e he => ?_⟩
    have he : e < cE C + 1 := he
    by_cases ee : e = cE C
    · subst ee
      refine ⟨b, va_up_self _ _ _, ?_⟩
      rw [e6, va_up_ne _ _ (fun y => by rw [y, g1] at hb; cases hb), hb]
      simp [xEdge, cEd]
    · obtain ⟨a, a1, a2⟩ := g4 e (by omega)
      refine ⟨a, by rw [va_up_ne _ _ ee]; exact a1, ?_⟩
      rw [e6, va_up_ne _ _ (fun y => by rw [y, g1] at a2; cases a2), a2]
      show _ = some (jEdO (if e = cE C then _ else _) (if e = cE C then _ else _) (if e = cE C then _ else _))
      rw [if_neg ee, if_neg ee, if_neg ee]
  refine jo_cl (mkg q6).2 (jX_stop hM E6 q6 (ht0.sq hq0 ss6) (by omega) (fun h3 qf M7 h7 => ?_) (fun h3 M7 ⟨o7, s7, E7⟩ => ?_))
  · have h3 : tk n t (i + 4) ≠ 3 := h3
    unfold pStop
    rw [if_neg h3]
    exact jo_ret ⟨qf, rfl, h7.1, ss6.tr h7.2.1, h7.2.2.mono (by omega) (by omega)⟩
  · have h3 : tk n t (i + 4) = 3 := h3
    have := tk_lt' h3 (by decide)
    unfold pStop
    rw [if_pos h3]
    refine jo_ret ⟨?_, ⟨o7, ss6.tr s7, ep6.sq q6 s7, E7.mono ?_ ?_, by show i + 5 ≤ n; omega⟩, by omega⟩
    · show Sum.inl (nI (cE C) + 1) = Sum.inl (nI (cE C + 1))
      rw [nI_1]
    · show c + cE C + 1 ≤ c + (cE C + 1); omega
    · show s + 3 * cE C + 3 ≤ s + 3 * (cE C + 1); omega
theorem jx_edgesLoop (hM : ∀ a, md a = true → a < M0.1) {H0 : HM} {eA p : Nat} (hq0 : ∃ j, H0 q = some (jRq tp n j)) (ht0 : jRt tp n t H0) (he0 : H0 eA = none) (hn : n ≤ 90) (hp0 : 0 < p) :
    ∀ (g : Nat) (C : CX) (i N' : Nat) (M : Mem), jWf C → cP C = p → cF C = 0 → (∀ k e, cCh C k e = 0) → 7 ≤ g + cE C → 10 ≤ N' + cE C → jEi md c s M0 q tp n eA H0 C i M →
    jo (jm_it (fun z => jf_X2_all_L25 N q (nI p) (some eA) z) N' (nI (cE C))) M (fun x M1 => match pEdges n t g C i with
      | .inl e => ∃ qf, x = .inr qf ∧ jTh0 md (c + 8) (s + 32) M0 q H0 e qf M1
      | .inr y => x = .inl (nI (cE y.1)) ∧ jWf y.1 ∧ cP y.1 = p ∧ cF y.1 = 0 ∧ (∀ k e, cCh y.1 k e = 0) ∧ jEi md c s M0 q tp n eA H0 y.1 y.2 M1) := by
  intro g
  induction g with
  | zero => intro C i N' M hW _ _ _ h1; have := hW.2.1; omega
  | succ g ih =>
    intro C i N' M hW hp hF hZ h1 h2 hI
    obtain ⟨N', rfl⟩ : ∃ n', N' = n' + 1 := ⟨N' - 1, by have := hW.2.1; omega⟩
    unfold pEdges
    subst hp
    by_cases c1 : i < n ∧ t i = 101
    · rw [if_pos c1]
      refine jo_its (jo_mono (jx_edgeStep (N := N) hM (.inr hq0) ht0 he0 hW hn hI c1.1 c1.2) ?_)
      intro x M1 hx
      cases hpe : pEdge n t C i with
      | inl e =>
        rw [hpe] at hx
        obtain ⟨qf, rfl, hx⟩ := hx
        exact ⟨qf, rfl, hx⟩
      | inr y =>
        rw [hpe] at hx
        obtain ⟨rfl, hx, h6⟩ := hx
        unfold pEdge at hpe
        rw [if_neg (by omega)] at hpe
        cases hp1 : pDigit n t 0 (cP C) (i + 1) with
        | inl e => rw [hp1] at hpe; cases hpe
        | inr p' =>
          rw [hp1] at hpe
          cases hp2 : pDigit n t 0 (cP C) (i + 2) with
          | inl e => rw [hp2] at hpe; cases hpe
          | inr u' =>
            rw [hp2] at hpe
            cases hp3 : pDigit n t 1 4 (i + 3) with
            | inl e => rw [hp3] at hpe; cases hpe
            | inr w' =>
              rw [hp3] at hpe
              cases hp4 : pStop n t (i + 4) with
              | inl e => rw [hp4] at hpe; cases hpe
              | inr _ =>
                rw [hp4] at hpe
                have hpe : (Sum.inr (xEdge C p' u' w', i + 5) : PE ⊕ (CX × Nat)) = .inr y := hpe
                injection hpe with hpe
                subst hpe
                have r1 := pDigit_rg hp1
                have r2 := pDigit_rg hp2
                have r3 := pDigit_rg hp3
                dsimp only
                refine ih (xEdge C p' u' w') (i + 5) N' M1 (jWf_edge hW (by omega) (by omega) (by omega) (by omega)) rfl hF (fun k e => ?_) (by show 7 ≤ g + (cE C + 1); omega) (by show 10 ≤ N' + (cE C + 1); omega) hx
                show (if e = cE C then 0 else cCh C k e) = 0
                split
                · rfl
                · exact hZ k e
    · rw [if_neg c1]
      obtain ⟨b1, b2, b3, b4, b5⟩ := id hI
      obtain ⟨j0, hq0⟩ := hq0
      have ht : jRt tp n t (jMk md M.2.2) := ht0.sq hq0 b2
      have st : (jf_X2_all_L25 N q (nI (cP C)) (some eA) (nI (cE C))).1 M = some (.inr (.inl (nI (cE C))), M) := by
        refine jo_out ?_
        unfold jf_X2_all_L25
        refine jo_cl (mkg b1).2 (jo_eq (jx_look (mkg b1).2 (ht.sub jMk.sub) (by omega)) (jo_f ?_ (jo_ret ⟨rfl, rfl⟩)))
        by_cases c2 : i < n
        · have h256 : t i < 256 := by obtain ⟨tf, _, _, z⟩ := ht; exact (z _ c2).2
          rw [if_pos c2]
          show ¬ nI (t i) = nI 101
          rw [nI_eq (by omega) (by omega)]
          exact fun y => c1 ⟨c2, y⟩
        · rw [if_neg c2]
          decide +kernel
      exact jo_its (jo_of st ⟨rfl, hW, rfl, hF, hZ, hI⟩)
end EL
