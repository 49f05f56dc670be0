/-! PLAIN LAW, 46: complex: the model -/
/-- the draft holds a complex, its chains are nil -/
def jDr (C : CX) (d : Nat → Int32) : Prop := jEnc C d ∧ (∀ j, 45 ≤ j → j < 63 → d j = 0) ∧ jWf C ∧ 0 < cP C
section PB
variable {N m n : Nat} {ad : Nat → Nat} {M0 M : Mem} {S : MS} {t : Nat → Nat} {d : Nat → Int32} {C : CX}
theorem jWf_edge (hW : jWf C) (h6 : cE C < 6) {p q w : Nat} (hp : p < cP C) (hq : q < cP C) (hw : 1 ≤ w ∧ w ≤ 3) : jWf (xEdge C p q w) := by
  refine ⟨hW.1, ?_, hW.2.2.1, fun e he => ?_, fun f hf => ?_, fun c e hc he => ?_⟩
  · show cE C + 1 ≤ 6; omega
  · have he : e < cE C + 1 := he
    show (if e = cE C then _ else _) < cP C ∧ (if e = cE C then _ else _) < cP C ∧ 1 ≤ (if e = cE C then _ else _) ∧ (if e = cE C then _ else _) ≤ 3
    by_cases c : e = cE C
    · simp only [if_pos c]
      exact ⟨hp, hq, hw⟩
    · simp only [if_neg c]
      exact hW.2.2.2.1 e (by omega)
  · have z := hW.2.2.2.2.1 f hf
    refine ⟨z.1, z.2.1, z.2.2.1, z.2.2.2.1, fun k hk => ?_⟩
    have y := z.2.2.2.2 k hk
    show cLt C f k ≠ 0 ∧ -((cE C + 1 : Nat) : Int) ≤ cLt C f k ∧ cLt C f k ≤ ((cE C + 1 : Nat) : Int)
    omega
  · have he : e < cE C + 1 := he
    show -9 ≤ (if e = cE C then 0 else cCh C c e) ∧ (if e = cE C then 0 else cCh C c e) ≤ 9
    by_cases c1 : e = cE C
    · simp only [if_pos c1]; omega
    · simp only [if_neg c1]; exact hW.2.2.2.2.2 c e hc (by omega)
theorem jWf_face (hW : jWf C) (h4 : cF C < 4) {w k : Nat} {L : Nat → Int} (hw : 1 ≤ w ∧ w ≤ 3) (hk : 1 ≤ k ∧ k ≤ 4) (hL : wLs C L k) : jWf (xFace C w k L) := by
  refine ⟨hW.1, hW.2.1, ?_, hW.2.2.2.1, fun f hf => ?_, hW.2.2.2.2.2⟩
  · show cF C + 1 ≤ 4; omega
  · have hf : f < cF C + 1 := hf
    show 1 ≤ (if f = cF C then w else cFw C f) ∧ (if f = cF C then w else cFw C f) ≤ 3 ∧ 1 ≤ (if f = cF C then k else cFl C f) ∧ (if f = cF C then k else cFl C f) ≤ 4 ∧ ∀ j, j < (if f = cF C then k else cFl C f) → (if f = cF C then L j else cLt C f j) ≠ 0 ∧ -(cE C : Int) ≤ (if f = cF C then L j else cLt C f j) ∧ (if f = cF C then L j else cLt C f j) ≤ (cE C : Int)
    by_cases c : f = cF C
    · simp only [if_pos c]
      exact ⟨hw.1, hw.2, hk.1, hk.2, fun j hj => hL j hj⟩
    · simp only [if_neg c]
      exact hW.2.2.2.2.1 f (by omega)
theorem pDigit_rg {lo hi i v : Nat} (h : pDigit n t lo hi i = .inr v) : lo ≤ v ∧ v + 1 ≤ hi ∧ i < n := by
  unfold pDigit at h
  split at h
  · cases h
  · rename_i c
    split at h
    · cases h
    · rename_i c2
      cases h
      refine ⟨by omega, by omega, ?_⟩
      refine Classical.byContradiction fun x => c ?_
      unfold tk
      rw [if_neg x]
      decide
theorem jm_readsEdge (hT : jTp S n t) (hd : jDr C d) {p : Nat} (hp : p < n) (h : jPM m ad M0 S n t d (.inr p) M) : jo (jf_X1_readsEdge N m) M (fun _ M' => match pEdge n t C p with
    | .inl e => ∃ d', jPM m ad M0 S n t d' (.inl e) M'
    | .inr x => ∃ d', jPM m ad M0 S n t d' (.inr x.2) M' ∧ jDr x.1 d') := by
  obtain ⟨hE, hz, hW, hP⟩ := hd
  have w1 := hW.1
  have w2 := hW.2.1
  have body : ∀ (M1 : Mem) (u : PE ⊕ Nat), jPM m ad M0 S n t d u M1 → jo (jf_X1_readsEdge_j18 N m) M1 (fun _ M' =>
      match uStop n t (uDig n t 1 4 (uDig n t 0 (cP C) (uDig n t 0 (cP C) (uGo n u)).2).2).2 with
      | .inl e => jPM m ad M0 S n t d (.inl e) M'
      | .inr q => cE C < 6 → ∃ d', jPM m ad M0 S n t d' (.inr q) M' ∧ d' = jle d (cE C) (nI (uDig n t 0 (cP C) (uGo n u)).1) (nI (uDig n t 0 (cP C) (uDig n t 0 (cP C) (uGo n u)).2).1) (nI (uDig n t 1 4 (uDig n t 0 (cP C) (uDig n t 0 (cP C) (uGo n u)).2).2).1)) := by
    intro M1 u k
    have d0 : ∀ (s : Nat → Int32) (M' : Mem), jMM m ad M0 (va_up S.1 1 d, S.2.1, s, S.2.2.2) M' → jm_ldI 0 (some (ad 1)) (0 : Int32) M' = some (nI (cP C)) := by
      intro s M' q
      have := jM_ldI q (k := 1) (kd := 0) (.inr (.inl rfl)) rfl (i := (0 : Int32)) (j := 0) (jm_ixn (j := 0) (by decide) (by decide))
      rw [this]
      show some (va_up S.1 1 d 1 0) = _
      rw [va_up_self, hE.1]
    unfold jf_X1_readsEdge_j18
    obtain ⟨s, k1, k2, k3⟩ := id k
    refine jo_rd (jM_cl k1) (jo_bd (jo_mono (jm_goesOn hT k) ?_))
    intro _ M2 k
    obtain ⟨s, k1, k2, k3⟩ := id k
    have ep : nI (cP C) - (1 : Int32) = nI (cP C - 1) := nI_sub (b := 1) hP
    refine jo_rd (jM_fR k1 (k := 1) rfl) (jo_rd (d0 _ _ k1) ?_)
    rw [ep]
    refine jo_rd (jM_cl k1) (jo_bd (jo_mono (jm_digit hT k (lo := 0) (hi := cP C) (by decide) (by omega)) ?_))
    rintro _ M3 ⟨rfl, k⟩
    obtain ⟨s, k1, k2, k3⟩ := id k
    refine jo_rd (jM_fR k1 (k := 1) rfl) (jo_rd (d0 _ _ k1) ?_)
    rw [ep]
    refine jo_rd (jM_cl k1) (jo_bd (jo_mono (jm_digit hT k (lo := 0) (hi := cP C) (by decide) (by omega)) ?_))
    rintro _ M4 ⟨rfl, k⟩
    obtain ⟨s, k1, k2, k3⟩ := id k
    refine jo_rd (jM_cl k1) (jo_bd (jo_mono (jm_digit hT k (lo := 1) (hi := 4) (by decide) (by decide)) ?_))
    rintro _ M5 ⟨rfl, k⟩
    obtain ⟨s, k1, k2, k3⟩ := id k
    refine jo_rd (jM_cl k1) (jo_bd (jo_mono (jm_stop hT k) ?_))
    intro _ M6 k
    generalize (uDig n t 0 (cP C) (uGo n u)).1 = a1
    generalize (uDig n t 0 (cP C) (uDig n t 0 (cP C) (uGo n u)).2).1 = a2
    generalize (uDig n t 1 4 (uDig n t 0 (cP C) (uDig n t 0 (cP C) (uGo n u)).2).2).1 = a3
    generalize uStop n t (uDig n t 1 4 (uDig n t 0 (cP C) (uDig n t 0 (cP C) (uGo n u)).2).2).2 = v at k
    obtain ⟨s, k1, k2, k3⟩ := id k
    refine jo_rd (jM_fI k1 (k := 12) rfl) ?_
    cases v with
    | inl e =>
      obtain ⟨g12, g13, g14, g15, g16⟩ := k3
      exact jo_f (show ¬ s 12 = nI 0 by rw [g12, nI_eq (by omega) (by omega)]; omega) (jo_ret k)
    | inr q =>
      refine jo_t (show s 12 = nI 0 from k3.1) (jo_rd (jM_fR k1 (k := 1) rfl) ?_)
      by_cases c6 : cE C < 6
      · have hk1 : (va_up S.1 1 d, S.2.1, s, S.2.2.2).1 1 1 = nI (cE C) := by
          show va_up S.1 1 d 1 1 = _
          rw [va_up_self]; exact hE.2.1
        refine jo_bd (jo_mono (jm_laysEdge k1 (.inr rfl) c6 hk1 (p := nI a1) (q := nI a2) (w := nI a3)) ?_)
        intro _ M7 k4
        refine jo_ret (fun _ => ⟨_, ⟨s, ?_, k2, k3⟩, rfl⟩)
        have e1 : (va_up S.1 1 d, S.2.1, s, S.2.2.2).1 1 = d := va_up_self S.1 1 d
        rw [e1] at k4
        have e2 : va_up (va_up S.1 1 d, S.2.1, s, S.2.2.2).1 1 (jle d (cE C) (nI a1) (nI a2) (nI a3)) = va_up S.1 1 (jle d (cE C) (nI a1) (nI a2) (nI a3)) := va_up2 S.1 1 d _
        rw [e2] at k4
        exact k4
      · -- six edges: it would lay a seventh; that is never reached, but it is a total step all the same
        have hk1 : (va_up S.1 1 d, S.2.1, s, S.2.2.2).1 1 1 = nI 6 := by
          show va_up S.1 1 d 1 1 = _
          rw [va_up_self, hE.2.1]
          congr 1
          omega
        have hi : jM_ia 1 := .inr (.inl rfl)
        unfold jf_X1_laysEdge
        refine jo_bd (jo_rd (jM_ldI k1 (k := 1) hi rfl (j := 1) (jm_ixn (by decide) (by decide))) ?_)
        rw [hk1]
        refine jM_stI k1 (k := 1) hi rfl (j := 21) (jm_ixn (j := 21) (by decide) (by decide)) (fun A1 z1 => ?_)
        refine jM_stI z1 (k := 1) hi rfl (j := 22) (jm_ixn (j := 22) (by decide) (by decide)) (fun A2 z2 => ?_)
        refine jM_stI z2 (k := 1) hi rfl (j := 23) (jm_ixn (j := 23) (by decide) (by decide)) (fun A3 z3 => ?_)
        refine jo_rd (jM_ldI z3 (k := 1) hi rfl (j := 1) (jm_ixn (by decide) (by decide))) ?_
        refine jM_stI z3 (k := 1) hi rfl (j := 1) (jm_ixn (by decide) (by decide)) (fun A4 z4 => ?_)
        exact jo_ret (jo_ret (fun x => absurd x c6))
  have start := h
  obtain ⟨s, h1, h2, h3⟩ := h
  unfold jf_X1_readsEdge
  refine jo_rd (jM_fR h1 (k := 1) rfl) ?_
  have d1 : jm_ldI 0 (some (ad 1)) (1 : Int32) M = some (nI (cE C)) := by
    have := jM_ldI h1 (k := 1) (kd := 0) (.inr (.inl rfl)) rfl (i := (1 : Int32)) (j := 1) (jm_ixn (j := 1) (by decide) (by decide))
    rw [this]
    show some (va_up S.1 1 d 1 1) = _
    rw [va_up_self, hE.2.1]
  refine jo_rd d1 ?_
  by_cases c6 : cE C = 6
  · refine jo_t (show nI (cE C) = nI 6 by rw [c6]) (jo_rd (jM_cl h1) (jo_bd (jo_mono (jmp_bad start (k := 3) (by decide)) ?_)))
    intro _ M2 k
    refine jo_mono (body M2 (.inl (3, p)) k) (fun _ M' k2 => ?_)
    unfold pEdge
    rw [if_pos c6]
    exact ⟨d, k2⟩
  · refine jo_f (show ¬ nI (cE C) = nI 6 by rw [nI_eq (by omega) (by omega)]; exact c6) ?_
    refine jo_mono (body M (.inr p) start) (fun _ M' k => ?_)
    unfold pEdge
    rw [if_neg c6]
    have e1 : uGo n (.inr p) = .inr (p + 1) := by show Sum.inr _ = _; rw [if_pos hp]
    rw [e1] at k
    cases q1 : pDigit n t 0 (cP C) (p + 1) with
    | inl e => simp only [uDig, q1, uStop] at k; exact ⟨d, k⟩
    | inr v1 =>
      simp only [uDig, q1] at k
      cases q2 : pDigit n t 0 (cP C) (p + 1 + 1) with
      | inl e =>
        simp only [q2, uStop] at k; exact ⟨d, k⟩
      | inr v2 =>
        simp only [q2] at k
        cases q3 : pDigit n t 1 4 (p + 1 + 1 + 1) with
        | inl e =>
          simp only [q3, uStop] at k; exact ⟨d, k⟩
        | inr v3 =>
          simp only [q3, uStop] at k
          by_cases q4 : tk n t (p + 1 + 1 + 1 + 1) = 3
          · simp only [q4, if_true] at k
            have q5 : tk n t (p + 4) = 3 := q4
            simp only [pStop, q5, if_true]
            obtain ⟨d', k1, k2⟩ := k (by omega)
            have r1 := pDigit_rg q1
            have r2 := pDigit_rg q2
            have r3 := pDigit_rg q3
            refine ⟨d', k1, ?_, ?_, jWf_edge hW (by omega) (by omega) (by omega) (by omega), hP⟩
            · rw [k2]
              exact jEnc_edge hW hE (by omega) (fun c hc => hz _ (by omega) (by omega))
            · intro j hj1 hj2
              rw [k2, jle_at, if_neg (by omega), if_neg (by omega), if_neg (by omega), if_neg (by omega)]
              exact hz j hj1 hj2
          · simp only [q4, if_false] at k
            have q5 : ¬ tk n t (p + 4) = 3 := q4
            simp only [pStop, q5, if_false]
            exact ⟨d, k⟩
end PB
