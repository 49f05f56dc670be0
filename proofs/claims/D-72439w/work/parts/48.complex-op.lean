/-! PLAIN LAW, 48: complex, the operation: the model -/
section PD
variable {N m n : Nat} {ad : Nat → Nat} {M0 M : Mem} {S : MS} {t : Nat → Nat} {d : Nat → Int32} {C : CX} {T : ST}
theorem pEdge_up {i : Nat} {x : CX × Nat} (h : pEdge n t C i = .inr x) : cE x.1 = cE C + 1 ∧ cF x.1 = cF C ∧ cE C ≠ 6 := by
  unfold pEdge at h
  split at h
  · cases h
  · rename_i c
    split at h
    · cases h
    · split at h
      · cases h
      · split at h
        · cases h
        · split at h
          · cases h
          · cases h; exact ⟨rfl, rfl, c⟩
theorem pFace_up {i : Nat} {x : CX × Nat} (h : pFace n t C i = .inr x) : cF x.1 = cF C + 1 ∧ cE x.1 = cE C ∧ cF C ≠ 4 := by
  unfold pFace at h
  split at h
  · cases h
  · rename_i c
    split at h
    · cases h
    · split at h
      · cases h
      · split at h
        · cases h
        · split at h
          · split at h
            · cases h; exact ⟨rfl, rfl, c⟩
            · cases h
          · cases h
/-- a loop of the parser that is at a fault, or at another letter, is left -/
theorem jm_edges (hT : jTp S n t) : ∀ (g N' : Nat) (C : CX) (d : Nat → Int32) (p : Nat) (M : Mem), cE C + g = 8 → g < N' → jDr C d → jPM m ad M0 S n t d (.inr p) M →
    jo (jm_it (fun _ => jf_X1_complex_L69 N m) N' ()) M (fun _ M' => match pEdges n t g C p with
      | .inl e => ∃ d', jPM m ad M0 S n t d' (.inl e) M'
      | .inr x => ∃ d', jPM m ad M0 S n t d' (.inr x.2) M' ∧ jDr x.1 d' ∧ cF x.1 = cF C) := by
  intro g
  induction g with
  | zero => intro N' C d p M h1 h2 h3; have := h3.2.2.1.2.1; omega
  | succ g ih =>
    intro N' C d p M h1 h2 h3 h
    obtain ⟨N', rfl⟩ : ∃ k, N' = k + 1 := ⟨N' - 1, by omega⟩
    refine jo_its ?_
    obtain ⟨s, k1, k3⟩ := h.mm
    have lt := jr_isLetter (N := N) hT h (c := 101) (by decide)
    unfold jf_X1_complex_L69
    refine jo_rd (jM_cl k1) (jo_eq lt ?_)
    unfold pEdges
    by_cases c : p < n ∧ t p = 101
    · rw [if_pos c]
      refine jo_bI (fun q => absurd (show decide (p < n ∧ t p = 101) = true by simpa using c) q) (fun _ => ?_)
      refine jo_rd (jM_cl k1) (jo_bd (jo_mono (jm_readsEdge hT h3 c.1 h) ?_))
      intro _ M2 k
      refine jo_ret ?_
      cases q : pEdge n t C p with
      | inl e =>
        rw [q] at k
        obtain ⟨d', k⟩ := k
        obtain ⟨N'', rfl⟩ : ∃ k, N' = k + 1 := ⟨N' - 1, by omega⟩
        refine jo_its ?_
        obtain ⟨s, k1, k3⟩ := k.mm
        have lt := jr_isLetter (N := N) hT k (c := 101) (by decide)
        exact jo_rd (jM_cl k1) (jo_eq lt (jo_t (by rfl) (jo_ret ⟨d', k⟩)))
      | inr x =>
        rw [q] at k
        obtain ⟨d', k, kd⟩ := k
        have up := pEdge_up q
        refine jo_mono (ih N' x.1 d' x.2 M2 (by omega) (by omega) kd k) (fun _ M' z => ?_)
        cases q2 : pEdges n t g x.1 x.2 with
        | inl e => rw [q2] at z; simp only [q2]; exact z
        | inr y =>
          rw [q2] at z
          obtain ⟨d2, z1, z2, z3⟩ := z
          simp only [q2]
          exact ⟨d2, z1, z2, by rw [z3, up.2.1]⟩
    · rw [if_neg c]
      refine jo_bI (fun _ => jo_ret ⟨d, h, h3, rfl⟩) (fun q => absurd (show p < n ∧ t p = 101 by simpa using q) c)
theorem jm_faces (hT : jTp S n t) (hN : 100 < N) : ∀ (g N' : Nat) (C : CX) (d : Nat → Int32) (p : Nat) (M : Mem), cF C + g = 8 → g < N' → jDr C d → jPM m ad M0 S n t d (.inr p) M →
    jo (jm_it (fun _ => jf_X1_complex_L85 N m) N' ()) M (fun _ M' => match pFaces n t g C p with
      | .inl e => ∃ d', jPM m ad M0 S n t d' (.inl e) M'
      | .inr x => ∃ d', jPM m ad M0 S n t d' (.inr x.2) M' ∧ jDr x.1 d') := by
  intro g
  induction g with
  | zero => intro N' C d p M h1 h2 h3; have := h3.2.2.1.2.2.1; omega
  | succ g ih =>
    intro N' C d p M h1 h2 h3 h
    obtain ⟨N', rfl⟩ : ∃ k, N' = k + 1 := ⟨N' - 1, by omega⟩
    refine jo_its ?_
    obtain ⟨s, k1, k3⟩ := h.mm
    have lt := jr_isLetter (N := N) hT h (c := 102) (by decide)
    unfold jf_X1_complex_L85
    refine jo_rd (jM_cl k1) (jo_eq lt ?_)
    unfold pFaces
    by_cases c : p < n ∧ t p = 102
    · rw [if_pos c]
      refine jo_bI (fun q => absurd (show decide (p < n ∧ t p = 102) = true by simpa using c) q) (fun _ => ?_)
      refine jo_rd (jM_cl k1) (jo_bd (jo_mono (jm_readsFace hT h3 c.1 hN h) ?_))
      intro _ M2 k
      refine jo_ret ?_
      cases q : pFace n t C p with
      | inl e =>
        rw [q] at k
        obtain ⟨d', k⟩ := k
        obtain ⟨N'', rfl⟩ : ∃ k, N' = k + 1 := ⟨N' - 1, by omega⟩
        refine jo_its ?_
        obtain ⟨s, k1, k3⟩ := k.mm
        have lt := jr_isLetter (N := N) hT k (c := 102) (by decide)
        exact jo_rd (jM_cl k1) (jo_eq lt (jo_t (by rfl) (jo_ret ⟨d', k⟩)))
      | inr x =>
        rw [q] at k
        obtain ⟨d', k, kd⟩ := k
        have up := pFace_up q
        refine jo_mono (ih N' x.1 d' x.2 M2 (by omega) (by omega) kd k) (fun _ M' z => ?_)
        cases q2 : pFaces n t g x.1 x.2 with
        | inl e => rw [q2] at z; simp only [q2]; exact z
        | inr y => rw [q2] at z; simp only [q2]; exact z
    · rw [if_neg c]
      refine jo_bI (fun _ => jo_ret ⟨d, h, h3⟩) (fun q => absurd (show p < n ∧ t p = 102 by simpa using q) c)
/-- at a fault both loops are left at once -/
theorem jm_outE (hT : jTp S n t) {e : PE} (hN : 0 < N) (h : jPM m ad M0 S n t d (.inl e) M) : (jm_it (fun _ => jf_X1_complex_L69 N m) N ()).1 M = some ((), M) := by
  obtain ⟨N', rfl⟩ : ∃ k, N = k + 1 := ⟨N - 1, by omega⟩
  obtain ⟨s, k1, k3⟩ := h.mm
  refine jo_out (jo_its ?_)
  unfold jf_X1_complex_L69
  exact jo_rd (jM_cl k1) (jo_eq (jr_isLetter hT h (c := 101) (by decide)) (jo_t (by rfl) (jo_ret ⟨rfl, rfl⟩)))
theorem jm_outF (hT : jTp S n t) {e : PE} (hN : 0 < N) (h : jPM m ad M0 S n t d (.inl e) M) : (jm_it (fun _ => jf_X1_complex_L85 N m) N ()).1 M = some ((), M) := by
  obtain ⟨N', rfl⟩ : ∃ k, N = k + 1 := ⟨N - 1, by omega⟩
  obtain ⟨s, k1, k3⟩ := h.mm
  refine jo_out (jo_its ?_)
  unfold jf_X1_complex_L85
  exact jo_rd (jM_cl k1) (jo_eq (jr_isLetter hT h (c := 102) (by decide)) (jo_t (by rfl) (jo_ret ⟨rfl, rfl⟩)))
theorem mtk_0 (i : Nat) : mtk n t i = 0 ↔ tk n t i = 0 := by
  unfold mtk tk tkc
  (repeat' split) <;> omega
theorem jm_complex (h : jMM m ad M0 S M) (hT : jRM T S) (hW : jWfS T) (hN : 1000 < N) : jo (jf_X1_complex N m) M (jOM m ad M0 (oComplex T)) := by
  have hT0 := hT
  obtain ⟨hC, hA, hP, hI, hU, hTp, hF⟩ := hT
  have hTp1 : jTp S (sTaped T) (sTape T) := ⟨hW.2.2.2.2.2.1, hU, fun i hi => ⟨hTp i hi, hW.2.2.2.2.2.2.1 i hi⟩⟩
  -- the ends
  have keep : ∀ (d' : Nat → Int32) (s : Nat → Int32), (∀ k, k < 8 ∨ 13 < k → s k = S.2.2.1 k) → jRM (sT0 T) (va_up S.1 1 d', S.2.1, va_up s 7 (0 : Int32), S.2.2.2) := by
    intro d' s hs
    have z := jRM_0 (jRM_dr (f := d') hT0)
    obtain ⟨y1, y2, y3, y4, y5, y6, y7⟩ := z
    refine ⟨y1, ?_, y3, y4, va_up_self s 7 (0 : Int32), y6, ?_⟩
    · show va_up s 7 (0 : Int32) 3 = _
      rw [va_up_ne _ _ (by decide), hs 3 (by decide)]; exact hA
    · show va_up s 7 (0 : Int32) 14 = _
      rw [va_up_ne _ _ (by decide), hs 14 (by decide)]; exact hF
  have endF : ∀ (M1 : Mem) (e : PE) (d' : Nat → Int32), pAll (sTaped T) (sTape T) = .inl e → jPM m ad M0 S (sTaped T) (sTape T) d' (.inl e) M1 → jo (jf_X1_complex_j113 N m) M1 (jOM m ad M0 (oComplex T)) := by
    intro M1 e d' he k
    obtain ⟨s, k1, k2, k3⟩ := k
    obtain ⟨g12, g13, g14, g15, g16⟩ := k3
    have hn := hTp1.1
    unfold jf_X1_complex_j113
    refine jM_puI k1 (by decide) rfl (fun M2 m2 => ?_)
    have m2 : jMM m ad M0 (va_up S.1 1 d', S.2.1, va_up s 7 (0 : Int32), S.2.2.2) M2 := m2
    refine jo_rd (jM_fIx m2 (k := 12) rfl ((va_up_ne (j := 12) (k := 7) s (0 : Int32) (by decide)).trans g12)) ?_
    refine jo_f (show ¬ nI e.1 ≤ nI 0 by rw [nI_leI (by omega) (by omega)]; omega) ?_
    refine jo_rd (jM_fIx m2 (k := 12) rfl ((va_up_ne (j := 12) (k := 7) s (0 : Int32) (by decide)).trans g12)) ?_
    refine jM_puI m2 (by decide) rfl (fun M3 m3 => ?_)
    have m3 : jMM m ad M0 (va_up S.1 1 d', S.2.1, va_up (va_up s 7 (0 : Int32)) 14 (nI e.1), S.2.2.2) M3 := m3
    have g13' : va_up (va_up s 7 (0 : Int32)) 14 (nI e.1) 13 = nI e.2 := by rw [va_up_ne _ _ (by decide), va_up_ne _ _ (by decide)]; exact g13
    refine jo_rd (jM_fIx m3 (k := 13) rfl g13') (jo_ret ⟨?_, _, m3, ?_⟩)
    · unfold oComplex
      rw [he]
      show (-1000100 : Int32) - nI e.2 = iI (-1000100 - (e.2 : Int))
      rw [nI_iI, show (-1000100 : Int32) = iI (-1000100) from rfl, iI_sub]
    · unfold oComplex
      rw [he]
      obtain ⟨y1, y2, y3, y4, y5, y6, y7⟩ := keep d' s k2
      refine ⟨y1, ?_, y3, y4, ?_, y6, va_up_self (va_up s 7 (0 : Int32)) 14 (nI e.1)⟩
      · show va_up (va_up s 7 (0 : Int32)) 14 (nI e.1) 3 = _
        rw [va_up_ne _ _ (by decide)]; exact y2
      · show va_up (va_up s 7 (0 : Int32)) 14 (nI e.1) 7 = _
        rw [va_up_ne _ _ (by decide)]; exact y5
  have endG : ∀ (M1 : Mem) (C : CX) (p : Nat) (d' : Nat → Int32), pAll (sTaped T) (sTape T) = .inr C → jDr C d' → jPM m ad M0 S (sTaped T) (sTape T) d' (.inr p) M1 → jo (jf_X1_complex_j113 N m) M1 (jOM m ad M0 (oComplex T)) := by
    intro M1 C p d' he hd k
    obtain ⟨s, k1, k2, k3⟩ := k
    obtain ⟨g12, g8, g9, g10, g11, gp⟩ := k3
    unfold jf_X1_complex_j113
    refine jM_puI k1 (by decide) rfl (fun M2 m2 => ?_)
    have m2 : jMM m ad M0 (va_up S.1 1 d', S.2.1, va_up s 7 (0 : Int32), S.2.2.2) M2 := m2
    refine jo_rd (jM_fIx m2 (k := 12) rfl ((va_up_ne (j := 12) (k := 7) s (0 : Int32) (by decide)).trans g12)) ?_
    refine jo_t (show nI 0 ≤ nI 0 by decide +kernel) (jo_rd (jM_fR m2 (k := 1) rfl) (jo_rd (jM_fR m2 (k := 0) rfl) ?_))
    refine jo_bd (jo_mono (jr_copies (k1 := 1) (k2 := 0) (a := 0) (b := 0) m2 (by omega) (.inr (.inl rfl)) (.inl rfl) (by decide) rfl rfl (by decide) (by decide) (by decide) (by decide)) ?_)
    intro _ M3 m3
    refine jM_puI m3 (by decide) rfl (fun M4 m4 => ?_)
    generalize hb : jcp ((va_up S.1 1 d', S.2.1, va_up s 7 (0 : Int32), S.2.2.2).1 1) ((va_up S.1 1 d', S.2.1, va_up s 7 (0 : Int32), S.2.2.2).1 0) 0 0 63 = b at m3 m4
    have m4 : jMM m ad M0 (va_up (va_up S.1 1 d') 0 b, S.2.1, va_up (va_up s 7 (0 : Int32)) 3 (0 : Int32), S.2.2.2) M4 := m4
    have hbE : jEnc C b := by
      rw [← hb]
      refine jEnc_cg hd.2.2.1 hd.1 (fun j hj => ?_)
      unfold jcp
      rw [if_pos (by omega), Nat.sub_zero, Nat.zero_add]
      exact (congrFun (va_up_self S.1 1 d') j).symm
    have hE1 : jEnc C ((va_up (va_up S.1 1 d') 0 b, S.2.1, va_up (va_up s 7 (0 : Int32)) 3 (0 : Int32), S.2.2.2).1 0) := by
      rw [show (va_up (va_up S.1 1 d') 0 b, S.2.1, va_up (va_up s 7 (0 : Int32)) 3 (0 : Int32), S.2.2.2).1 0 = b from va_up_self (va_up S.1 1 d') 0 b]
      exact hbE
    refine jo_rd (jM_fR m4 (k := 0) rfl) (jo_rd (jr_now0 m4 hE1 rfl) (jo_rd (jM_fR m4 (k := 0) rfl) (jo_rd (jr_now1 m4 hE1 rfl) (jo_rd (jM_fR m4 (k := 0) rfl) (jo_rd (jr_now2 m4 hE1 rfl) (jo_ret ⟨?_, _, m4, ?_⟩))))))
    · unfold oComplex
      rw [he, nI_add, nI_add]
    · unfold oComplex
      rw [he]
      obtain ⟨y1, y2, y3, y4, y5, y6, y7⟩ := keep d' s k2
      have q := jRM_now (C := sC T) (R := ((0, sPast T), T.2.2.1, (0, sTape T), sFault T)) (S := (va_up S.1 1 d', S.2.1, va_up (va_up s 7 (0 : Int32)) 3 (0 : Int32), S.2.2.2)) (C' := C) (f := b) ⟨y1, va_up_self (va_up s 7 (0 : Int32)) 3 (0 : Int32), fun i hi => absurd hi (Nat.not_lt_zero _), y4, ?_, y6, ?_⟩ hbE
      · exact q
      · show va_up (va_up s 7 (0 : Int32)) 3 (0 : Int32) 7 = _
        rw [va_up_ne _ _ (by decide)]; exact y5
      · show va_up (va_up s 7 (0 : Int32)) 3 (0 : Int32) 14 = _
        rw [va_up_ne _ _ (by decide)]; exact y7
  have k85F : ∀ (M1 : Mem) (e : PE) (d' : Nat → Int32), pAll (sTaped T) (sTape T) = .inl e → jPM m ad M0 S (sTaped T) (sTape T) d' (.inl e) M1 → jo (jf_X1_complex_k85_101 N m) M1 (jOM m ad M0 (oComplex T)) := by
    intro M1 e d' he k
    obtain ⟨s, k1, k3⟩ := k.mm
    unfold jf_X1_complex_k85_101
    refine jo_rd (jM_fI k1 (k := 10) rfl) ?_
    by_cases c : s 10 = (0 : Int32)
    · exact jo_t c (endF M1 e d' he k)
    · exact jo_f c (jo_rd (jM_cl k1) (jo_bd (jo_mono (jmp_bad k (k := 1) (by decide)) (fun _ M2 k2 => endF M2 e d' he k2))))
  have k69F : ∀ (M1 : Mem) (e : PE) (d' : Nat → Int32), pAll (sTaped T) (sTape T) = .inl e → jPM m ad M0 S (sTaped T) (sTape T) d' (.inl e) M1 → jo (jf_X1_complex_k69_85 N m) M1 (jOM m ad M0 (oComplex T)) := by
    intro M1 e d' he k
    unfold jf_X1_complex_k69_85
    exact jo_eq (jm_outF hTp1 (by omega) k) (k85F M1 e d' he k)
  -- behind the first letter
  have body : ∀ (M1 : Mem) (u : PE ⊕ Nat) (d' : Nat → Int32), (u = .inr 0 ∧ 0 < sTaped T ∧ sTape T 0 = 99 ∨ u = .inl (1, 0) ∧ ¬ (0 < sTaped T ∧ sTape T 0 = 99)) → (∀ j, j < 63 → d' j = 0) → jPM m ad M0 S (sTaped T) (sTape T) d' u M1 → jo (jf_X1_complex_j49 N m) M1 (jOM m ad M0 (oComplex T)) := by
    intro M1 u d' hu hz k
    unfold jf_X1_complex_j49
    obtain ⟨s, k1, k3⟩ := k.mm
    refine jo_rd (jM_cl k1) (jo_bd (jo_mono (jm_goesOn hTp1 k) ?_))
    intro _ M2 k
    obtain ⟨s, k1, k3⟩ := k.mm
    refine jo_rd (jM_fR k1 (k := 1) rfl) (jo_rd (jM_cl k1) (jo_bd (jo_mono (jm_digit hTp1 k (lo := 1) (hi := 6) (by decide) (by decide)) ?_)))
    rintro _ M3 ⟨rfl, k⟩
    refine jP_st k (j := 0) (jm_ixn (j := 0) (by decide) (by decide)) (fun M4 k => ?_)
    obtain ⟨s, k1, k3⟩ := k.mm
    refine jo_rd (jM_cl k1) (jo_bd (jo_mono (jm_stop hTp1 k) ?_))
    intro _ M5 k
    have fin : ∀ e, pAll (sTaped T) (sTape T) = .inl e → jPM m ad M0 S (sTaped T) (sTape T) (upd d' 0 (nI (uDig (sTaped T) (sTape T) 1 6 (uGo (sTaped T) u)).1)) (.inl e) M5 → jo (jm_bd (jm_it (fun _ => jf_X1_complex_L69 N m) N ()) fun _ => jf_X1_complex_k69_85 N m) M5 (jOM m ad M0 (oComplex T)) := fun e he k => jo_eq (jm_outE hTp1 (by omega) k) (k69F M5 e _ he k)
    rcases hu with ⟨rfl, hn0, h99⟩ | ⟨rfl, hno⟩
    · have e1 : uGo (sTaped T) (.inr 0) = .inr 1 := by show Sum.inr _ = _; rw [if_pos hn0]
      rw [e1] at k fin
      have ne : ¬ ¬ (0 < sTaped T ∧ sTape T 0 = 99) := fun x => x ⟨hn0, h99⟩
      cases q1 : pDigit (sTaped T) (sTape T) 1 6 1 with
      | inl e =>
        simp only [uDig, q1, uStop] at k fin
        exact fin e (by unfold pAll; rw [if_neg ne, q1]) k
      | inr v =>
        simp only [uDig, q1, uStop] at k fin
        by_cases c2 : tk (sTaped T) (sTape T) (1 + 1) = 3
        · simp only [c2, if_true] at k
          have r1 := pDigit_rg q1
          have c3 : pStop (sTaped T) (sTape T) 2 = .inr () := by unfold pStop; exact if_pos c2
          have hd : jDr (x0 v) (upd d' 0 (nI v)) := by
            have z : ∀ j, j ≠ 0 → j < 63 → upd d' 0 (nI v) j = 0 := fun j h1 h2 => by rw [upd_ne h1]; exact hz j h2
            refine ⟨⟨upd_self, z 1 (by decide) (by decide), z 2 (by decide) (by decide), fun e w he => absurd he (Nat.not_lt_zero _), fun f hf => absurd hf (Nat.not_lt_zero _), fun c e _ he => absurd he (Nat.not_lt_zero _)⟩, fun j h1 h2 => z j (by omega) h2, ⟨by show v ≤ 5; omega, Nat.zero_le _, Nat.zero_le _, fun e he => absurd he (Nat.not_lt_zero _), fun f hf => absurd hf (Nat.not_lt_zero _), fun c e _ he => absurd he (Nat.not_lt_zero _)⟩, by show 0 < v; omega⟩
          refine jo_bd (jo_mono (jm_edges hTp1 8 N (x0 v) _ 3 M5 rfl (by omega) hd k) ?_)
          intro _ M6 k6
          cases q2 : pEdges (sTaped T) (sTape T) 8 (x0 v) 3 with
          | inl e =>
            rw [q2] at k6
            obtain ⟨d2, k6⟩ := k6
            exact k69F M6 e d2 (by unfold pAll; rw [if_neg ne, q1]; simp only [c3, q2]) k6
          | inr x =>
            rw [q2] at k6
            obtain ⟨d2, k6, k7, k8⟩ := k6
            unfold jf_X1_complex_k69_85
            refine jo_bd (jo_mono (jm_faces hTp1 (by omega) 8 N x.1 d2 x.2 M6 (by rw [k8]; rfl) (by omega) k7 k6) ?_)
            intro _ M7 k9
            cases q3 : pFaces (sTaped T) (sTape T) 8 x.1 x.2 with
            | inl e =>
              rw [q3] at k9
              obtain ⟨d3, k9⟩ := k9
              exact k85F M7 e d3 (by unfold pAll; rw [if_neg ne, q1]; simp only [c3, q2, q3]) k9
            | inr y =>
              rw [q3] at k9
              obtain ⟨d3, k9, k10⟩ := k9
              obtain ⟨s, m1, m3⟩ := k9.mm
              obtain ⟨g12, g8, g9, g10, g11, gp⟩ := m3
              have hm := mtk_le (n := sTaped T) (t := sTape T) y.2
              unfold jf_X1_complex_k85_101
              refine jo_rd (jM_fI m1 (k := 10) rfl) ?_
              by_cases c4 : tk (sTaped T) (sTape T) y.2 = 0
              · refine jo_t (show s 10 = nI 0 by rw [g10, (mtk_0 y.2).mpr c4]) (endG M7 y.1 y.2 d3 ?_ k10 k9)
                unfold pAll; rw [if_neg ne, q1]; simp only [c3, q2, q3, c4, if_true]
              · refine jo_f (show ¬ s 10 = nI 0 by rw [g10, nI_eq (by omega) (by omega), mtk_0]; exact c4) ?_
                refine jo_rd (jM_cl m1) (jo_bd (jo_mono (jmp_bad k9 (k := 1) (by decide)) (fun _ M8 k11 => endF M8 (1, y.2) d3 ?_ k11)))
                unfold pAll; rw [if_neg ne, q1]; simp only [c3, q2, q3, c4, if_false]
        · simp only [c2, if_false] at k
          have c3 : pStop (sTaped T) (sTape T) 2 = .inl (1, 2) := by unfold pStop; exact if_neg c2
          exact fin (1, 2) (by unfold pAll; rw [if_neg ne, q1]; simp only [c3]) k
    · exact fin (1, 0) (by unfold pAll; rw [if_pos hno]) k
  unfold jf_X1_complex
  refine jo_bd (jo_mono (jo_up 63 (fun i z M' => z = nI i ∧ ∃ d', jMM m ad M0 (va_up S.1 1 d', S.2) M' ∧ ∀ j, j < i → d' j = 0) (fun _ M' => ∃ d', jMM m ad M0 (va_up S.1 1 d', S.2) M' ∧ ∀ j, j < 63 → d' j = 0) ?_ ?_ N 0 _ M ⟨rfl, S.1 1, h.dr0, fun j hj => absurd hj (Nat.not_lt_zero _)⟩ (Nat.zero_le _) (by omega)) ?_)
  · rintro i z M' hi ⟨rfl, d', k1, k2⟩
    unfold jf_X1_complex_L2
    refine jo_f (show ¬ nI 63 ≤ nI i by rw [nI_leI (by omega) (by omega)]; omega) (jo_rd (jM_fR k1 (k := 1) rfl) ?_)
    refine jM_stI k1 (k := 1) (.inr (.inl rfl)) rfl (j := i) (jm_ixn (by show _ < 63; omega) (by decide)) (fun M3 k4 => jo_ret ⟨nI_1 i, _, k4.dr2, fun j hj => ?_⟩)
    rw [va_dr]
    by_cases e : j = i
    · rw [e, upd_self]
    · rw [upd_ne e]; exact k2 j (by omega)
  · rintro z M' ⟨rfl, d', k1, k2⟩
    unfold jf_X1_complex_L2
    exact jo_t (show nI 63 ≤ nI 63 by decide +kernel) (jo_ret ⟨d', k1, k2⟩)
  rintro _ M1 ⟨d', k1, hz⟩
  unfold jf_X1_complex_k2_21
  refine jM_puI k1 (by decide) rfl (fun M2 m2 => ?_)
  refine jM_puI m2 (by decide) rfl (fun M3 m3 => ?_)
  have m3 : jMM m ad M0 (va_up S.1 1 d', S.2.1, va_up (va_up S.2.2.1 8 (0 : Int32)) 12 (0 : Int32), S.2.2.2) M3 := m3
  refine jo_rd (jM_cl m3) (jo_bd (jo_mono (jm_reads hTp1 (p := 0) (Nat.zero_le _) m3 (fun k hk => by rw [va_up_ne _ _ (by omega), va_up_ne _ _ (by omega)]) (by rw [va_up_ne _ _ (by decide), va_up_self]; rfl) (va_up_self (va_up S.2.2.1 8 (0 : Int32)) 12 (0 : Int32))) ?_))
  intro _ M4 k4
  obtain ⟨s, k1, k3⟩ := k4.mm
  refine jo_rd (jM_cl k1) (jo_eq (jr_isLetter hTp1 k4 (c := 99) (by decide)) ?_)
  refine jo_bI (fun q => ?_) (fun q => ?_)
  · have q : ¬ (0 < sTaped T ∧ sTape T 0 = 99) := by simpa using q
    refine jo_rd (jM_cl k1) (jo_bd (jo_mono (jmp_bad k4 (k := 1) (by decide)) (fun _ M5 k5 => body M5 _ d' (.inr ⟨rfl, q⟩) hz k5)))
  · have q : 0 < sTaped T ∧ sTape T 0 = 99 := by simpa using q
    exact body M4 _ d' (.inl ⟨rfl, q.1, q.2⟩) hz k4
end PD
