/-! PLAIN LAW, 47: a face's text: the model -/
theorem jo_its {σ ρ : Type} {body : σ → jm_P (σ ⊕ ρ)} {N : Nat} {s : σ} {M : Mem} {Q : ρ → Mem → Prop} (h : jo (body s) M (fun x M1 => match x with
    | .inl s' => jo (jm_it body N s') M1 Q
    | .inr r => Q r M1)) : jo (jm_it body (N + 1) s) M Q := by
  obtain ⟨x, M1, h1, h2⟩ := h
  cases x with
  | inl s' =>
    obtain ⟨r, M2, h3, h4⟩ := h2
    exact ⟨r, M2, (jm_bd_eq h1).trans h3, h4⟩
  | inr r => exact ⟨r, M1, jm_bd_eq h1, h2⟩
section PC
variable {N m n : Nat} {ad : Nat → Nat} {M0 M : Mem} {S : MS} {t : Nat → Nat} {d : Nat → Int32} {C : CX}
theorem mtk_1 (i : Nat) : mtk n t i = 1 ↔ tk n t i = 1 := by
  unfold mtk tk tkc
  (repeat' split) <;> omega
theorem tk_lt {i k : Nat} (h : tk n t i = k) (hk : k ≠ 0) : i < n := by
  refine Classical.byContradiction fun x => hk ?_
  unfold tk at h
  rw [if_neg x] at h
  exact h.symm
theorem jPM.mm {u : PE ⊕ Nat} (h : jPM m ad M0 S n t d u M) : ∃ s, jMM m ad M0 (va_up S.1 1 d, S.2.1, s, S.2.2.2) M ∧ jSt n t s u := by
  obtain ⟨s, h1, h2, h3⟩ := h
  exact ⟨s, h1, h3⟩
/-- a cell of the draft is written while it is read -/
theorem jP_st {β : Type} {Q : β → Mem → Prop} {p : jm_P β} {u : PE ⊕ Nat} (h : jPM m ad M0 S n t d u M) {i x : Int32} {j : Nat} (hi : jm_ix i 63 = some j) (kk : ∀ M1, jPM m ad M0 S n t (upd d j x) u M1 → jo p M1 Q) : jo (jm_wr (jm_stI 0 (some (ad 1)) i x) p) M Q := by
  obtain ⟨s, h1, h2, h3⟩ := h
  refine jM_stI h1 (k := 1) (.inr (.inl rfl)) rfl hi (fun M1 k1 => kk M1 ⟨s, ?_, h2, h3⟩)
  have e1 : (va_up S.1 1 d, S.2.1, s, S.2.2.2).1 1 = d := va_up_self S.1 1 d
  rw [e1] at k1
  have e2 : va_up (va_up S.1 1 d, S.2.1, s, S.2.2.2).1 1 (upd d j x) = va_up S.1 1 (upd d j x) := va_up2 S.1 1 d _
  rw [e2] at k1
  exact k1
theorem jP_ld {u : PE ⊕ Nat} (h : jPM m ad M0 S n t d u M) {i : Int32} {j : Nat} (hi : jm_ix i 63 = some j) : jm_ldI 0 (some (ad 1)) i M = some (d j) := by
  obtain ⟨s, h1, h2, h3⟩ := h
  have := jM_ldI h1 (k := 1) (kd := 0) (.inr (.inl rfl)) rfl hi
  rw [this]
  show some (va_up S.1 1 d 1 j) = _
  rw [va_up_self]
theorem jP_dr {u : PE ⊕ Nat} (h : jPM m ad M0 S n t d u M) : M.2.2 (ad 1) = some (.inl (0, 63, .inl d)) := by
  obtain ⟨s, h1, h2, h3⟩ := h
  have := jM_dr h1
  rw [show (va_up S.1 1 d, S.2.1, s, S.2.2.2).1 1 = d from va_up_self S.1 1 d] at this
  exact this
theorem jP_spells {u : PE ⊕ Nat} {b : Nat → Int32} {f k : Nat} {L : Nat → Int} (h : jPM m ad M0 S n t (jwd b f k L) u M) (hf : f < 4) (hk : k < 4) {x : Int} (hx : L k = x) : jo (jf_X1_spells N (some (ad 1)) (nI f) (iI x)) M (fun _ M' => jPM m ad M0 S n t (jwd b f (k + 1) L) u M') := by
  have e1 : jwd b f k L (22 + 6 * f) = nI k := by unfold jwd; rw [if_pos rfl]
  unfold jf_X1_spells
  refine jo_eq (jr_many (jP_dr h) (by decide) (by omega)) ?_
  rw [e1]
  have ex : (21 : Int32) + (6 : Int32) * nI f + (2 : Int32) + nI k = nI (23 + 6 * f + k) := by simp only [nI_lit, nI_mul, nI_add]; congr 1; omega
  have ey : (21 : Int32) + (6 : Int32) * nI f + (1 : Int32) = nI (22 + 6 * f) := by simp only [nI_lit, nI_mul, nI_add]; congr 1; omega
  rw [ex, ey]
  refine jP_st h (jm_ixn (j := 23 + 6 * f + k) (by omega) (by decide)) (fun M1 h1 => ?_)
  refine jo_rd (jP_ld h1 (jm_ixn (j := 22 + 6 * f) (by omega) (by decide))) ?_
  rw [upd_ne (by omega), e1, nI_1]
  refine jP_st h1 (jm_ixn (j := 22 + 6 * f) (by omega) (by decide)) (fun M2 h2 => jo_ret ?_)
  rw [jwd_up hx] at h2
  exact h2
theorem jm_letters (hT : jTp S n t) {b : Nat → Int32} (hb : jEdg C b) (hW : jWf C) {f i : Nat} (hf : f < 4) : ∀ (g k N' : Nat) (M : Mem), k + g = 6 → k ≤ 4 → g < N' → i + k ≤ n → wLs C (fun j => lb C (t (i + j))) k → jPM m ad M0 S n t (jwd b f k (fun j => lb C (t (i + j)))) (.inr (i + k)) M →
    jo (jm_it (fun _ => jf_X1_readsFace_L77 N m (nI f)) N' ()) M (fun _ M' => match pWord n t C i g k with
      | .inl e => ∃ d', jPM m ad M0 S n t d' (.inl e) M'
      | .inr k' => jPM m ad M0 S n t (jwd b f k' (fun j => lb C (t (i + j)))) (.inr (i + k')) M' ∧ k' ≤ 4 ∧ k ≤ k' ∧ wLs C (fun j => lb C (t (i + j))) k' ∧ tk n t (i + k') ≠ 1) := by
  intro g
  induction g with
  | zero => intro k N' M h1 h2; omega
  | succ g ih =>
    intro k N' M h1 h2 h3 h4 hL h
    generalize hLL : (fun j => lb C (t (i + j))) = L at hL h
    cases N' with
    | zero => omega
    | succ N' =>
      refine jo_its ?_
      obtain ⟨s, k1, k3⟩ := h.mm
      obtain ⟨g12, g8, g9, g10, g11, gp⟩ := k3
      have hm := mtk_le (n := n) (t := t) (i + k)
      by_cases c : tk n t (i + k) = 1
      · have cn := tk_lt c (by decide)
        have cm := (mtk_1 (i + k)).mpr c
        have hv : mvl n t (i + k) = ((t (i + k) : Nat) : Int) := if_pos cn
        have hLk : lb C (t (i + k)) = L k := by rw [← hLL]
        have rg := lb_rg hW (t (i + k))
        have b1 : (jf_X1_told N (some (ad 1)) (nI (t (i + k)))).1 M = some (iI (L k), M) := by
          rw [← hLk]
          exact jr_told (jP_dr h) (jEdg_wd hW hb) hW (hT.2.2 _ cn).2
        have b2 := jr_isNext (N := N) (jP_dr h) hb hW hf h2 hL (x := L k) (by rw [← hLk]; exact rg.1) (by rw [← hLk]; exact rg.2)
        by_cases c2 : wNx C L k (L k) = true
        · have hx := c2
          unfold wNx at hx
          have hx := of_decide_eq_true hx
          have hL1 : wLs C L (k + 1) := fun j hj => by
            by_cases e : j = k
            · subst e; exact ⟨hx.1, by rw [← hLk]; exact rg.1, by rw [← hLk]; exact rg.2⟩
            · exact hL j (by omega)
          have st : jo (jf_X1_readsFace_L77 N m (nI f)) M (fun x M' => x = .inl () ∧ jPM m ad M0 S n t (jwd b f (k + 1) L) (.inr (i + (k + 1))) M') := by
            unfold jf_X1_readsFace_L77 jf_X1_readsFace_j137
            refine jo_rd (jM_fI k1 (k := 12) rfl) (jo_t (show s 12 = nI 0 from g12) (jo_rd (jM_fI k1 (k := 10) rfl) (jo_t (show s 10 = nI 1 by rw [g10, cm]) ?_)))
            refine jo_rd (jM_fR k1 (k := 1) rfl) (jo_rd (jM_fIx k1 (k := 11) (x := nI (t (i + k))) rfl (by rw [nI_iI, ← hv]; exact g11)) (jo_eq b1 (jo_rd (jM_fR k1 (k := 1) rfl) (jo_eq b2 ?_))))
            refine jo_bI (fun q => absurd c2 q) (fun _ => ?_)
            refine jo_rd (jM_fR k1 (k := 1) rfl) (jo_bd (jo_mono (jP_spells h hf hx.2.1 rfl) ?_))
            intro _ M2 h5
            obtain ⟨s2, m1, m3⟩ := h5.mm
            refine jo_rd (jM_cl m1) (jo_bd (jo_mono (jm_goesOn hT h5) (fun _ M' k6 => jo_ret ⟨rfl, ?_⟩)))
            have k6 : jPM m ad M0 S n t (jwd b f (k + 1) L) (.inr (if i + k < n then i + k + 1 else i + k)) M' := k6
            rw [if_pos cn] at k6
            exact k6
          refine jo_mono st ?_
          rintro _ M2 ⟨rfl, k5⟩
          have := ih (k + 1) N' M2 (by omega) (by omega) (by omega) (by omega) (by rw [hLL]; exact hL1) (by rw [hLL]; exact k5)
          refine jo_mono this (fun _ M' q => ?_)
          unfold pWord
          rw [if_pos c, if_pos (by rw [hLL, hLk]; exact c2)]
          cases hp : pWord n t C i g (k + 1) with
          | inl e => rw [hp] at q; exact q
          | inr k' => rw [hp, hLL] at q; exact ⟨q.1, q.2.1, by omega, q.2.2.2⟩
        · have st : jo (jf_X1_readsFace_L77 N m (nI f)) M (fun x M' => x = .inl () ∧ jPM m ad M0 S n t (jwd b f k L) (.inl (2, i + k)) M') := by
            unfold jf_X1_readsFace_L77 jf_X1_readsFace_j137
            refine jo_rd (jM_fI k1 (k := 12) rfl) (jo_t (show s 12 = nI 0 from g12) (jo_rd (jM_fI k1 (k := 10) rfl) (jo_t (show s 10 = nI 1 by rw [g10, cm]) ?_)))
            refine jo_rd (jM_fR k1 (k := 1) rfl) (jo_rd (jM_fIx k1 (k := 11) (x := nI (t (i + k))) rfl (by rw [nI_iI, ← hv]; exact g11)) (jo_eq b1 (jo_rd (jM_fR k1 (k := 1) rfl) (jo_eq b2 ?_))))
            refine jo_bI (fun _ => ?_) (fun q => absurd q c2)
            exact jo_rd (jM_cl k1) (jo_bd (jo_mono (jmp_bad h (k := 2) (by decide)) (fun _ M' k6 => jo_ret ⟨rfl, k6⟩)))
          refine jo_mono st ?_
          rintro _ M2 ⟨rfl, k5⟩
          unfold pWord
          rw [if_pos c, if_neg (by rw [hLL, hLk]; exact c2)]
          cases N' with
          | zero => omega
          | succ N' =>
            obtain ⟨s2, m1, m3⟩ := k5.mm
            obtain ⟨q12, q13, q14, q15, q16⟩ := m3
            have st2 : (jf_X1_readsFace_L77 N m (nI f)).1 M2 = some (.inr (), M2) := by
              refine jo_out ?_
              unfold jf_X1_readsFace_L77
              exact jo_rd (jM_fI m1 (k := 12) rfl) (jo_f (show ¬ s2 12 = nI 0 by rw [q12]; show ¬ nI 2 = nI 0; decide +kernel) (jo_ret ⟨rfl, rfl⟩))
            exact jo_its (jo_of st2 ⟨_, k5⟩)
      · have st : (jf_X1_readsFace_L77 N m (nI f)).1 M = some (.inr (), M) := by
          refine jo_out ?_
          unfold jf_X1_readsFace_L77
          refine jo_rd (jM_fI k1 (k := 12) rfl) (jo_t (show s 12 = nI 0 from g12) (jo_rd (jM_fI k1 (k := 10) rfl) (jo_f (show ¬ s 10 = nI 1 by rw [g10, nI_eq (by omega) (by omega), mtk_1]; exact c) (jo_ret ⟨rfl, rfl⟩))))
        refine jo_of st ?_
        unfold pWord
        rw [if_neg c]
        refine ⟨h, h2, Nat.le_refl _, hL, c⟩
theorem jm_readsFace (hT : jTp S n t) (hd : jDr C d) {p : Nat} (hp : p < n) (hN : 100 < N) (h : jPM m ad M0 S n t d (.inr p) M) : jo (jf_X1_readsFace N m) M (fun _ M' => match pFace n t C p with
    | .inl e => ∃ d', jPM m ad M0 S n t d' (.inl e) M'
    | .inr x => ∃ d', jPM m ad M0 S n t d' (.inr x.2) M' ∧ jDr x.1 d') := by
  obtain ⟨hE, hz, hW, hP⟩ := hd
  have w1 := hW.1
  have w2 := hW.2.1
  have w3 := hW.2.2.1
  -- the end of a face: stop, and one face more
  have last : ∀ (M1 : Mem) (u : PE ⊕ Nat) (d1 : Nat → Int32), jPM m ad M0 S n t d1 u M1 → jo (jf_X1_readsFace_j170 N m) M1 (fun _ M' => jPM m ad M0 S n t (upd d1 2 (d1 2 + 1)) (uStop n t u) M') := by
    intro M1 u d1 k
    obtain ⟨s, k1, k3⟩ := k.mm
    unfold jf_X1_readsFace_j170
    refine jo_rd (jM_cl k1) (jo_bd (jo_mono (jm_stop hT k) ?_))
    intro _ M2 k
    obtain ⟨s, k1, k3⟩ := k.mm
    refine jo_rd (jM_fR k1 (k := 1) rfl) (jo_rd (jP_ld k (j := 2) (jm_ixn (j := 2) (by decide) (by decide))) ?_)
    exact jP_st k (j := 2) (jm_ixn (j := 2) (by decide) (by decide)) (fun M3 h3 => jo_ret h3)
  have lastF : ∀ (M1 : Mem) (e : PE) (d1 : Nat → Int32), jPM m ad M0 S n t d1 (.inl e) M1 → jo (jf_X1_readsFace_j170 N m) M1 (fun _ M' => ∃ d', jPM m ad M0 S n t d' (.inl e) M') := fun M1 e d1 k => jo_mono (last M1 (.inl e) d1 k) (fun _ M' q => ⟨_, q⟩)
  have k77F : ∀ (M1 : Mem) (e : PE) (d1 : Nat → Int32) (f : Nat), jPM m ad M0 S n t d1 (.inl e) M1 → jo (jf_X1_readsFace_k77_140 N m (nI f)) M1 (fun _ M' => ∃ d', jPM m ad M0 S n t d' (.inl e) M') := by
    intro M1 e d1 f k
    obtain ⟨s, k1, k3⟩ := k.mm
    obtain ⟨g12, g13, g14, g15, g16⟩ := k3
    unfold jf_X1_readsFace_k77_140
    exact jo_rd (jM_fI k1 (k := 12) rfl) (jo_f (show ¬ s 12 = nI 0 by rw [g12, nI_eq (by omega) (by omega)]; omega) (lastF M1 e d1 k))
  have j17F : ∀ (M1 : Mem) (e : PE) (f : Nat), jPM m ad M0 S n t d (.inl e) M1 → jo (jf_X1_readsFace_j17 N m (nI f)) M1 (fun _ M' => ∃ d', jPM m ad M0 S n t d' (.inl e) M') := by
    intro M1 e f k
    obtain ⟨s, k1, k3⟩ := k.mm
    unfold jf_X1_readsFace_j17
    refine jo_rd (jM_cl k1) (jo_bd (jo_mono (jm_goesOn hT k) ?_))
    intro _ M2 k
    have k : jPM m ad M0 S n t d (.inl e) M2 := k
    obtain ⟨s, k1, k3⟩ := k.mm
    refine jo_rd (jM_cl k1) (jo_bd (jo_mono (jm_digit hT k (lo := 1) (hi := 4) (by decide) (by decide)) ?_))
    rintro _ M3 ⟨rfl, k⟩
    have k : jPM m ad M0 S n t d (.inl e) M3 := k
    obtain ⟨s, k1, k3⟩ := k.mm
    obtain ⟨g12, g13, g14, g15, g16⟩ := k3
    exact jo_rd (jM_fIx k1 (k := 12) rfl g12) (jo_f (show ¬ nI e.1 ≤ nI 0 by rw [nI_leI (by omega) (by omega)]; omega) (jo_ret ⟨d, k⟩))
  have start := h
  obtain ⟨s, h1, h3⟩ := h.mm
  unfold jf_X1_readsFace
  refine jo_rd (jM_fR h1 (k := 1) rfl) (jo_rd (jP_ld h (j := 2) (jm_ixn (j := 2) (by decide) (by decide))) ?_)
  rw [hE.2.2.1]
  unfold pFace
  by_cases c4 : cF C = 4
  · rw [if_pos c4]
    refine jo_t (show nI (cF C) = nI 4 by rw [c4]) (jo_rd (jM_cl h1) (jo_bd (jo_mono (jmp_bad start (k := 3) (by decide)) ?_)))
    intro _ M2 k
    exact j17F M2 (3, p) _ k
  rw [if_neg c4]
  refine jo_f (show ¬ nI (cF C) = nI 4 by rw [nI_eq (by omega) (by omega)]; exact c4) ?_
  have hf4 : cF C < 4 := by omega
  unfold jf_X1_readsFace_j17
  refine jo_rd (jM_cl h1) (jo_bd (jo_mono (jm_goesOn hT start) ?_))
  intro _ M2 k
  have k : jPM m ad M0 S n t d (.inr (if p < n then p + 1 else p)) M2 := k
  rw [if_pos hp] at k
  obtain ⟨s, k1, k3⟩ := k.mm
  refine jo_rd (jM_cl k1) (jo_bd (jo_mono (jm_digit hT k (lo := 1) (hi := 4) (by decide) (by decide)) ?_))
  rintro _ M3 ⟨rfl, k⟩
  cases q1 : pDigit n t 1 4 (p + 1) with
  | inl e =>
    simp only [uDig, q1] at k ⊢
    obtain ⟨s, k1, k3⟩ := k.mm
    obtain ⟨g12, g13, g14, g15, g16⟩ := k3
    exact jo_rd (jM_fIx k1 (k := 12) rfl g12) (jo_f (show ¬ nI e.1 ≤ nI 0 by rw [nI_leI (by omega) (by omega)]; omega) (jo_ret ⟨d, k⟩))
  | inr w =>
    simp only [uDig, q1] at k ⊢
    have r1 := pDigit_rg q1
    obtain ⟨s, k1, k3⟩ := k.mm
    have ez : (21 : Int32) + (6 : Int32) * nI (cF C) = nI (21 + 6 * cF C) := by simp only [nI_lit, nI_mul, nI_add]
    have ey : nI (21 + 6 * cF C) + (1 : Int32) = nI (22 + 6 * cF C) := by rw [nI_1]; congr 1; omega
    rw [ez, ey]
    refine jo_rd (jM_fIx k1 (k := 12) rfl k3.1) (jo_t (show nI 0 ≤ nI 0 by decide +kernel) (jo_rd (jM_fR k1 (k := 1) rfl) ?_))
    refine jP_st k (jm_ixn (j := 21 + 6 * cF C) (by omega) (by decide)) (fun M4 k => ?_)
    obtain ⟨s, k1, k3⟩ := k.mm
    refine jo_rd (jM_fR k1 (k := 1) rfl) ?_
    refine jP_st k (jm_ixn (j := 22 + 6 * cF C) (by omega) (by decide)) (fun M5 k => ?_)
    generalize hbb : upd d (21 + 6 * cF C) (nI w) = b at k
    have hbE : jEdg C b := by
      rw [← hbb]
      refine ⟨?_, fun e q he hq => ?_⟩
      · rw [upd_ne (by omega)]; exact hE.2.1
      · rw [upd_ne (by omega)]; exact hE.2.2.2.1 e q he hq
    have k : jPM m ad M0 S n t (jwd b (cF C) 0 (fun j => lb C (t (p + 2 + j)))) (.inr (p + 1 + 1)) M5 := by
      rw [jwd_0]; exact k
    obtain ⟨s, k1, k3⟩ := k.mm
    obtain ⟨g12, g8, g9, g10, g11, gp⟩ := k3
    have hm := mtk_le (n := n) (t := t) (p + 1 + 1)
    refine jo_rd (jM_fI k1 (k := 10) rfl) ?_
    have iff := mtk_1 (n := n) (t := t) (p + 1 + 1)
    by_cases c1 : tk n t (p + 2) = 1
    · refine jo_t (show s 10 = nI 1 by rw [g10, iff.mpr c1]) ?_
      unfold jf_X1_readsFace_j77
      refine jo_bd (jo_mono (jm_letters hT hbE hW hf4 (i := p + 2) 6 0 N M5 rfl (by decide) (by omega) gp (fun j hj => absurd hj (Nat.not_lt_zero _)) k) ?_)
      intro _ M6 k6
      cases q2 : pWord n t C (p + 2) 6 0 with
      | inl e =>
        rw [q2] at k6
        obtain ⟨d', k6⟩ := k6
        exact k77F M6 e d' _ k6
      | inr k' =>
        rw [q2] at k6
        obtain ⟨k6, k7, k8, k9, k10⟩ := k6
        have k0 : k' ≠ 0 := fun x => by rw [x] at k10; exact k10 c1
        simp only [if_neg k0]
        obtain ⟨s, m1, m3⟩ := k6.mm
        unfold jf_X1_readsFace_k77_140
        refine jo_rd (jM_fI m1 (k := 12) rfl) (jo_t (show s 12 = nI 0 from m3.1) ?_)
        refine jo_rd (jM_cl m1) (jo_eq (jr_isStop m1 m3 (fun i hi => (hT.2.2 i hi).2)) ?_)
        refine jo_bI (fun c3 => ?_) (fun c3 => ?_)
        · rw [if_neg c3]
          refine jo_mono (last M6 _ _ k6) (fun _ M' q => ?_)
          have q : jPM m ad M0 S n t _ (if tk n t (p + 2 + k') = 3 then .inr (p + 2 + k' + 1) else .inl (1, p + 2 + k')) M' := q
          rw [if_neg c3] at q
          exact ⟨_, q⟩
        · rw [if_pos c3]
          refine jo_rd (jM_fR m1 (k := 1) rfl) (jo_eq (jr_isClosed (jP_dr k6) hbE hW hf4 k7 k9) ?_)
          refine jo_bI (fun c5 => ?_) (fun c5 => ?_)
          · rw [if_neg c5]
            refine jo_rd (jM_cl m1) (jo_bd (jo_mono (jmp_bad k6 (k := 2) (by decide)) ?_))
            intro _ M7 k11
            exact lastF M7 _ _ k11
          · rw [if_pos c5]
            refine jo_mono (last M6 _ _ k6) (fun _ M' q => ?_)
            have q : jPM m ad M0 S n t _ (if tk n t (p + 2 + k') = 3 then .inr (p + 2 + k' + 1) else .inl (1, p + 2 + k')) M' := q
            rw [if_pos c3, show p + 2 + k' + 1 = p + 3 + k' by omega] at q
            refine ⟨_, q, ?_, ?_, jWf_face hW hf4 ⟨r1.1, by omega⟩ ⟨by omega, k7⟩ k9, hP⟩
            · have := jEnc_face hW hE hf4 (w := w) (L := fun j => lb C (t (p + 2 + j))) k7
              have e2 : jwd b (cF C) k' (fun j => lb C (t (p + 2 + j))) 2 = nI (cF C) := by
                unfold jwd
                rw [if_neg (by omega), if_neg (by omega), ← hbb, upd_ne (by omega)]
                exact hE.2.2.1
              rw [e2, nI_1]
              have e3 : jwd b (cF C) k' (fun j => lb C (t (p + 2 + j))) = upd (jwd d (cF C) k' (fun j => lb C (t (p + 2 + j)))) (21 + 6 * cF C) (nI w) := by
                rw [← hbb]
                funext j
                unfold jwd upd
                dsimp only
                by_cases z1 : j = 22 + 6 * cF C
                · rw [if_pos z1, if_neg (by omega), if_pos z1]
                · rw [if_neg z1, if_neg z1]
                  by_cases z2 : 23 + 6 * cF C ≤ j ∧ j < 23 + 6 * cF C + k'
                  · rw [if_pos z2, if_pos z2, if_neg (by omega)]
                  · rw [if_neg z2, if_neg z2]
              rw [e3]
              exact this
            · intro j hj1 hj2
              rw [upd_ne (by omega)]
              unfold jwd
              rw [if_neg (by omega), if_neg (by omega), ← hbb, upd_ne (by omega)]
              exact hz j hj1 hj2
    · have q2 : pWord n t C (p + 2) 6 0 = .inr 0 := by
        unfold pWord
        rw [if_neg (by rw [Nat.add_zero]; exact c1)]
      rw [q2]
      simp only [if_true]
      refine jo_f (show ¬ s 10 = nI 1 by rw [g10, nI_eq (by omega) (by omega), iff]; exact c1) ?_
      refine jo_rd (jM_cl k1) (jo_bd (jo_mono (jmp_bad k (k := 1) (by decide)) ?_))
      intro _ M6 k6
      have k6 : jPM m ad M0 S n t (jwd b (cF C) 0 (fun j => lb C (t (p + 2 + j)))) (.inl (1, p + 2)) M6 := k6
      unfold jf_X1_readsFace_j77
      obtain ⟨s2, m1, m3⟩ := k6.mm
      obtain ⟨q12, q13, q14, q15, q16⟩ := m3
      have st2 : (jf_X1_readsFace_L77 N m (nI (cF C))).1 M6 = some (.inr (), M6) := by
        refine jo_out ?_
        unfold jf_X1_readsFace_L77
        exact jo_rd (jM_fI m1 (k := 12) rfl) (jo_f (show ¬ s2 12 = nI 0 by rw [q12]; show ¬ nI 1 = nI 0; decide +kernel) (jo_ret ⟨rfl, rfl⟩))
      have lp : jo (jm_it (fun _ => jf_X1_readsFace_L77 N m (nI (cF C))) N ()) M6 (fun _ M' => M' = M6) := by
        obtain ⟨N', rfl⟩ : ∃ N', N = N' + 1 := ⟨N - 1, by omega⟩
        exact ⟨(), M6, jm_bd_eq st2, rfl⟩
      refine jo_bd (jo_mono lp ?_)
      rintro _ M7 rfl
      exact k77F M7 (1, p + 2) _ _ k6
end PC
