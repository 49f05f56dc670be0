/-! PLAIN LAW, 44: face: the model -/
def sT0 (T : ST) : ST := (T.1, T.2.1, T.2.2.1, (0, sTape T), sFault T)
def tLt (T : ST) : Nat → Int := fun k => lb (sC T) (sTape T k)
def xFace (C : CX) (w n : Nat) (L : Nat → Int) : CX := (cP C, cE C, cF C + 1, cEd C, (fun f => if f = cF C then w else cFw C f), (fun f => if f = cF C then n else cFl C f), (fun f k => if f = cF C then L k else cLt C f k), cCh C)
def oFace (T : ST) (w : Int32) : Int32 × ST := if ¬ 0 < cP (sC T) then (STATE, sT0 T) else if ¬ (1 ≤ w.toInt ∧ w.toInt ≤ 3) ∨ ¬ wOk (sC T) (tLt T) (sTaped T) = true then (BAD, sT0 T) else if cF (sC T) = 4 then (FULL, sT0 T) else (nI (cF (sC T)), sPush (sT0 T) (xFace (sC T) (tn w) (sTaped T) (tLt T)))
section FC
variable {N m a n : Nat} {ad : Nat → Nat} {M0 M : Mem} {S : MS} {C : CX} {T : ST} {b : Nat → Int32}
theorem jwd_0 {f : Nat} {L : Nat → Int} : jwd b f 0 L = upd b (22 + 6 * f) (nI 0) := by
  funext j
  unfold jwd upd
  by_cases c : j = 22 + 6 * f
  · rw [if_pos c, if_pos c]
  · rw [if_neg c, if_neg c, if_neg (by omega)]
theorem jMM.dr0 (h : jMM m ad M0 S M) : jMM m ad M0 (va_up S.1 1 (S.1 1), S.2) M := by
  have e : va_up S.1 1 (S.1 1) = S.1 := by funext j; unfold va_up; split <;> simp_all
  rw [e]
  exact h
theorem jm_isWord {f : Nat} (h : jMM m ad M0 (va_up S.1 1 b, S.2) M) (hb : jEdg C b) (hW : jWf C) (hf : f < 4) (hN : 1000 < N) (hn : n ≤ 90) (hU : S.2.2.1 7 = nI n) {t : Nat → Nat} (ht : ∀ i, i < n → S.1 6 i = nI (t i) ∧ t i < 256) :
    jo (jf_X1_isWord N m (nI f)) M (fun r M' => r = bI (wOk C (fun k => lb C (t k)) n = true) ∧ ∃ b', jMM m ad M0 (va_up S.1 1 b', S.2) M' ∧ (wOk C (fun k => lb C (t k)) n = true → b' = jwd b f n (fun k => lb C (t k)))) := by
  generalize hL : (fun k => lb C (t k)) = L
  have hLk : ∀ k, L k = lb C (t k) := fun k => by rw [← hL]
  have h6 := hW.2.1
  unfold jf_X1_isWord
  have ey : (21 : Int32) + (6 : Int32) * nI f + (1 : Int32) = nI (22 + 6 * f) := by simp only [nI_lit, nI_mul, nI_add]; congr 1; omega
  refine jo_rd (jM_fR h (k := 1) rfl) ?_
  rw [ey]
  refine jM_stI h (k := 1) (.inr (.inl rfl)) rfl (j := 22 + 6 * f) (jm_ixn (by show _ < 63; omega) (by decide)) (fun M1 h1 => ?_)
  have h1 := h1.dr2
  rw [va_dr, show upd b (22 + 6 * f) (0 : Int32) = jwd b f 0 L from jwd_0.symm] at h1
  refine jo_rd (jM_fI h1 (k := 7) rfl) ?_
  have hU1 : ∀ (g : Nat → Int32), (va_up S.1 1 g, S.2).2.2.1 7 = nI n := fun _ => hU
  rw [hU1]
  refine jo_eq (in32 (a := 1) (b := 4) rfl rfl) ?_
  rw [nI_toInt (by omega)]
  have h2t : ∀ (g : Nat → Int32) i, i < n → (va_up S.1 1 g, S.2).1 6 i = nI (t i) := fun g i hi => by
    show va_up S.1 1 g 6 i = _
    rw [va_up_ne _ _ (by decide)]
    exact (ht i hi).1
  by_cases c0 : 1 ≤ n ∧ n ≤ 4
  · rw [bI_t (show (1 : Int) ≤ n ∧ (n : Int) ≤ 4 by omega)]
    refine jo_bd (jo_mono (jo_up n (fun i z M' => ∃ b', jMM m ad M0 (va_up S.1 1 b', S.2) M' ∧ z = (bI (jall i (fun k => wNx C L k (L k)) = true), nI i) ∧ (jall i (fun k => wNx C L k (L k)) = true → b' = jwd b f i L)) (fun r M' => r = bI (jall n (fun k => wNx C L k (L k)) = true) ∧ ∃ b', jMM m ad M0 (va_up S.1 1 b', S.2) M' ∧ (jall n (fun k => wNx C L k (L k)) = true → b' = jwd b f n L)) ?_ ?_ N 0 _ M1 ⟨_, h1, rfl, fun _ => rfl⟩ (Nat.zero_le _) (by omega)) ?_)
    · rintro i z M' hi ⟨b', k1, rfl, k2⟩
      unfold jf_X1_isWord_L30 jf_X1_isWord_j82
      refine jo_rd (jM_fI k1 (k := 7) rfl) ?_
      rw [hU1]
      refine jo_f (show ¬ nI n ≤ nI i by rw [nI_leI (by omega) (by omega)]; omega) ?_
      refine jo_bI (c := jall i (fun k => wNx C L k (L k)) = true) (fun g => ?_) (fun g => ?_)
      · have gn : ¬ jall n (fun k => wNx C L k (L k)) = true := fun x => g (jall_iff.mpr (fun k hk => jall_iff.mp x k (by omega)))
        refine jo_ret ⟨?_, b', k1, fun x => absurd x gn⟩
        show bI _ = bI _
        rw [bI_f g, bI_f gn]
      · have k2 := k2 g
        subst k2
        have hd := jM_dr k1
        rw [va_dr] at hd
        have hls : wLs C L i := fun k hk => by
          have := jall_iff.mp g k hk
          unfold wNx at this
          have := of_decide_eq_true this
          rw [hLk k] at this ⊢
          exact ⟨this.1, lb_rg hW _⟩
        refine jo_rd (jM_fR k1 (k := 1) rfl) (jo_rd (jM_fR k1 (k := 6) rfl) ?_)
        refine jo_rd (jM_ldI k1 (k := 6) (.inr (.inr (.inr (.inr (.inr rfl))))) rfl (j := i) (jm_ixn (by show _ < 90; omega) (by decide))) ?_
        rw [h2t _ _ hi]
        refine jo_eq (jr_told hd (jEdg_wd hW hb) hW (ht i hi).2) ?_
        rw [← hLk i]
        have hrg := lb_rg hW (t i)
        rw [← hLk i] at hrg
        refine jo_rd (jM_fR k1 (k := 1) rfl) (jo_eq (jr_isNext hd hb hW hf (by omega) hls hrg.1 hrg.2) ?_)
        refine jo_bI (c := wNx C L i (L i) = true) (fun g2 => ?_) (fun g2 => ?_)
        · have gn : ¬ jall (i + 1) (fun k => wNx C L k (L k)) = true := fun x => g2 (jall_iff.mp x i (Nat.lt_succ_self i))
          refine jo_ret ⟨_, k1, ?_, fun x => absurd x gn⟩
          show (bI _, nI i + 1) = _
          rw [nI_1, bI_f g2, bI_f gn]
        · have gp : jall (i + 1) (fun k => wNx C L k (L k)) = true := by
            show (jall i _ && _) = true
            rw [g]; show (true && wNx C L i (L i)) = true; rw [g2]; rfl
          refine jo_rd (jM_fR k1 (k := 1) rfl) (jo_bd (jo_mono (jm_spells k1 hf (by omega) rfl) ?_))
          intro _ M2 k3
          refine jo_ret ⟨_, k3, ?_, fun _ => rfl⟩
          show (bI _, nI i + 1) = _
          rw [nI_1, bI_t g2, bI_t gp]
    · rintro z M' ⟨b', k1, rfl, k2⟩
      unfold jf_X1_isWord_L30
      refine jo_rd (jM_fI k1 (k := 7) rfl) ?_
      rw [hU1]
      exact jo_t (show nI n ≤ nI n by rw [nI_leI (by omega) (by omega)]; omega) (jo_ret ⟨rfl, b', k1, k2⟩)
    · rintro r M' ⟨rfl, b', k1, k2⟩
      unfold jf_X1_isWord_k30_88
      refine jo_bI (fun g => ?_) (fun g => ?_)
      · have gn : ¬ wOk C L n = true := by
          unfold wOk
          simp only [Bool.and_eq_true]
          exact fun x => g x.1.2
        exact jo_ret ⟨(bI_f gn).symm, b', k1, fun x => absurd x gn⟩
      · have k2 := k2 g
        subst k2
        have hd := jM_dr k1
        rw [va_dr] at hd
        have hls : wLs C L n := fun k hk => by
          have := jall_iff.mp g k hk
          unfold wNx at this
          have := of_decide_eq_true this
          rw [hLk k] at this ⊢
          exact ⟨this.1, lb_rg hW _⟩
        refine jo_rd (jM_fR k1 (k := 1) rfl) (jo_eq (jr_isClosed hd hb hW hf (by omega) hls) ?_)
        have eq : wOk C L n = true ↔ wCl C L n = true := by
          unfold wOk
          simp only [Bool.and_eq_true, g, decide_eq_true_eq]
          exact ⟨fun x => x.2, fun x => ⟨⟨c0, trivial⟩, x⟩⟩
        refine jo_bI (fun g2 => jo_ret ⟨(bI_f (fun x => g2 (eq.mp x))).symm, _, k1, fun _ => rfl⟩) (fun g2 => jo_ret ⟨(bI_t (eq.mpr g2)).symm, _, k1, fun _ => rfl⟩)
  · have gn : ¬ wOk C L n = true := by
      unfold wOk
      simp only [Bool.and_eq_true, decide_eq_true_eq]
      exact fun x => c0 x.1.1
    rw [bI_f (show ¬ ((1 : Int) ≤ n ∧ (n : Int) ≤ 4) by omega), bI_f gn]
    have l : jo (jm_it (fun z => jf_X1_isWord_L30 N m (nI f) z.1 z.2) N (0, (0 : Int32))) M1 (fun r M' => r = 0 ∧ M' = M1) := by
      cases N with
      | zero => omega
      | succ N =>
        refine ⟨0, M1, ?_, rfl, rfl⟩
        have e : (jf_X1_isWord_L30 (N + 1) m (nI f) 0 (0 : Int32)).1 M1 = some (.inr 0, M1) := by
          refine jo_out ?_
          unfold jf_X1_isWord_L30
          refine jo_rd (jM_fI h1 (k := 7) rfl) ?_
          by_cases q : (va_up S.1 1 (jwd b f 0 L), S.2).2.2.1 7 ≤ 0
          · exact jo_t q (jo_ret ⟨rfl, rfl⟩)
          · exact jo_f q (jo_t rfl (jo_ret ⟨rfl, rfl⟩))
        exact jm_bd_eq e
    refine jo_bd (jo_mono l ?_)
    rintro _ M2 ⟨rfl, rfl⟩
    unfold jf_X1_isWord_k30_88
    exact jo_t rfl (jo_ret ⟨rfl, _, h1, fun x => absurd x gn⟩)
theorem jEnc_face {b : Nat → Int32} (hW : jWf C) (h : jEnc C b) (hF : cF C < 4) {w n : Nat} {L : Nat → Int} (hn : n ≤ 4) : jEnc (xFace C w n L) (upd (upd (jwd b (cF C) n L) (21 + 6 * cF C) (nI w)) 2 (nI (cF C + 1))) := by
  obtain ⟨x0, x1, x2, x3, x4, x5⟩ := h
  have w1 := hW.2.1
  have lo : ∀ j, j < 22 + 6 * cF C → jwd b (cF C) n L j = b j := fun j hj => by unfold jwd; rw [if_neg (by omega), if_neg (by omega)]
  have hi : ∀ j, 27 + 6 * cF C ≤ j → jwd b (cF C) n L j = b j := fun j hj => by unfold jwd; rw [if_neg (by omega), if_neg (by omega)]
  refine ⟨?_, ?_, ?_, fun x q hx hq => ?_, fun f hf => ?_, fun c x hc hx => ?_⟩
  · rw [upd_ne (by decide), upd_ne (by omega), lo 0 (by omega)]; exact x0
  · rw [upd_ne (by decide), upd_ne (by omega), lo 1 (by omega)]; exact x1
  · rw [upd_self]; rfl
  · have hx : x < cE C := hx
    rw [upd_ne (by omega), upd_ne (by omega), lo _ (by omega)]; exact x3 x q hx hq
  · have hf : f < cF C + 1 := hf
    show _ = nI (if f = cF C then w else cFw C f) ∧ _ = nI (if f = cF C then n else cFl C f) ∧ ∀ k, k < (if f = cF C then n else cFl C f) → _ = iI (if f = cF C then L k else cLt C f k)
    by_cases c : f = cF C
    · rw [if_pos c, if_pos c]
      refine ⟨?_, ?_, fun k hk => ?_⟩
      · rw [upd_ne (by omega), c, upd_self]
      · rw [upd_ne (by omega), upd_ne (by omega), c]; unfold jwd; rw [if_pos rfl]
      · rw [if_pos c, upd_ne (by omega), upd_ne (by omega), c]
        unfold jwd
        rw [if_neg (by omega), if_pos (by omega), Nat.add_sub_cancel_left]
    · rw [if_neg c, if_neg c]
      have y := x4 f (by omega)
      have z := hW.2.2.2.2.1 f (by omega)
      refine ⟨?_, ?_, fun k hk => ?_⟩
      · rw [upd_ne (by omega), upd_ne (by omega), lo _ (by omega)]; exact y.1
      · rw [upd_ne (by omega), upd_ne (by omega), lo _ (by omega)]; exact y.2.1
      · rw [if_neg c, upd_ne (by omega), upd_ne (by omega), lo _ (by omega)]; exact y.2.2 k hk
  · have hx : x < cE C := hx
    rw [upd_ne (by omega), upd_ne (by omega), hi _ (by omega)]; exact x5 c x hc hx
theorem jRM_0 (h : jRM T S) : jRM (sT0 T) (S.1, S.2.1, va_up S.2.2.1 7 (0 : Int32), S.2.2.2) := by
  obtain ⟨hC, hA, hP, hI, hU, hTp, hF⟩ := h
  refine ⟨hC, ?_, hP, hI, va_up_self S.2.2.1 7 (0 : Int32), fun i hi => absurd hi (Nat.not_lt_zero _), ?_⟩
  · show va_up S.2.2.1 7 (0 : Int32) 3 = nI (sActs T)
    rw [va_up_ne _ _ (by decide)]; exact hA
  · show va_up S.2.2.1 7 (0 : Int32) 14 = nI (sFault T)
    rw [va_up_ne _ _ (by decide)]; exact hF
theorem jRM_dr {f : Nat → Int32} (h : jRM T S) : jRM T (va_up S.1 1 f, S.2) := by
  obtain ⟨hC, hA, hP, hI, hU, hTp, hF⟩ := h
  have e : ∀ k, k ≠ 1 → va_up S.1 1 f k = S.1 k := fun k hk => va_up_ne _ _ hk
  refine ⟨?_, hA, fun i hi => ?_, fun k hk => ?_, hU, fun i hi => ?_, hF⟩
  · show jEnc _ (va_up S.1 1 f 0); rw [e 0 (by decide)]; exact hC
  · show jEnc _ (fun j => va_up S.1 1 f 2 _); rw [e 2 (by decide)]; exact hP i hi
  · show va_up S.1 1 f 5 k = _ ∧ ∀ C, _ → jEnc C (fun j => va_up S.1 1 f 4 _); rw [e 5 (by decide), e 4 (by decide)]; exact hI k hk
  · show va_up S.1 1 f 6 i = _; rw [e 6 (by decide)]; exact hTp i hi
theorem jWfS_0 (h : jWfS T) : jWfS (sT0 T) := ⟨h.1, h.2.1, h.2.2.1, h.2.2.2.1, h.2.2.2.2.1, Nat.zero_le _, fun i hi => absurd hi (Nat.not_lt_zero _), h.2.2.2.2.2.2.2⟩
theorem jm_face (h : jMM m ad M0 S M) (hT : jRM T S) (hW : jWfS T) (hN : 1000 < N) {w : Int32} : jo (jf_X1_face N m w) M (jOM m ad M0 (oFace T w)) := by
  have hT0 := hT
  obtain ⟨hC, hA, hP, hI, hU, hTp, hFt⟩ := hT
  have w1 := hW.1
  have w2 := w1.2.1
  have w3 := w1.2.2.1
  unfold jf_X1_face
  refine jo_rd (jM_fR h (k := 0) rfl) (jo_rd (jM_fR h (k := 1) rfl) ?_)
  refine jo_bd (jo_mono (jr_copies (k1 := 0) (k2 := 1) (a := 0) (b := 0) h (by omega) (.inl rfl) (.inr (.inl rfl)) (by decide) rfl rfl (by decide) (by decide) (by decide) (by decide)) ?_)
  intro _ M1 h1
  generalize hb : jcp (S.1 0) (S.1 1) 0 0 63 = b at h1
  have hbe : jEnc (sC T) b := by
    rw [← hb]
    refine jEnc_cg w1 hC (fun j hj => ?_)
    unfold jcp
    rw [if_pos (by omega), Nat.sub_zero, Nat.zero_add]
  have hT1 : jRM T (va_up S.1 1 b, S.2) := jRM_dr hT0
  -- behind the word
  have last : ∀ (M2 : Mem) (f : Nat) (b' : Nat → Int32) (is : Bool), f = (if cF (sC T) = 4 then 0 else cF (sC T)) → jMM m ad M0 (va_up S.1 1 b', S.2) M2 → (is = true ↔ 0 < cP (sC T) ∧ wOk (sC T) (tLt T) (sTaped T) = true) → (is = true → b' = jwd b f (sTaped T) (tLt T)) → jo (jf_X1_face_j54 N m w (nI f) (bI (is = true))) M2 (jOM m ad M0 (oFace T w)) := by
    intro M2 f b' is hf k1 k2 k3
    have hT2 : jRM T (va_up S.1 1 b', S.2) := jRM_dr hT0
    unfold jf_X1_face_j54 oFace
    refine jM_puI k1 (by decide) rfl (fun M3 k4 => ?_)
    have hT3 := jRM_0 hT2
    refine jo_rd (jM_cl k4) (jo_eq (jr_isComplex k4 hT3.1 w1) ?_)
    refine jo_bI (fun c1 => jo_ret (jOM.same k4 hT3 (if_pos c1))) (fun c1 => ?_)
    have c1 : 0 < cP (sC T) := c1
    rw [if_neg (show ¬ ¬ 0 < cP (sC T) from fun y => y c1)]
    refine jo_eq (in32 (a := 1) (b := 3) rfl rfl) ?_
    refine jo_bI (fun c2 => jo_ret (jOM.same k4 hT3 (if_pos (.inl c2)))) (fun c2 => ?_)
    refine jo_bI (fun c3 => jo_ret (jOM.same k4 hT3 (if_pos (.inr (fun x => c3 (k2.mpr ⟨c1, x⟩)))))) (fun c3 => ?_)
    have c4 := (k2.mp c3).2
    rw [if_neg (show ¬ (¬ (1 ≤ w.toInt ∧ w.toInt ≤ 3) ∨ ¬ wOk (sC T) (tLt T) (sTaped T) = true) from fun y => y.elim (fun z => z c2) (fun z => z c4))]
    have k3 := k3 c3
    refine jo_rd (jM_fR k4 (k := 0) rfl) (jo_rd (jr_now2 k4 hT3.1 rfl) ?_)
    by_cases c5 : cF (sC T) = 4
    · rw [if_pos c5]
      exact jo_t (show nI (cF (sC T)) = nI 4 by rw [c5]) (jo_ret (jOM.same k4 hT3 rfl))
    rw [if_neg c5]
    rw [if_neg c5] at hf
    subst hf
    refine jo_f (show ¬ nI (cF (sC T)) = nI 4 by rw [nI_eq (by omega) (by omega)]; exact c5) ?_
    refine jo_rd (jM_cl k4) (jo_bd (jo_mono (jr_notes k4 hT3 (jWfS_0 hW) hN) ?_))
    rintro _ M4 ⟨S1, g1, g2, g3, g4⟩
    have hC1 : jEnc (sC T) (S1.1 0) := by rw [g3]; exact hT3.1
    have hbase := g2 (sC T) hT3.1
    have hn4 : sTaped T ≤ 4 := by
      unfold wOk at c4
      simp only [Bool.and_eq_true, decide_eq_true_eq] at c4
      exact c4.1.1.2
    have g5 : S1.1 1 = jwd b (cF (sC T)) (sTaped T) (tLt T) := by
      rw [g4, ← k3]
      exact va_dr S b'
    refine jo_rd (jM_fR g1 (k := 1) rfl) (jo_rd (jM_fR g1 (k := 0) rfl) ?_)
    refine jo_bd (jo_mono (jr_copies (k1 := 1) (k2 := 0) (a := 0) (b := 0) g1 (by omega) (.inr (.inl rfl)) (.inl rfl) (by decide) rfl rfl (by decide) (by decide) (by decide) (by decide)) ?_)
    intro _ M5 k5
    generalize hd : jcp (S1.1 1) (S1.1 0) 0 0 63 = d at k5
    obtain ⟨w', q1, rfl, q3⟩ := n_of (n := 3) (by omega) c2.2 (by decide)
    rw [tn_nI (by omega)]
    have ez : (21 : Int32) + (6 : Int32) * nI (cF (sC T)) = nI (21 + 6 * cF (sC T)) := by simp only [nI_lit, nI_mul, nI_add]
    refine jo_rd (jM_fR k5 (k := 0) rfl) ?_
    rw [ez]
    refine jM_stI k5 (k := 0) (.inl rfl) rfl (j := 21 + 6 * cF (sC T)) (jm_ixn (by show _ < 63; omega) (by decide)) (fun M6 k6 => ?_)
    have k6 := k6.now2
    rw [va_now] at k6
    have d2 : d 2 = nI (cF (sC T)) := by
      rw [← hd]
      unfold jcp
      rw [if_pos (by omega), g5]
      unfold jwd
      rw [if_neg (by omega), if_neg (by omega)]
      exact hbe.2.2.1
    refine jo_rd (jM_fR k6 (k := 0) rfl) (jo_rd (jM_ldI k6 (k := 0) (.inl rfl) rfl (j := 2) (jm_ixn (by decide) (by decide))) ?_)
    rw [va_now, upd_ne (by omega), d2, nI_1]
    refine jM_stI k6 (k := 0) (.inl rfl) rfl (j := 2) (jm_ixn (by decide) (by decide)) (fun M7 k7 => jo_ret ⟨rfl, _, k7.now2, ?_⟩)
    rw [va_now]
    refine jRM_now hbase ?_
    have e := jEnc_face w1 hbe (by omega) hn4 (w := w') (L := tLt T)
    obtain ⟨x0, x1, x2, x3, x4, x5⟩ := e
    have ag : ∀ j, j < 63 → upd (upd d (21 + 6 * cF (sC T)) (nI w')) 2 (nI (cF (sC T) + 1)) j = upd (upd (jwd b (cF (sC T)) (sTaped T) (tLt T)) (21 + 6 * cF (sC T)) (nI w')) 2 (nI (cF (sC T) + 1)) j := by
      intro j hj
      unfold upd
      by_cases y1 : j = 2
      · rw [if_pos y1, if_pos y1]
      · rw [if_neg y1, if_neg y1]
        by_cases y2 : j = 21 + 6 * cF (sC T)
        · rw [if_pos y2, if_pos y2]
        · rw [if_neg y2, if_neg y2, ← hd, ← g5]
          unfold jcp
          rw [if_pos (by omega), Nat.sub_zero, Nat.zero_add]
    have hF1 : cF (xFace (sC T) w' (sTaped T) (tLt T)) = cF (sC T) + 1 := rfl
    have hE1 : cE (xFace (sC T) w' (sTaped T) (tLt T)) = cE (sC T) := rfl
    refine ⟨by rw [ag 0 (by omega)]; exact x0, by rw [ag 1 (by omega)]; exact x1, by rw [ag 2 (by omega)]; exact x2, fun x q hx hq => by rw [ag _ (by omega)]; exact x3 x q hx hq, fun f hf => ⟨by rw [ag _ (by omega)]; exact (x4 f hf).1, by rw [ag _ (by omega)]; exact (x4 f hf).2.1, fun k hk => ?_⟩, fun c x hc hx => by rw [ag _ (by omega)]; exact x5 c x hc hx⟩
    have hk4 : k < 4 := by
      have hk : k < (if f = cF (sC T) then sTaped T else cFl (sC T) f) := hk
      by_cases y : f = cF (sC T)
      · rw [if_pos y] at hk; omega
      · rw [if_neg y] at hk
        have := (w1.2.2.2.2.1 f (by omega)).2.2.2.1
        omega
    rw [ag _ (by omega)]
    exact (x4 f hf).2.2 k hk
  have mid : ∀ f, f = (if cF (sC T) = 4 then 0 else cF (sC T)) → jo (jf_X1_face_j33 N m w (nI f)) M1 (jOM m ad M0 (oFace T w)) := by
    intro f hf
    have hf4 : f < 4 := by rw [hf]; split <;> omega
    unfold jf_X1_face_j33 jf_X1_face_j53
    refine jo_rd (jM_cl h1) (jo_eq (jr_isComplex h1 hT1.1 w1) ?_)
    refine jo_bI (fun c1 => ?_) (fun c1 => ?_)
    · exact last M1 f b false hf h1 ⟨fun x => (by cases x), fun x => absurd x.1 c1⟩ (fun x => (by cases x))
    · refine jo_rd (jM_cl h1) (jo_bd (jo_mono (jm_isWord (C := sC T) (t := sTape T) (n := sTaped T) h1 hbe.edg w1 hf4 hN hW.2.2.2.2.2.1 hU (fun i hi => ⟨hTp i hi, hW.2.2.2.2.2.2.1 i hi⟩)) ?_))
      rintro _ M2 ⟨rfl, b', k1, k2⟩
      refine jo_bI (fun c2 => ?_) (fun c2 => ?_)
      · exact last M2 f b' false hf k1 ⟨fun x => (by cases x), fun x => absurd x.2 c2⟩ (fun x => (by cases x))
      · exact last M2 f b' true hf k1 ⟨fun _ => ⟨c1, c2⟩, fun _ => rfl⟩ (fun _ => k2 c2)
  refine jo_rd (jM_fR h1 (k := 0) rfl) (jo_rd (jr_now2 h1 hT1.1 rfl) ?_)
  by_cases c5 : cF (sC T) = 4
  · exact jo_t (show nI (cF (sC T)) = nI 4 by rw [c5]) (mid 0 (by rw [if_pos c5]))
  · refine jo_f (show ¬ nI (cF (sC T)) = nI 4 by rw [nI_eq (by omega) (by omega)]; exact c5) ?_
    exact jo_rd (jM_fR h1 (k := 0) rfl) (jo_rd (jr_now2 h1 hT1.1 rfl) (mid _ (by rw [if_neg c5])))
end FC
