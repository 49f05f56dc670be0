/-! PLAIN LAW, 38: undo, images, feed, put, weigh: the model -/
def STATE : Int32 := -1000002
def FULL : Int32 := -1000003
def oUndo (T : ST) : Int32 × ST := if sActs T = 0 then (STATE, T) else (nI (sActs T - 1), (sPast T (sActs T - 1), (sActs T - 1, sPast T), T.2.2))
def oImage (T : ST) (k : Int32) : Int32 × ST := if ¬ (0 ≤ k.toInt ∧ k.toInt ≤ 1) then (BAD, T) else if ¬ 0 < cP (sC T) then (STATE, T) else (1, (T.1, T.2.1, va_up (sImg T) (tn k) (some (sC T)), T.2.2.2))
def oRestore (T : ST) (k : Int32) : Int32 × ST := if ¬ (0 ≤ k.toInt ∧ k.toInt ≤ 1) then (BAD, T) else match sImg T (tn k) with
  | none => (STATE, T)
  | some C => (1, (C, (0, sPast T), T.2.2))
def oFeed (T : ST) (x : Int32) : Int32 × ST := if ¬ (0 ≤ x.toInt ∧ x.toInt ≤ 255) then (BAD, T) else if sTaped T = 90 then (FULL, T) else (nI (sTaped T + 1), (T.1, T.2.1, sImg T, (sTaped T + 1, va_up (sTape T) (sTaped T) (tn x)), sFault T))
/-- a chain's number is laid anew -/
def xCh (C : CX) (g : Nat → Nat → Int) : CX := (cP C, cE C, cF C, cEd C, cFw C, cFl C, cLt C, g)
def xPut (C : CX) (c e : Nat) (v : Int) : CX := xCh C (fun c' e' => if c' = c ∧ e' = e then v else cCh C c' e')
def oPut (T : ST) (c e v : Int32) : Int32 × ST := if ¬ cIsChain (sC T) c ∨ ¬ cIsCell (sC T) 1 e ∨ ¬ (-9 ≤ v.toInt ∧ v.toInt ≤ 9) then (BAD, T) else (iI (cCh (sC T) (tn c) (tn e)), sPush T (xPut (sC T) (tn c) (tn e) v.toInt))
def xWgE (C : CX) (k w : Nat) : CX := (cP C, cE C, cF C, (fun e q => if e = k ∧ q = 2 then w else cEd C e q), cFw C, cFl C, cLt C, cCh C)
def xWgF (C : CX) (k w : Nat) : CX := (cP C, cE C, cF C, cEd C, (fun f => if f = k then w else cFw C f), cFl C, cLt C, cCh C)
def oWeigh (T : ST) (d k w : Int32) : Int32 × ST := if d = 0 ∨ ¬ cIsCell (sC T) d k ∨ ¬ (1 ≤ w.toInt ∧ w.toInt ≤ 3) then (BAD, T) else (nI (cWt (sC T) (tn d) (tn k)), sPush T (if d = 1 then xWgE (sC T) (tn k) (tn w) else xWgF (sC T) (tn k) (tn w)))
theorem upd_ne {f : Nat → Int32} {k j : Nat} {x : Int32} (h : j ≠ k) : upd f k x j = f j := if_neg h
theorem upd_self {f : Nat → Int32} {k : Nat} {x : Int32} : upd f k x k = x := if_pos rfl
theorem jRM_now {C C' : CX} {R : (Nat × (Nat → CX)) × (Nat → Option CX) × (Nat × (Nat → Nat)) × Nat} {S : MS} {f : Nat → Int32} (h : jRM (C, R) S) (hC : jEnc C' f) : jRM (C', R) (va_up S.1 0 f, S.2) := by
  obtain ⟨h1, h2, h3, h4, h5, h6, h7⟩ := h
  refine ⟨?_, h2, fun i hi => ?_, fun k hk => ⟨?_, fun C hC => ?_⟩, h5, fun i hi => ?_, h7⟩
  · show jEnc C' (va_up S.1 0 f 0)
    rw [va_up_self]
    exact hC
  · show jEnc _ (fun j => va_up S.1 0 f 2 _)
    rw [va_up_ne _ _ (by decide)]
    exact h3 i hi
  · show va_up S.1 0 f 5 k = _
    rw [va_up_ne _ _ (by decide)]
    exact (h4 k hk).1
  · show jEnc _ (fun j => va_up S.1 0 f 4 _)
    rw [va_up_ne _ _ (by decide)]
    exact (h4 k hk).2 C hC
  · show va_up S.1 0 f 6 i = _
    rw [va_up_ne _ _ (by decide)]
    exact h6 i hi
section ED
variable {N m a n : Nat} {ad : Nat → Nat} {M0 M : Mem} {S : MS} {C : CX} {T : ST}
/-- what an operation of the model is: it answers, and the model's state is the abstract one -/
def jOM (m : Nat) (ad : Nat → Nat) (M0 : Mem) (o : Int32 × ST) (r : Int32) (M' : Mem) : Prop := r = o.1 ∧ ∃ S', jMM m ad M0 S' M' ∧ jRM o.2 S'
theorem jOM.same (h : jMM m ad M0 S M) (hT : jRM T S) {r : Int32} {o : Int32 × ST} (e : o = (r, T)) : jOM m ad M0 o r M := by subst e; exact ⟨rfl, S, h, hT⟩
theorem jm_undo (h : jMM m ad M0 S M) (hT : jRM T S) (hW : jWfS T) (hN : 1000 < N) : jo (jf_X1_undo N m) M (jOM m ad M0 (oUndo T)) := by
  have hT0 := hT
  obtain ⟨hC, hA, hP, hI, hU, hTp, hF⟩ := hT
  obtain ⟨w1, w2, w3, w4, w5, w6, w7, w8⟩ := hW
  unfold jf_X1_undo oUndo
  refine jo_rd (jM_fI h (k := 3) rfl) ?_
  rw [hA]
  by_cases c : sActs T = 0
  · rw [if_pos c]
    exact jo_t (show nI (sActs T) = nI 0 by rw [c]) (jo_ret (jOM.same h hT0 rfl))
  rw [if_neg c]
  refine jo_f (show ¬ nI (sActs T) = nI 0 by rw [nI_eq (by omega) (by omega)]; exact c) ?_
  refine jo_rd (jM_fI h (k := 3) rfl) ?_
  rw [hA, show nI (sActs T) - (1 : Int32) = nI (sActs T - 1) from nI_sub (b := 1) (by omega)]
  refine jM_puI h (by decide) rfl (fun M1 h1 => ?_)
  refine jo_rd (jM_fR h1 (k := 2) rfl) (jo_rd (jM_fI h1 (k := 3) rfl) (jo_rd (jM_fR h1 (k := 0) rfl) ?_))
  rw [show (S.1, S.2.1, va_up S.2.2.1 3 (nI (sActs T - 1)), S.2.2.2).2.2.1 3 = nI (sActs T - 1) from va_up_self S.2.2.1 3 (nI (sActs T - 1)), show (63 : Int32) * nI (sActs T - 1) = nI (63 * (sActs T - 1)) from nI_mul 63 _]
  refine jo_bd (jo_mono (jr_copies (k1 := 2) (k2 := 0) (a := 63 * (sActs T - 1)) (b := 0) h1 (by omega) (.inr (.inr (.inl rfl))) (.inl rfl) (by decide) rfl rfl (by show 63 * (sActs T - 1) + 63 ≤ 504; omega) (by decide) (by decide) (by decide)) ?_)
  intro _ M2 h2
  refine jo_rd (jM_fI h2 (k := 3) rfl) (jo_ret ⟨?_, _, h2, ?_⟩)
  · show va_up S.2.2.1 3 (nI (sActs T - 1)) 3 = _
    rw [va_up_self]
  · refine jRM_now (C := sC T) (S := (S.1, S.2.1, va_up S.2.2.1 3 (nI (sActs T - 1)), S.2.2.2)) ⟨hC, va_up_self S.2.2.1 3 (nI (sActs T - 1)), fun i hi => hP i (by have : i < sActs T - 1 := hi; omega), hI, ?_, hTp, ?_⟩ ?_
    · show va_up S.2.2.1 3 (nI (sActs T - 1)) 7 = nI (sTaped T)
      rw [va_up_ne _ _ (by decide)]; exact hU
    · show va_up S.2.2.1 3 (nI (sActs T - 1)) 14 = nI (sFault T)
      rw [va_up_ne _ _ (by decide)]; exact hF
    · refine jEnc_cg (w4 (sActs T - 1) (by omega)).1 (hP (sActs T - 1) (by omega)) (fun j hj => ?_)
      unfold jcp
      rw [if_pos (by omega), Nat.sub_zero]
theorem jm_image (h : jMM m ad M0 S M) (hT : jRM T S) (hW : jWfS T) (hN : 1000 < N) {k : Int32} : jo (jf_X1_image N m k) M (jOM m ad M0 (oImage T k)) := by
  have hT0 := hT
  obtain ⟨hC, hA, hP, hI, hU, hTp, hF⟩ := hT
  have w1 := hW.1
  unfold jf_X1_image oImage
  refine jo_eq (in32 (a := 0) (b := 1) rfl rfl) ?_
  refine jo_bI (fun c1 => ?_) (fun c1 => ?_)
  · exact jo_ret (jOM.same h hT0 (if_pos c1))
  rw [if_neg (show ¬ ¬ (0 ≤ k.toInt ∧ k.toInt ≤ 1) from fun x => x c1)]
  refine jo_rd (jM_cl h) (jo_eq (jr_isComplex h hC w1) ?_)
  refine jo_bI (fun c2 => ?_) (fun c2 => ?_)
  · exact jo_ret (jOM.same h hT0 (if_pos c2))
  rw [if_neg (show ¬ ¬ 0 < cP (sC T) from fun x => x c2)]
  obtain ⟨k', h1, rfl, h3⟩ := n_of (n := 1) c1.1 c1.2 (by decide)
  rw [tn_nI (by omega), show (63 : Int32) * nI k' = nI (63 * k') from nI_mul 63 _]
  refine jo_rd (jM_fR h (k := 0) rfl) (jo_rd (jM_fR h (k := 4) rfl) ?_)
  refine jo_bd (jo_mono (jr_copies (k1 := 0) (k2 := 4) (a := 0) (b := 63 * k') h (by omega) (.inl rfl) (.inr (.inr (.inr (.inl rfl)))) (by decide) rfl rfl (by decide) (by show 63 * k' + 63 ≤ 126; omega) (by decide) (by decide)) ?_)
  intro _ M2 h2
  refine jo_rd (jM_fR h2 (k := 5) rfl) ?_
  refine jM_stI h2 (k := 5) (.inr (.inr (.inr (.inr (.inl rfl))))) rfl (j := k') (jm_ixn (by show k' < 2; omega) (by decide)) (fun M3 h3 => jo_ret ⟨rfl, _, h3, ?_⟩)
  refine ⟨hC, hA, hP, fun i hi => ?_, hU, hTp, hF⟩
  show upd (S.1 5) k' 1 i = bI ((va_up (sImg T) k' (some (sC T)) i).isSome = true) ∧ ∀ C, va_up (sImg T) k' (some (sC T)) i = some C → jEnc C (fun j => jcp (S.1 0) (S.1 4) 0 (63 * k') 63 (63 * i + j))
  by_cases e : i = k'
  · subst e
    rw [va_up_self]
    refine ⟨by unfold upd; rw [if_pos rfl]; rfl, fun C hc => ?_⟩
    cases hc
    refine jEnc_cg w1 hC (fun j hj => ?_)
    unfold jcp
    rw [if_pos (by omega), show 0 + (63 * i + j - 63 * i) = j from by omega]
  · rw [va_up_ne _ _ e]
    refine ⟨by unfold upd; rw [if_neg e]; exact (hI i hi).1, fun C hc => ?_⟩
    refine jEnc_cg (hW.2.2.2.2.1 i C hi hc).1 ((hI i hi).2 C hc) (fun j hj => ?_)
    unfold jcp
    rw [if_neg (by omega)]
theorem jm_restore (h : jMM m ad M0 S M) (hT : jRM T S) (hW : jWfS T) (hN : 1000 < N) {k : Int32} : jo (jf_X1_restore N m k) M (jOM m ad M0 (oRestore T k)) := by
  have hT0 := hT
  obtain ⟨hC, hA, hP, hI, hU, hTp, hF⟩ := hT
  unfold jf_X1_restore oRestore
  refine jo_eq (in32 (a := 0) (b := 1) rfl rfl) ?_
  refine jo_bI (fun c1 => ?_) (fun c1 => ?_)
  · exact jo_ret (jOM.same h hT0 (if_pos c1))
  rw [if_neg (show ¬ ¬ (0 ≤ k.toInt ∧ k.toInt ≤ 1) from fun x => x c1)]
  obtain ⟨k', h1, rfl, h3⟩ := n_of (n := 1) c1.1 c1.2 (by decide)
  rw [tn_nI (by omega)]
  refine jo_rd (jM_fR h (k := 5) rfl) ?_
  refine jo_rd (jM_ldI h (k := 5) (.inr (.inr (.inr (.inr (.inl rfl))))) rfl (j := k') (jm_ixn (by show k' < 2; omega) (by decide))) ?_
  rw [(hI k' (by omega)).1]
  cases hk : sImg T k' with
  | none => exact jo_t (by rfl) (jo_ret (jOM.same h hT0 rfl))
  | some C =>
    refine jo_f (show ¬ (1 : Int32) = 0 by decide) ?_
    rw [show (63 : Int32) * nI k' = nI (63 * k') from nI_mul 63 _]
    refine jo_rd (jM_fR h (k := 4) rfl) (jo_rd (jM_fR h (k := 0) rfl) ?_)
    refine jo_bd (jo_mono (jr_copies (k1 := 4) (k2 := 0) (a := 63 * k') (b := 0) h (by omega) (.inr (.inr (.inr (.inl rfl)))) (.inl rfl) (by decide) rfl rfl (by show 63 * k' + 63 ≤ 126; omega) (by decide) (by decide) (by decide)) ?_)
    intro _ M2 h2
    refine jM_puI h2 (by decide) rfl (fun M3 h3 => jo_ret ⟨rfl, _, h3, ?_⟩)
    refine jRM_now (C := sC T) (S := (S.1, S.2.1, va_up S.2.2.1 3 (0 : Int32), S.2.2.2)) ⟨hC, va_up_self S.2.2.1 3 (0 : Int32), fun i hi => absurd hi (Nat.not_lt_zero _), hI, ?_, hTp, ?_⟩ ?_
    · show va_up S.2.2.1 3 (0 : Int32) 7 = nI (sTaped T)
      rw [va_up_ne _ _ (by decide)]; exact hU
    · show va_up S.2.2.1 3 (0 : Int32) 14 = nI (sFault T)
      rw [va_up_ne _ _ (by decide)]; exact hF
    · refine jEnc_cg (hW.2.2.2.2.1 k' C (by omega) hk).1 ((hI k' (by omega)).2 C hk) (fun j hj => ?_)
      unfold jcp
      rw [if_pos (by omega), Nat.sub_zero]
theorem jm_feed (h : jMM m ad M0 S M) (hT : jRM T S) (hW : jWfS T) {x : Int32} : jo (jf_X1_feed N m x) M (jOM m ad M0 (oFeed T x)) := by
  have hT0 := hT
  obtain ⟨hC, hA, hP, hI, hU, hTp, hF⟩ := hT
  have w6 := hW.2.2.2.2.2.1
  unfold jf_X1_feed oFeed
  refine jo_eq (in32 (a := 0) (b := 255) rfl rfl) ?_
  refine jo_bI (fun c1 => ?_) (fun c1 => ?_)
  · exact jo_ret (jOM.same h hT0 (if_pos c1))
  rw [if_neg (show ¬ ¬ (0 ≤ x.toInt ∧ x.toInt ≤ 255) from fun y => y c1)]
  refine jo_rd (jM_fI h (k := 7) rfl) ?_
  rw [hU]
  by_cases c2 : sTaped T = 90
  · rw [if_pos c2]
    exact jo_t (show nI (sTaped T) = nI 90 by rw [c2]) (jo_ret (jOM.same h hT0 rfl))
  rw [if_neg c2]
  refine jo_f (show ¬ nI (sTaped T) = nI 90 by rw [nI_eq (by omega) (by omega)]; exact c2) ?_
  refine jo_rd (jM_fR h (k := 6) rfl) (jo_rd (jM_fI h (k := 7) rfl) ?_)
  rw [hU]
  refine jM_stI h (k := 6) (.inr (.inr (.inr (.inr (.inr rfl))))) rfl (j := sTaped T) (jm_ixn (by show sTaped T < 90; omega) (by decide)) (fun M1 h1 => ?_)
  refine jo_rd (jM_fI h1 (k := 7) rfl) ?_
  rw [show (va_up S.1 6 (upd (S.1 6) (sTaped T) x), S.2).2.2.1 7 = nI (sTaped T) from hU]
  refine jM_puI h1 (by decide) rfl (fun M2 h2 => ?_)
  refine jo_rd (jM_fI h2 (k := 7) rfl) (jo_ret ⟨?_, _, h2, ?_⟩)
  · show va_up S.2.2.1 7 (nI (sTaped T) + 1) 7 = _
    rw [va_up_self, nI_1]
  · refine ⟨hC, ?_, hP, hI, ?_, fun i hi => ?_, ?_⟩
    · show va_up S.2.2.1 7 (nI (sTaped T) + 1) 3 = nI (sActs T)
      rw [va_up_ne _ _ (by decide)]; exact hA
    · show va_up S.2.2.1 7 (nI (sTaped T) + 1) 7 = nI (sTaped T + 1)
      rw [va_up_self, nI_1]
    · have hi : i < sTaped T + 1 := hi
      show upd (S.1 6) (sTaped T) x i = nI (va_up (sTape T) (sTaped T) (tn x) i)
      unfold upd va_up
      by_cases e : i = sTaped T
      · rw [if_pos e, if_pos e]
        obtain ⟨x', q1, rfl, q3⟩ := n_of (n := 255) c1.1 c1.2 (by decide)
        rw [tn_nI (by omega)]
      · rw [if_neg e, if_neg e]
        exact hTp i (by omega)
    · show va_up S.2.2.1 7 (nI (sTaped T) + 1) 14 = nI (sFault T)
      rw [va_up_ne _ _ (by decide)]; exact hF
theorem jEnc_put {C : CX} {b : Nat → Int32} (hW : jWf C) (h : jEnc C b) {c e : Nat} (hc : c < 3) (he : e < cE C) (v : Int) : jEnc (xPut C c e v) (upd b (45 + 6 * c + e) (iI v)) := by
  obtain ⟨h0, h1, h2, h3, h4, h5⟩ := h
  have w1 := hW.2.1
  have w2 := hW.2.2.1
  have k1 : cE (xPut C c e v) = cE C := rfl
  have k2 : cF (xPut C c e v) = cF C := rfl
  have k3 : cFl (xPut C c e v) = cFl C := rfl
  refine ⟨by rw [upd_ne (by omega)]; exact h0, by rw [upd_ne (by omega)]; exact h1, by rw [upd_ne (by omega)]; exact h2, fun x w hx hw => ?_, fun f hf => ⟨?_, ?_, fun k hk => ?_⟩, fun c' e' hc' he' => ?_⟩
  · rw [upd_ne (by omega)]; exact h3 x w hx hw
  · rw [upd_ne (by omega)]; exact (h4 f hf).1
  · rw [upd_ne (by omega)]; exact (h4 f hf).2.1
  · have := (hW.2.2.2.2.1 f hf).2.2.2.1
    rw [k3] at hk
    rw [upd_ne (by omega)]; exact (h4 f hf).2.2 k hk
  · show _ = iI (if c' = c ∧ e' = e then v else cCh C c' e')
    by_cases q : c' = c ∧ e' = e
    · rw [if_pos q, q.1, q.2, upd_self]
    · rw [if_neg q, upd_ne (by omega)]
      exact h5 c' e' hc' he'
theorem jm_put_op (h : jMM m ad M0 S M) (hT : jRM T S) (hW : jWfS T) (hN : 1000 < N) {c e v : Int32} : jo (jf_X1_put N m c e v) M (jOM m ad M0 (oPut T c e v)) := by
  have hT0 := hT
  obtain ⟨hC, -⟩ := hT
  have w1 := hW.1
  unfold jf_X1_put oPut
  refine jo_rd (jM_cl h) (jo_eq (jr_isChain h hC w1) ?_)
  refine jo_bI (fun c1 => jo_ret (jOM.same h hT0 (if_pos (.inl c1)))) (fun c1 => ?_)
  refine jo_rd (jM_cl h) (jo_eq (jr_isCell h hC w1) ?_)
  refine jo_bI (fun c2 => jo_ret (jOM.same h hT0 (if_pos (.inr (.inl c2))))) (fun c2 => ?_)
  refine jo_eq (in32 (a := -9) (b := 9) (by decide) (by decide)) ?_
  refine jo_bI (fun c3 => jo_ret (jOM.same h hT0 (if_pos (.inr (.inr c3))))) (fun c3 => ?_)
  rw [if_neg (show ¬ (¬ cIsChain (sC T) c ∨ ¬ cIsCell (sC T) 1 e ∨ ¬ (-9 ≤ v.toInt ∧ v.toInt ≤ 9)) from fun x => x.elim (fun y => y c1) (fun y => y.elim (fun z => z c2) (fun z => z c3)))]
  obtain ⟨c', h1, rfl, h3⟩ := n_of (n := 2) c1.2.1 c1.2.2 (by decide)
  obtain ⟨d', e', h4, h5, h6, rfl⟩ := cIsCell_of w1 c2
  have hd : d' = 1 := by
    have := congrArg tn h6
    rw [tn_nI (by omega)] at this
    exact this.symm
  subst hd
  have h5 : e' < cE (sC T) := h5
  have h7 := w1.2.1
  rw [tn_nI (by omega), tn_nI (by omega)]
  refine jo_rd (jM_cl h) (jo_bd (jo_mono (jr_notes h hT0 hW hN) ?_))
  rintro _ M1 ⟨S1, g1, g2, g3, g4⟩
  have hC1 : jEnc (sC T) (S1.1 0) := by rw [g3]; exact hC
  refine jo_rd (jM_fR g1 (k := 0) rfl) (jo_rd (jr_ch (c := c') g1 hC1 w1 (by omega) h5 (by simp only [nI_lit, nI_mul, nI_add])) ?_)
  refine jo_rd (jM_fR g1 (k := 0) rfl) ?_
  refine jM_stI g1 (k := 0) (.inl rfl) rfl (j := 45 + 6 * c' + e') (by rw [show (45 : Int32) + (6 : Int32) * nI c' + nI e' = nI (45 + 6 * c' + e') by simp only [nI_lit, nI_mul, nI_add]]; exact jm_ixn (by show _ < 63; omega) (by decide)) (fun M2 k2 => jo_ret ⟨rfl, _, k2, ?_⟩)
  refine jRM_now (g2 (sC T) hC) ?_
  have := jEnc_put w1 hC1 (c := c') (e := e') (by omega) h5 v.toInt
  rw [← iI_of v] at this
  exact this
end ED
