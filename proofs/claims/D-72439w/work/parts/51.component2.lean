/-! PLAIN LAW, 51: the component's state; its small questions -/
def jIts (its : Option Nat) (C : CX) (H : HM) : Prop := match its with
  | none => cP C = 0 ∧ cE C = 0 ∧ cF C = 0
  | some q => 0 < cP C ∧ jCx q C H
theorem jIts.kp {H H' : HM} (hk : jKp H H') {its : Option Nat} {C : CX} (h : jIts its C H) : jIts its C H' := by
  cases its with
  | none => exact h
  | some q => exact ⟨h.1, h.2.kp hk⟩
/-- a place of the images -/
def jImg (r : Option Nat) (o : Option CX) (H : HM) : Prop := match o with
  | none => r = none
  | some C => ∃ q, r = some q ∧ jCx q C H
theorem jImg.kp {H H' : HM} (hk : jKp H H') {r : Option Nat} {o : Option CX} (h : jImg r o H) : jImg r o H' := by
  cases o with
  | none => exact h
  | some C => exact ⟨h.choose, h.choose_spec.1, h.choose_spec.2.kp hk⟩
/-- a byte as the tape holds it -/
def tB (n : Nat) : Int32 := (nI n).toInt8.toInt32
abbrev xVals (its : Option Nat) (tp ta fa pa ac im : Nat) : List Value := [va_rf its, .ref tp, .int (nI ta), .int (nI fa), .ref pa, .int (nI ac), .ref im]
def jXA (x : Nat) (T : ST) (its : Option Nat) (tp pa im : Nat) (tf : Nat → Int32) (pf mf : Nat → Option Nat) (H : HM) : Prop := (H x = some (.inr (0, xVals its tp (sTaped T) (sFault T) pa (sActs T) im))) ∧ (H tp = some (aI 1 90 tf)) ∧ (H pa = some (aR 6 8 pf)) ∧ (H im = some (aR 6 2 mf)) ∧ (pa ≠ im) ∧ (jIts its (sC T) H) ∧ (∀ i, i < sTaped T → tf i = tB (sTape T i)) ∧ (∀ i, i < sActs T → ∃ q, pf i = some q ∧ jCx q (sPast T i) H) ∧ (∀ k, k < 2 → jImg (mf k) (sImg T k) H)
theorem jXA.ob {x : Nat} {T : ST} {its : Option Nat} {tp pa im : Nat} {tf : Nat → Int32} {pf mf : Nat → Option Nat} {H : HM} (h : jXA x T its tp pa im tf pf mf H) : H x = some (.inr (0, xVals its tp (sTaped T) (sFault T) pa (sActs T) im)) := h.1
theorem jXA.tape {x : Nat} {T : ST} {its : Option Nat} {tp pa im : Nat} {tf : Nat → Int32} {pf mf : Nat → Option Nat} {H : HM} (h : jXA x T its tp pa im tf pf mf H) : H tp = some (aI 1 90 tf) := h.2.1
theorem jXA.past {x : Nat} {T : ST} {its : Option Nat} {tp pa im : Nat} {tf : Nat → Int32} {pf mf : Nat → Option Nat} {H : HM} (h : jXA x T its tp pa im tf pf mf H) : H pa = some (aR 6 8 pf) := h.2.2.1
theorem jXA.imgs {x : Nat} {T : ST} {its : Option Nat} {tp pa im : Nat} {tf : Nat → Int32} {pf mf : Nat → Option Nat} {H : HM} (h : jXA x T its tp pa im tf pf mf H) : H im = some (aR 6 2 mf) := h.2.2.2.1
theorem jXA.ne {x : Nat} {T : ST} {its : Option Nat} {tp pa im : Nat} {tf : Nat → Int32} {pf mf : Nat → Option Nat} {H : HM} (h : jXA x T its tp pa im tf pf mf H) : pa ≠ im := h.2.2.2.2.1
theorem jXA.cx {x : Nat} {T : ST} {its : Option Nat} {tp pa im : Nat} {tf : Nat → Int32} {pf mf : Nat → Option Nat} {H : HM} (h : jXA x T its tp pa im tf pf mf H) : jIts its (sC T) H := h.2.2.2.2.2.1
theorem jXA.bytes {x : Nat} {T : ST} {its : Option Nat} {tp pa im : Nat} {tf : Nat → Int32} {pf mf : Nat → Option Nat} {H : HM} (h : jXA x T its tp pa im tf pf mf H) : ∀ i, i < sTaped T → tf i = tB (sTape T i) := h.2.2.2.2.2.2.1
theorem jXA.olds {x : Nat} {T : ST} {its : Option Nat} {tp pa im : Nat} {tf : Nat → Int32} {pf mf : Nat → Option Nat} {H : HM} (h : jXA x T its tp pa im tf pf mf H) : ∀ i, i < sActs T → ∃ q, pf i = some q ∧ jCx q (sPast T i) H := h.2.2.2.2.2.2.2.1
theorem jXA.kept {x : Nat} {T : ST} {its : Option Nat} {tp pa im : Nat} {tf : Nat → Int32} {pf mf : Nat → Option Nat} {H : HM} (h : jXA x T its tp pa im tf pf mf H) : ∀ k, k < 2 → jImg (mf k) (sImg T k) H := h.2.2.2.2.2.2.2.2
/-- the component holds the state -/
def jRX (x : Nat) (T : ST) (H : HM) : Prop := ∃ its tp pa im tf pf mf, jXA x T its tp pa im tf pf mf H
def jSub (H H' : HM) : Prop := ∀ a e, H a = some e → H' a = some e
theorem jSub.kp {H H' : HM} (h : jSub H H') : jKp H H' := fun a e h1 _ => h a e h1
theorem jXA.sub {x : Nat} {T : ST} {its : Option Nat} {tp pa im : Nat} {tf : Nat → Int32} {pf mf : Nat → Option Nat} {H H' : HM} (hs : jSub H H') (h : jXA x T its tp pa im tf pf mf H) : jXA x T its tp pa im tf pf mf H' :=
  ⟨hs _ _ h.ob, hs _ _ h.tape, hs _ _ h.past, hs _ _ h.imgs, h.ne, h.cx.kp hs.kp, h.bytes, fun i hi => (h.olds i hi).elim fun q hq => ⟨q, hq.1, hq.2.kp hs.kp⟩, fun k hk => (h.kept k hk).kp hs.kp⟩
theorem jRX.sub {x : Nat} {T : ST} {H H' : HM} (hs : jSub H H') (h : jRX x T H) : jRX x T H' := by
  obtain ⟨a, b, c, d, e, f, g, hh⟩ := h
  exact ⟨a, b, c, d, e, f, g, hh.sub hs⟩
section CR
variable {N x : Nat} {M : Mem} {C : CX} {T : ST}
theorem jo_ne {β : Type} {Q : β → Mem → Prop} {q : Nat} {p r : jm_P β} (h : jo r M Q) : jo (if (some q : Option Nat) = none then p else r) M Q := jo_f (by simp) h
theorem jx_isCell (h : jRX x T M.2.2) (hW : jWf (sC T)) {d k : Int32} : (jf_X0_isCell N x d k).1 M = some (bI (cIsCell (sC T) d k), M) := by
  obtain ⟨its, tp, pa, im, tf, pf, mf, h⟩ := h
  have hx := h.cx
  refine jo_out ?_
  unfold jf_X0_isCell
  refine jo_fQ (r := its) h.ob (by decide) rfl ?_
  cases its with
  | none =>
    refine jo_t rfl (jo_ret ⟨(bI_f ?_).symm, rfl⟩)
    rintro ⟨c1, c2, c3⟩
    have : cMany (sC T) d.toInt.toNat = 0 := by
      have h1 : cP (sC T) = 0 := hx.1
      have h2 : cE (sC T) = 0 := hx.2.1
      have h3 : cF (sC T) = 0 := hx.2.2
      unfold cMany
      rw [h1, h2, h3]
      split <;> (try split) <;> rfl
    rw [this] at c3
    omega
  | some q =>
    obtain ⟨hp, hq⟩ : 0 < cP (sC T) ∧ jCx q (sC T) M.2.2 := hx
    refine jo_ne (jo_eq (in32X (a := 0) (b := 2) rfl rfl) ?_)
    refine jo_bI (fun c => jo_ret ⟨(bI_f (fun x => c x.1)).symm, rfl⟩) (fun c => ?_)
    obtain ⟨d', h1, rfl, h3⟩ := n_of (n := 2) c.1 c.2 (by decide)
    have hm := cMany_le hW d'
    have hq0 := hq
    obtain ⟨eA, fA, cA, hqo, -⟩ := hq0
    refine jo_fR h.ob (by decide) rfl (jo_cl hqo (jo_eq (jx_many hq hW (by omega)) ?_))
    refine jo_eq (in32X (a := 0) (b := (cMany (sC T) d' : Int) - 1) rfl ?_) ?_
    · rw [show (1 : Int32) = iI 1 from rfl, nI_iI, iI_sub, Int32.toInt_toInt64, iI_toInt (by omega) (by omega)]
    · refine jo_bI (fun c2 => jo_ret ⟨(bI_f ?_).symm, rfl⟩) (fun c2 => jo_ret ⟨(bI_t ?_).symm, rfl⟩)
      · rintro ⟨-, x1, x2⟩
        rw [h3, Int.toNat_natCast] at x2
        exact c2 ⟨x1, x2⟩
      · refine ⟨c, c2.1, ?_⟩
        rw [h3, Int.toNat_natCast]
        exact c2.2
theorem jx_isChain {c : Int32} : (jf_X0_isChain N c).1 M = some (bI (0 ≤ c.toInt ∧ c.toInt ≤ 2), M) := by
  refine jo_out ?_
  unfold jf_X0_isChain
  refine jo_eq (in32X (a := 0) (b := 2) rfl rfl) (jo_ck ?_ (jo_ret ⟨rfl, rfl⟩))
  unfold bI
  split
  · exact .inr rfl
  · exact .inl rfl
theorem jx_fault (h : jRX x T M.2.2) : (jf_X0_fault N x).1 M = some (nI (sFault T), M) := by
  obtain ⟨its, tp, pa, im, tf, pf, mf, h⟩ := h
  refine jo_out ?_
  unfold jf_X0_fault
  exact jo_fI h.ob (by decide) rfl (jo_ret ⟨rfl, rfl⟩)
theorem cell_pos {C : CX} {d k : Int32} (hz : cP C = 0 → cE C = 0 ∧ cF C = 0) (h : cIsCell C d k) : 0 < cP C := by
  refine Nat.pos_of_ne_zero fun c => ?_
  have : cMany C d.toInt.toNat = 0 := by
    unfold cMany
    rw [c, (hz c).1, (hz c).2]
    split <;> (try split) <;> rfl
  have h2 := h.2
  rw [this] at h2
  omega
theorem jXA.ge {its : Option Nat} {tp pa im : Nat} {tf : Nat → Int32} {pf mf : Nat → Option Nat} {H : HM} (h : jXA x T its tp pa im tf pf mf H) (hp : 0 < cP (sC T)) : ∃ q, its = some q ∧ jCx q (sC T) H := by
  cases its with
  | none => exact absurd h.cx.1 (by omega)
  | some q => exact ⟨q, rfl, h.cx.2⟩
theorem jx_ch {q : Nat} (h : jCx q C M.2.2) (hW : jWf C) {c e : Nat} (hc : c < 3) (he : e < cE C) {β : Type} {Q : β → Mem → Prop} {p : Int32 → jm_P β} (kk : jo (p (iI (cCh C c e))) M Q) : jo (jm_rd (jm_fR [9] 3 (some q)) fun x12 => jm_rd (jm_ldR 12 x12 (nI c)) fun x14 => jm_rd (jm_ldI 0 x14 (nI e)) p) M Q := by
  obtain ⟨eA, fA, cA, h1, -, -, cr, h2, h3⟩ := h
  obtain ⟨a, g, h4, h5, h6⟩ := h3 c hc
  have := hW.2.1
  refine jo_fR h1 (by decide) rfl (jo_ldR h2 rfl hc (by decide) ?_)
  rw [h4]
  refine jo_ldI h5 rfl (by omega) (by decide) ?_
  rw [h6 e (by omega), if_pos he]
  exact kk
theorem jx_chain (h : jRX x T M.2.2) (hW : jWf (sC T)) (hz : cP (sC T) = 0 → cE (sC T) = 0 ∧ cF (sC T) = 0) {c e : Int32} : (jf_X0_chain N x c e).1 M = some (aChain (sC T) c e, M) := by
  have hR := h
  obtain ⟨its, tp, pa, im, tf, pf, mf, h⟩ := h
  refine jo_out ?_
  unfold jf_X0_chain aChain
  refine jo_eq jx_isChain ?_
  refine jo_bI (fun c1 => jo_ret ⟨(if_neg (fun x => c1 x.1.2)).symm, rfl⟩) (fun c1 => ?_)
  refine jo_cl h.ob (jo_eq (jx_isCell hR hW) ?_)
  refine jo_bI (fun c2 => jo_ret ⟨(if_neg (fun x => c2 x.2)).symm, rfl⟩) (fun c2 => ?_)
  have hp := cell_pos hz c2
  rw [if_pos ⟨⟨hp, c1⟩, c2⟩]
  obtain ⟨q, rfl, hq⟩ := h.ge hp
  obtain ⟨c', h1, rfl, h3⟩ := n_of (n := 2) c1.1 c1.2 (by decide)
  obtain ⟨d', e', h4, h5, h6, rfl⟩ := cIsCell_of hW c2
  have hd : d' = 1 := by
    have := congrArg tn h6
    rw [tn_nI (by omega)] at this
    exact this.symm
  subst hd
  have h5 : e' < cE (sC T) := h5
  have h7 := hW.2.1
  rw [tn_nI (by omega), tn_nI (by omega)]
  exact jo_fR h.ob (by decide) rfl (jx_ch hq hW (by omega) h5 (jo_ret ⟨rfl, rfl⟩))
theorem jx_count (h : jRX x T M.2.2) {w : Int32} : (jf_X0_count N x w).1 M = some (aCount (sC T) (nI (sActs T)) (nI (sTaped T)) w, M) := by
  obtain ⟨its, tp, pa, im, tf, pf, mf, h⟩ := h
  have hx := h.cx
  refine jo_out ?_
  unfold jf_X0_count aCount
  by_cases c0 : w = 0
  · refine jo_t (show w = (0 : Int32) from c0) ?_
    rw [if_pos c0]
    refine jo_fQ (r := its) h.ob (by decide) rfl ?_
    cases its with
    | none => exact jo_t rfl (jo_ret ⟨(congrArg nI hx.1).symm, rfl⟩)
    | some q =>
      obtain ⟨eA, fA, cA, h1, h2⟩ := hx.2
      exact jo_ne (jo_fR h.ob (by decide) rfl (jo_fI h1 (by decide) rfl (jo_ret ⟨rfl, rfl⟩)))
  refine jo_f c0 ?_
  rw [if_neg c0]
  by_cases c1 : w = 1
  · refine jo_t c1 ?_
    rw [if_pos c1]
    refine jo_fQ (r := its) h.ob (by decide) rfl ?_
    cases its with
    | none => exact jo_t rfl (jo_ret ⟨(congrArg nI hx.2.1).symm, rfl⟩)
    | some q =>
      obtain ⟨eA, fA, cA, h1, ⟨er, h2, -⟩, -⟩ := hx.2
      exact jo_ne (jo_fR h.ob (by decide) rfl (jo_fR h1 (by decide) rfl (jo_len h2 rfl (jo_ret ⟨rfl, rfl⟩))))
  refine jo_f c1 ?_
  rw [if_neg c1]
  by_cases c2 : w = 2
  · refine jo_t c2 ?_
    rw [if_pos c2]
    refine jo_fQ (r := its) h.ob (by decide) rfl ?_
    cases its with
    | none => exact jo_t rfl (jo_ret ⟨(congrArg nI hx.2.2).symm, rfl⟩)
    | some q =>
      obtain ⟨eA, fA, cA, h1, -, ⟨fr, h2, -⟩, -⟩ := hx.2
      exact jo_ne (jo_fR h.ob (by decide) rfl (jo_fR h1 (by decide) rfl (jo_len h2 rfl (jo_ret ⟨rfl, rfl⟩))))
  refine jo_f c2 ?_
  rw [if_neg c2]
  by_cases c3 : w = 3
  · refine jo_t c3 ?_
    rw [if_pos c3]
    exact jo_fI h.ob (by decide) rfl (jo_ret ⟨rfl, rfl⟩)
  refine jo_f c3 ?_
  rw [if_neg c3]
  by_cases c4 : w = 4
  · refine jo_t c4 ?_
    rw [if_pos c4]
    exact jo_fI h.ob (by decide) rfl (jo_ret ⟨rfl, rfl⟩)
  refine jo_f c4 ?_
  rw [if_neg c4]
  exact jo_ret ⟨rfl, rfl⟩
/-- an edge of a complex -/
theorem jx_ed {q : Nat} (h : jCx q C M.2.2) (hW : jWf C) {e : Nat} (he : e < cE C) {β : Type} {Q : β → Mem → Prop} {p : Option Nat → jm_P β} (kk : ∀ a, M.2.2 a = some (jEdO (cEd C e 0) (cEd C e 1) (cEd C e 2)) → jo (p (some a)) M Q) : jo (jm_rd (jm_fR [9] 1 (some q)) fun x4 => jm_rd (jm_ldR 4 x4 (nI e)) p) M Q := by
  obtain ⟨eA, fA, cA, h1, ⟨er, h2, h3⟩, -⟩ := h
  obtain ⟨a, h4, h5⟩ := h3 e he
  have := hW.2.1
  refine jo_fR h1 (by decide) rfl (jo_ldR h2 rfl he (by omega) ?_)
  rw [h4]
  exact kk a h5
theorem jx_fc {q : Nat} (h : jCx q C M.2.2) (hW : jWf C) {f : Nat} (hf : f < cF C) {β : Type} {Q : β → Mem → Prop} {p : Option Nat → jm_P β} (kk : ∀ a, jFa a (cFw C f) (cFl C f) (cLt C f) M.2.2 → jo (p (some a)) M Q) : jo (jm_rd (jm_fR [9] 2 (some q)) fun x4 => jm_rd (jm_ldR 5 x4 (nI f)) p) M Q := by
  obtain ⟨eA, fA, cA, h1, -, ⟨fr, h2, h3⟩, -⟩ := h
  obtain ⟨a, h4, h5⟩ := h3 f hf
  have := hW.2.2.1
  refine jo_fR h1 (by decide) rfl (jo_ldR h2 rfl hf (by omega) ?_)
  rw [h4]
  exact kk a h5
theorem jx_end {q : Nat} (h : jCx q C M.2.2) (hW : jWf C) (hN : 100 < N) {c p : Nat} (hc : c < 3) (hp : p < 100) : (jf_X9_end N q (nI c) (nI p)).1 M = some (iI (cEnd C c p), M) := by
  have h6 := hW.2.1
  have hq := h
  obtain ⟨eA, fA, cA, h1, ⟨er, h2, -⟩, -⟩ := h
  refine jo_out ?_
  unfold jf_X9_end jf_X9_end_k5_73
  refine jo_eq (jl_sum (n := cE C) (fun e => cCh C c e * cOne C p e) ?_ ?_ (by omega)) (jo_ret ⟨rfl, rfl⟩)
  · intro k z hk
    have hw := hW.2.2.2.1 k hk
    have h5 := hW.1
    refine jo_out ?_
    unfold jf_X9_end_L5
    refine jo_fR h1 (by decide) rfl (jo_len h2 rfl ?_)
    refine jo_f (show ¬ nI (cE C) ≤ nI k by rw [nI_leI (by omega) (by omega)]; omega) ?_
    refine jx_ch hq hW hc hk (jx_ed hq hW hk fun a ha => ?_)
    refine jo_fI ha (mem_56 _ _) rfl ?_
    have key : ∀ u : Int, u = (if cEd C k 1 = p then 1 else 0) → jo (jf_X9_end_j44 N q (nI c) (nI p) (nI k) (iI z) (iI (cCh C c k)) (iI u)) M (fun r M' => r = .inl (iI (z + cCh C c k * cOne C p k), nI (k + 1)) ∧ M' = M) := by
      intro u hu
      unfold jf_X9_end_j44 jf_X9_end_j63
      refine jx_ed hq hW hk fun a ha => jo_fI ha (mem_56 _ _) rfl ?_
      have key2 : ∀ v : Int, v = (if cEd C k 0 = p then 1 else 0) → jo (jm_ret (α := (Int32 × Int32) ⊕ Int32) (Sum.inl (iI z + iI (cCh C c k) * (iI u - iI v), nI k + 1))) M (fun r M' => r = .inl (iI (z + cCh C c k * cOne C p k), nI (k + 1)) ∧ M' = M) := by
        intro v hv
        refine jo_ret ⟨?_, rfl⟩
        rw [iI_sub, iI_mul, iI_add, nI_1, hu, hv]
        rfl
      by_cases c2 : cEd C k 0 = p
      · exact jo_t (by rw [c2]) (key2 1 (by rw [if_pos c2]))
      · exact jo_f (by intro x; exact c2 ((nI_eq (by omega) (by omega)).mp x)) (key2 0 (by rw [if_neg c2]))
    by_cases c1 : cEd C k 1 = p
    · exact jo_t (by rw [c1]) (key 1 (by rw [if_pos c1]))
    · exact jo_f (by intro x; exact c1 ((nI_eq (by omega) (by omega)).mp x)) (key 0 (by rw [if_neg c1]))
  · intro z
    refine jo_out ?_
    unfold jf_X9_end_L5
    refine jo_fR h1 (by decide) rfl (jo_len h2 rfl ?_)
    exact jo_t (show nI (cE C) ≤ nI (cE C) by rw [nI_leI (by omega) (by omega)]; omega) (jo_ret ⟨rfl, rfl⟩)
theorem jx_ends (h : jRX x T M.2.2) (hW : jWf (sC T)) (hz : cP (sC T) = 0 → cE (sC T) = 0 ∧ cF (sC T) = 0) (hN : 100 < N) {c p : Int32} : (jf_X0_ends N x c p).1 M = some (aEnds (sC T) c p, M) := by
  have hR := h
  obtain ⟨its, tp, pa, im, tf, pf, mf, h⟩ := h
  refine jo_out ?_
  unfold jf_X0_ends aEnds
  refine jo_eq jx_isChain ?_
  refine jo_bI (fun c1 => jo_ret ⟨(if_neg (fun x => c1 x.1.2)).symm, rfl⟩) (fun c1 => ?_)
  refine jo_cl h.ob (jo_eq (jx_isCell hR hW) ?_)
  refine jo_bI (fun c2 => jo_ret ⟨(if_neg (fun x => c2 x.2)).symm, rfl⟩) (fun c2 => ?_)
  have hp := cell_pos hz c2
  rw [if_pos ⟨⟨hp, c1⟩, c2⟩]
  obtain ⟨q, rfl, hq⟩ := h.ge hp
  obtain ⟨c', h1, rfl, h3⟩ := n_of (n := 2) c1.1 c1.2 (by decide)
  obtain ⟨d', e', h4, h5, h6, rfl⟩ := cIsCell_of hW c2
  have h7 := cMany_le hW d'
  rw [tn_nI (by omega), tn_nI (by omega)]
  have hq0 := hq
  obtain ⟨eA, fA, cA, hqo, -⟩ := hq0
  exact jo_fR h.ob (by decide) rfl (jo_cl hqo (jo_eq (jx_end hq hW hN (by omega) (by omega)) (jo_ret ⟨rfl, rfl⟩)))
end CR
