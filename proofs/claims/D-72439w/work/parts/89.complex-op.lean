/-! PLAIN LAW, 89: complex, face: component -/
theorem jSq.kp {x : Nat} {H H' : HM} {vs : List Value} (h : jSq x H H') (ho : H x = some (.inr (0, vs))) : jKp H H' := fun a e h1 h2 => h a e (fun y => by rw [y, ho] at h1; cases h1; cases h2) h1
theorem jXA.re {x : Nat} {T T' : ST} {its its' : Option Nat} {tp pa im : Nat} {tf : Nat → Int32} {pf mf : Nat → Option Nat} {H H' : HM} (h : jXA x T its tp pa im tf pf mf H) (hs : jSq x H H') (ho : H' x = some (.inr (0, xVals its' tp (sTaped T') (sFault T') pa (sActs T') im))) (hc : jIts its' (sC T') H') (hb : ∀ i, i < sTaped T' → tf i = tB (sTape T' i)) (ha : ∀ i, i < sActs T' → i < sActs T ∧ sPast T' i = sPast T i) (hi : ∀ k, sImg T' k = sImg T k) : jXA x T' its' tp pa im tf pf mf H' := by
  obtain ⟨⟨d1, d2, d3⟩, ⟨d4, d5⟩, d6⟩ := h.df
  have kp := hs.kp h.ob
  refine ⟨ho, hs _ _ (Ne.symm d1) h.tape, hs _ _ (Ne.symm d2) h.past, hs _ _ (Ne.symm d3) h.imgs, d6, hc, hb, fun i hi => ?_, fun k hk => ?_⟩
  · obtain ⟨a1, a2⟩ := ha i hi
    rw [a2]
    exact (h.olds i a1).elim fun q hq => ⟨q, hq.1, hq.2.kp kp⟩
  · rw [hi]
    exact (h.kept k hk).kp kp
section CO
variable {β : Type} {Q : β → Mem → Prop} {N x : Nat} {md : Nat → Bool} {c s : Nat} {M0 M : Mem} {T : ST}
theorem jx_complex (h : jRX x T (jMk md M.2.2)) (hM : ∀ a, md a = true → a < M0.1) (hE : jExt md c s M0 M) (hW : jWfS T) (hN : 1000 < N) : jo (jf_X0_complex N x) M (jOX x md (c + 41) (s + 203) M0 (oComplex T)) := by
  obtain ⟨its, tp, pa, im, tf, pf, mf, h⟩ := h
  obtain ⟨⟨d1, d2, d3⟩, ⟨d4, d5⟩, d6⟩ := h.df
  have w6 := hW.2.2.2.2.2.1
  have w7 := hW.2.2.2.2.2.2.1
  have w8 := hW.2.2.2.2.2.2.2
  unfold jf_X0_complex
  refine jX_al (hE.md hM) hE fun q1 M1 n1 _ e1 E1 => ?_
  have s1 : jSub (jMk md M.2.2) (jMk md M1.2.2) := by rw [e1]; exact jSub.new n1
  refine jo_fR (mkg (s1 _ _ h.ob)).2 (by decide) rfl (jo_fI (mkg (s1 _ _ h.ob)).2 (by decide) rfl (jo_bd ?_))
  unfold jf_X2_init
  refine jX_put (by rw [e1, va_up_self]) (by decide) (by simp) E1 (fun M2 e2 E2 => ?_)
  refine jX_put (by rw [e2, va_up_self]) (by decide) (by simp) E2 (fun M3 e3 E3 => jo_ret ?_)
  have s3 : jSub (jMk md M.2.2) (jMk md M3.2.2) := by rw [e3, e2, e1, va_up2, va_up2]; exact jSub.new n1
  have o3 : jMk md M3.2.2 q1 = some (jRq tp (sTaped T) 0) := by rw [e3, va_up_self]; rfl
  have xq : x ≠ q1 := fun y => by have := h.ob; rw [y, n1] at this; cases this
  refine jX_put (s3 _ _ h.ob) (by decide) (by simp) E3 (fun M4 e4 E4 => ?_)
  have o4 : jMk md M4.2.2 q1 = some (jRq tp (sTaped T) 0) := by rw [e4, va_up_ne _ _ (Ne.symm xq)]; exact o3
  have x4 : jMk md M4.2.2 x = some (.inr (0, xVals its tp 0 (sFault T) pa (sActs T) im)) := by rw [e4, va_up_self]; rfl
  have sx4 : jSq x (jMk md M.2.2) (jMk md M4.2.2) := fun a e ha hh => by rw [e4, va_up_ne _ _ ha]; exact s3 _ _ hh
  have ht4 : jRt tp (sTaped T) (sTape T) (jMk md M4.2.2) := ⟨tf, sx4 _ _ (Ne.symm d1) h.tape, w6, fun j hj => ⟨h.bytes j hj, w7 j hj⟩⟩
  -- what stands after the reading
  have far : ∀ {M5 : Mem}, jSq q1 (jMk md M4.2.2) (jMk md M5.2.2) → jSq x (jMk md M.2.2) (jMk md M5.2.2) ∧ jMk md M5.2.2 x = some (.inr (0, xVals its tp 0 (sFault T) pa (sActs T) im)) := by
    intro M5 h5
    refine ⟨fun a e ha hh => h5 a e (fun y => by rw [y, n1] at hh; cases hh) (sx4 a e ha hh), h5 _ _ xq x4⟩
  unfold oComplex
  refine jo_cl (mkg o4).2 (jX_all hM hN E4 o4 ht4 w6 (fun e hp qf M5 h5 => ?_) (fun C hp q' M5 h5 hc hw h0 E5 => ?_))
  · rw [hp]
    obtain ⟨f1, f2, f3⟩ := h5
    obtain ⟨sx5, x5⟩ := far f2
    obtain ⟨vs, f1⟩ := f1
    have qx : qf ≠ x := fun y => by rw [y, x5] at f1; cases f1
    refine jo_fI (mkg f1).2 (by decide) rfl (jX_put x5 (by decide) (by simp) f3 (fun M6 e6 E6 => ?_))
    have f6 : jMk md M6.2.2 qf = some (.inr (3, .int (nI e.1) :: .int (nI e.2) :: vs)) := by rw [e6, va_up_ne _ _ qx]; exact f1
    have sx6 : jSq x (jMk md M.2.2) (jMk md M6.2.2) := by rw [e6]; exact sx5.tr jSq.up
    refine jo_fI (mkg f6).2 (by decide) rfl (jo_ret ⟨?_, ⟨its, tp, pa, im, tf, pf, mf, h.re (T' := (T.1, T.2.1, T.2.2.1, (0, sTape T), e.1)) sx6 ?_ (h.cx.kp (sx6.kp h.ob)) (fun i hi => absurd hi (Nat.not_lt_zero _)) (fun i hi => ⟨hi, rfl⟩) (fun _ => rfl)⟩, E6.mono (by omega) (by show s + 3 + 200 ≤ _; omega)⟩)
    · show (-1000100 : Int32) - nI e.2 = iI (-1000100 - (e.2 : Int))
      rw [nI_iI, show (-1000100 : Int32) = iI (-1000100) from rfl, iI_sub]
    · rw [e6, va_up_self]; rfl
  · rw [hp]
    obtain ⟨sx5, x5⟩ := far h5
    refine jX_put x5 (by decide) (by simp) E5 (fun M6 e6 E6 => ?_)
    refine jX_put (by rw [e6, va_up_self]) (by decide) (by simp) E6 (fun M7 e7 E7 => ?_)
    have x7 : jMk md M7.2.2 x = some (.inr (0, xVals (some q') tp 0 (sFault T) pa 0 im)) := by rw [e7, va_up_self]; rfl
    have s57 : jSq x (jMk md M5.2.2) (jMk md M7.2.2) := by rw [e7, e6, va_up2]; exact jSq.up
    have hc7 := hc.kp (s57.kp x5)
    have hR : jRX x (C, (0, sPast T), T.2.2.1, (0, sTape T), sFault T) (jMk md M7.2.2) := ⟨some q', tp, pa, im, tf, pf, mf, h.re (T' := (C, (0, sPast T), T.2.2.1, (0, sTape T), sFault T)) (sx5.tr s57) x7 ⟨h0, hc7⟩ (fun i hi => absurd hi (Nat.not_lt_zero _)) (fun i hi => absurd hi (Nat.not_lt_zero _)) (fun _ => rfl)⟩
    obtain ⟨eA, fA, cA, b1, ⟨er, b2, -⟩, ⟨fr, b3, -⟩, -⟩ := hc7
    refine jo_fR (mkg x7).2 (by decide) rfl (jo_fI (mkg b1).2 (by decide) rfl ?_)
    refine jo_fR (mkg x7).2 (by decide) rfl (jo_fR (mkg b1).2 (by decide) rfl (jo_len (mkg b2).2 rfl ?_))
    refine jo_fR (mkg x7).2 (by decide) rfl (jo_fR (mkg b1).2 (by decide) rfl (jo_len (mkg b3).2 rfl ?_))
    refine jo_ret ⟨?_, hR, E7.mono (by omega) (by show s + 3 + 200 ≤ _; omega)⟩
    show nI _ + nI _ + nI _ = nI _
    rw [nI_add, nI_add]
/-! face -/
section PWD
variable {n i : Nat} {t : Nat → Nat} {C : CX}
theorem pWord_inr : ∀ (g k k' : Nat), pWord n t C i g k = .inr k' → k ≤ k' ∧ ∀ j, k ≤ j → j < k' → tk n t (i + j) = 1 ∧ wNx C (fun j => lb C (t (i + j))) j (lb C (t (i + j))) = true := by
  intro g
  induction g with
  | zero => intro k k' h; unfold pWord at h; injection h with h; exact ⟨by omega, fun j h1 h2 => by omega⟩
  | succ g ih =>
    intro k k' h
    unfold pWord at h
    by_cases c1 : tk n t (i + k) = 1
    · rw [if_pos c1] at h
      by_cases c2 : wNx C (fun j => lb C (t (i + j))) k (lb C (t (i + k))) = true
      · rw [if_pos c2] at h
        obtain ⟨h1, h2⟩ := ih (k + 1) k' h
        refine ⟨by omega, fun j h3 h4 => ?_⟩
        by_cases e : j = k
        · subst e; exact ⟨c1, c2⟩
        · exact h2 j (by omega) h4
      · rw [if_neg c2] at h; cases h
    · rw [if_neg c1] at h
      injection h with h
      exact ⟨by omega, fun j h1 h2 => by omega⟩
theorem pWord_of {k' : Nat} (h : ∀ j, j < k' → tk n t (i + j) = 1 ∧ wNx C (fun j => lb C (t (i + j))) j (lb C (t (i + j))) = true) (he : tk n t (i + k') ≠ 1) : ∀ (g k : Nat), k ≤ k' → k' < g + k → pWord n t C i g k = .inr k' := by
  intro g
  induction g with
  | zero => intro k h1 h2; omega
  | succ g ih =>
    intro k h1 h2
    unfold pWord
    by_cases e : k = k'
    · subst e; rw [if_neg he]
    · obtain ⟨a, b⟩ := h k (by omega)
      rw [if_pos a, if_pos b]
      exact ih (k + 1) (by omega) (by omega)
theorem lb_tk {c : Nat} (h : lb C c ≠ 0) : tkc c = 1 := by
  unfold lb at h
  unfold tkc
  by_cases a : 97 ≤ c ∧ c ≤ 122
  · rw [if_pos (.inl a)]
  · rw [if_neg a] at h
    by_cases b : 65 ≤ c ∧ c ≤ 90
    · rw [if_pos (.inr b)]
    · rw [if_neg b] at h; exact absurd rfl h
/-- the tape is a closed word, and no more -/
theorem pW_ok (h : wOk C (fun j => lb C (t j)) n = true) : pW n t C 0 = .inr (n, true) := by
  unfold wOk at h
  rw [Bool.and_eq_true, Bool.and_eq_true, decide_eq_true_iff, jall_iff] at h
  obtain ⟨⟨h1, h2⟩, h3⟩ := h
  have e : (fun j => lb C (t (0 + j))) = fun j => lb C (t j) := by funext j; rw [Nat.zero_add]
  have t0 : tk n t n = 0 := by unfold tk; rw [if_neg (by omega)]
  have p := pWord_of (n := n) (t := t) (C := C) (i := 0) (k' := n) (fun j hj => ?_) (by rw [Nat.zero_add, t0]; decide) 6 0 (by omega) (by omega)
  · unfold pW
    rw [p, e]
    dsimp only
    rw [if_neg (by omega), Nat.zero_add, t0, if_neg (by decide), if_pos rfl, h3]
  · rw [e, Nat.zero_add]
    have hx := h2 j hj
    refine ⟨?_, hx⟩
    unfold wNx at hx
    have hx := of_decide_eq_true hx
    unfold tk
    rw [if_pos hj]
    exact lb_tk hx.1
theorem pW_ok' {k : Nat} {b : Bool} (h : pW n t C 0 = .inr (k, b)) (h0 : tk n t k = 0) (hk : 1 ≤ k ∧ k ≤ 4) : wOk C (fun j => lb C (t j)) n = b ∧ k = n := by
  have e : (fun j => lb C (t (0 + j))) = fun j => lb C (t j) := by funext j; rw [Nat.zero_add]
  unfold pW at h
  cases hp : pWord n t C 0 6 0 with
  | inl e => rw [hp] at h; cases h
  | inr k' =>
    rw [hp, e] at h
    dsimp only at h
    by_cases k0 : k' = 0
    · rw [if_pos k0] at h; cases h
    rw [if_neg k0, Nat.zero_add] at h
    have hkk : k' = k ∧ b = wCl C (fun j => lb C (t j)) k' := by
      by_cases t3 : tk n t k' = 3
      · rw [if_pos t3] at h
        by_cases w : wCl C (fun j => lb C (t j)) k' = true
        · rw [if_pos w] at h
          injection h with h
          exact ⟨congrArg Prod.fst h, by rw [w]; exact (congrArg Prod.snd h).symm⟩
        · rw [if_neg w] at h; cases h
      · rw [if_neg t3] at h
        by_cases t0 : tk n t k' = 0
        · rw [if_pos t0] at h
          injection h with h
          exact ⟨congrArg Prod.fst h, (congrArg Prod.snd h).symm⟩
        · rw [if_neg t0] at h; cases h
    obtain ⟨rfl, hb⟩ := hkk
    obtain ⟨-, hj⟩ := pWord_inr 6 0 k' hp
    have kn : k' = n := by
      have a : ¬ k' < n := fun y => by
        unfold tk at h0
        rw [if_pos y] at h0
        have := tkc_le (t k')
        omega
      have b := hj (k' - 1) (by omega) (by omega)
      have := tk_lt' b.1 (by decide)
      omega
    refine ⟨?_, kn⟩
    subst kn
    rw [hb]
    unfold wOk
    rw [decide_eq_true hk, Bool.true_and]
    have ja : jall k' (fun k => wNx C (fun j => lb C (t j)) k (lb C (t k))) = true := by
      rw [jall_iff]
      intro j hj'
      have := (hj j (by omega) hj').2
      rw [e, Nat.zero_add] at this
      exact this
    rw [ja, Bool.true_and]
end PWD
/-- the word of the tape, or none -/
theorem jx_word0 (h : jRX x T (jMk md M.2.2)) {T0 : ST} (hM : ∀ a, md a = true → a < M0.1) (hE : jExt md c s M0 M) (hW : jWf (sC T)) (hp : 0 < cP (sC T)) (hN : 1000 < N) {its : Option Nat} {tp pa im : Nat} {tf : Nat → Int32} {pf mf : Nat → Option Nat} (hA : jXA x T its tp pa im tf pf mf (jMk md M.2.2)) {n : Nat} {t : Nat → Nat} (hn : n ≤ 90) (hb : ∀ j, j < n → tf j = tB (t j) ∧ t j < 256) :
    jo (jf_X0_word N x (nI n)) M (fun r M1 => jSub (jMk md M.2.2) (jMk md M1.2.2) ∧ jExt md (c + 4) (s + 19) M0 M1 ∧ (if wOk (sC T) (fun j => lb (sC T) (t j)) n = true then ∃ w g, r = some w ∧ jMk md M1.2.2 w = some (aI 0 n g) ∧ n ≤ 4 ∧ wLs (sC T) (fun j => lb (sC T) (t j)) n ∧ ∀ j, j < n → g j = iI (lDec (lb (sC T) (t j))) else r = none)) := by
  obtain ⟨q, rfl, hq⟩ := hA.ge hp
  unfold jf_X0_word
  refine jX_al (hE.md hM) hE fun q1 M1 n1 _ e1 E1 => ?_
  have s1 : jSub (jMk md M.2.2) (jMk md M1.2.2) := by rw [e1]; exact jSub.new n1
  refine jo_fR (mkg (s1 _ _ hA.ob)).2 (by decide) rfl (jo_bd ?_)
  unfold jf_X2_init
  refine jX_put (by rw [e1, va_up_self]) (by decide) (by simp) E1 (fun M2 e2 E2 => ?_)
  refine jX_put (by rw [e2, va_up_self]) (by decide) (by simp) E2 (fun M3 e3 E3 => jo_ret ?_)
  have s3 : jSub (jMk md M.2.2) (jMk md M3.2.2) := by rw [e3, e2, e1, va_up2, va_up2]; exact jSub.new n1
  have o3 : jMk md M3.2.2 q1 = some (jRq tp n 0) := by rw [e3, va_up_self]; rfl
  have ht3 : jRt tp n t (jMk md M3.2.2) := ⟨tf, s3 _ _ hA.tape, hn, hb⟩
  obtain ⟨eA, fA, cA, b1, ⟨er, b2, b4⟩, -, -⟩ := hq
  have ep : jEp eA (cE (sC T)) (sC T) (jMk md M3.2.2) := ⟨er, s3 _ _ b2, Nat.le_refl _, hW.2.1, fun e he => (b4 e he).elim fun a g => ⟨a, g.1, s3 _ _ g.2⟩⟩
  refine jo_fR (mkg (s3 _ _ hA.ob)).2 (by decide) rfl (jo_fR (mkg (s3 _ _ b1)).2 (by decide) rfl ?_)
  refine jo_fR (mkg (s3 _ _ hA.ob)).2 (by decide) rfl (jo_fR (mkg (s3 _ _ b1)).2 (by decide) rfl (jo_len (mkg (s3 _ _ b2)).2 rfl ?_))
  refine jo_cl (mkg o3).2 (jX_word hM E3 o3 ht3 ep hW (by omega) (by omega) (fun e hp qf M4 h4 => ?_) (fun k b hp r M4 hr ⟨o4, s4, E4⟩ hk => ?_))
  · refine jo_ret ⟨h4.2.1.sub s3 n1, h4.2.2.mono (by omega) (by show s + 3 + 16 ≤ _; omega), ?_⟩
    rw [if_neg (fun y => by rw [pW_ok y] at hp; cases hp)]
  · have hle : tk n t (0 + k) ≤ 4 := by unfold tk; split; exact (tkc_le _).1; omega
    refine jo_cl (mkg o4).2 (jo_eq (jx_token (mkg o4).2 ((ht3.sq o3 s4).sub jMk.sub) (by omega)) ?_)
    have sub4 : jSub (jMk md M.2.2) (jMk md M4.2.2) := s4.sub s3 n1
    have E4' := E4.mono (show c + 1 + 2 ≤ c + 4 by omega) (show s + 3 + 8 ≤ s + 19 by omega)
    by_cases t0 : tk n t (0 + k) = 0
    · have t0' : tk n t k = 0 := by rw [Nat.zero_add] at t0; exact t0
      obtain ⟨w1, rfl⟩ := pW_ok' hp t0' ⟨hk.1, hk.2.1⟩
      refine jo_t (by rw [t0]; rfl) (jo_ret ⟨sub4, E4', ?_⟩)
      rw [w1]
      cases b with
      | false => rw [if_neg (by decide)] at hr ⊢; exact hr
      | true =>
        rw [if_pos rfl] at hr ⊢
        obtain ⟨w, g, rfl, g1, g2⟩ := hr
        refine ⟨w, g, rfl, g1, hk.2.1, fun j hj => ?_, fun j hj => ?_⟩
        · have := hk.2.2 j hj
          simp only [Nat.zero_add] at this
          exact this
        · have := g2 j hj
          rw [Nat.zero_add] at this
          exact this
    · refine jo_f (show ¬ nI (tk n t (0 + k)) = nI 0 by rw [nI_eq (by omega) (by omega)]; exact t0) (jo_ret ⟨sub4, E4', ?_⟩)
      rw [if_neg (fun y => ?_)]
      rw [pW_ok y] at hp
      injection hp with hp
      have := congrArg Prod.fst hp
      dsimp only at this
      subst this
      refine t0 ?_
      unfold tk
      rw [if_neg (by omega)]
theorem jx_face (h : jRX x T (jMk md M.2.2)) (hM : ∀ a, md a = true → a < M0.1) (hE : jExt md c s M0 M) (hW : jWfS T) (hN : 1000 < N) {w : Int32} : jo (jf_X0_face N x w) M (jOX x md (c + 8) (s + 31) M0 (oFace T w)) := by
  obtain ⟨its, tp, pa, im, tf, pf, mf, h⟩ := h
  have w1 := hW.1
  have w6 := hW.2.2.2.2.2.1
  have w7 := hW.2.2.2.2.2.2.1
  have f4 := w1.2.2.1
  unfold jf_X0_face
  refine jo_fI (mkg h.ob).2 (by decide) rfl (jX_put h.ob (by decide) (by simp) hE (fun M1 e1 E1 => ?_))
  have x1 : jMk md M1.2.2 x = some (.inr (0, xVals its tp 0 (sFault T) pa (sActs T) im)) := by rw [e1, va_up_self]; rfl
  have sx1 : jSq x (jMk md M.2.2) (jMk md M1.2.2) := by rw [e1]; exact jSq.up
  have hA : jXA x (sT0 T) its tp pa im tf pf mf (jMk md M1.2.2) := h.re (T' := sT0 T) sx1 x1 (h.cx.kp (sx1.kp h.ob)) (fun i hi => absurd hi (Nat.not_lt_zero _)) (fun i hi => ⟨hi, rfl⟩) (fun _ => rfl)
  have hR : jRX x (sT0 T) (jMk md M1.2.2) := ⟨its, tp, pa, im, tf, pf, mf, hA⟩
  have hW0 := jWfS_0 hW
  have E1' := E1.mono (show c ≤ c + 8 by omega) (show s ≤ s + 31 by omega)
  unfold oFace
  refine jo_fQ (r := its) (mkg x1).2 (by decide) rfl ?_
  have hcx := hA.cx
  cases its with
  | none =>
    have z : cP (sC T) = 0 := hcx.1
    rw [if_pos (show ¬ 0 < cP (sC T) by omega)]
    exact jo_t rfl (jo_ret ⟨rfl, hR, E1'⟩)
  | some q =>
    obtain ⟨hp, hq⟩ : 0 < cP (sC T) ∧ jCx q (sC T) (jMk md M1.2.2) := hcx
    rw [if_neg (show ¬ ¬ 0 < cP (sC T) from fun y => y hp)]
    refine jo_ne (jo_cl (mkg x1).2 ?_)
    refine jo_bd (jo_mono (jx_word0 (T0 := T) hR hM E1 w1 hp hN hA (n := sTaped T) (t := sTape T) w6 (fun j hj => ⟨h.bytes j hj, w7 j hj⟩)) ?_)
    rintro r M2 ⟨s2, E2, hr⟩
    have hr : if wOk (sC T) (tLt T) (sTaped T) = true then ∃ w g, r = some w ∧ jMk md M2.2.2 w = some (aI 0 (sTaped T) g) ∧ sTaped T ≤ 4 ∧ wLs (sC T) (tLt T) (sTaped T) ∧ ∀ j, j < sTaped T → g j = iI (lDec (tLt T j)) else r = none := hr
    have E2' := E2.mono (show c + 4 ≤ c + 8 by omega) (show s + 19 ≤ s + 31 by omega)
    have hR2 := hR.sub s2
    refine jo_eq jx_isWeight ?_
    refine jo_bI (fun c4 => ?_) (fun c4 => ?_)
    · rw [if_pos (.inl c4)]; exact jo_ret ⟨rfl, hR2, E2'⟩
    by_cases ok : wOk (sC T) (tLt T) (sTaped T) = true
    case neg =>
      rw [if_neg ok] at hr
      subst hr
      refine jo_t rfl ?_
      rw [if_pos (.inr ok)]
      exact jo_ret ⟨rfl, hR2, E2'⟩
    rw [if_pos ok] at hr
    obtain ⟨wa, g, rfl, g1, g2, g3, g4⟩ := hr
    rw [if_neg (show ¬ (¬ (1 ≤ w.toInt ∧ w.toInt ≤ 3) ∨ ¬ wOk (sC T) (tLt T) (sTaped T) = true) from fun y => y.elim (fun z => z c4) (fun z => z ok))]
    have hq2 := hq.kp s2.kp
    have hq2' := hq2
    obtain ⟨eA, fA, cA, b1, -, ⟨fr, b3, b5⟩, -⟩ := hq2
    have x2 := s2 _ _ x1
    refine jo_ne (jo_fR (mkg x2).2 (by decide) rfl (jo_fR (mkg b1).2 (by decide) rfl (jo_len (mkg b3).2 rfl ?_)))
    by_cases c6 : cF (sC T) = 4
    · rw [if_pos c6]
      exact jo_t (show nI (cF (sC T)) = nI 4 by rw [c6]) (jo_ret ⟨rfl, hR2, E2'⟩)
    rw [if_neg c6]
    refine jo_f (show ¬ nI (cF (sC T)) = nI 4 by rw [nI_eq (by omega) (by omega)]; exact c6) ?_
    refine jo_fR (mkg x2).2 (by decide) rfl ?_
    obtain ⟨w', w2, rfl, w3⟩ := n_of (n := 3) (show 0 ≤ w.toInt by omega) c4.2 (by decide)
    rw [tn_nI (by omega)]
    have hl : wRg (sTaped T) (tLt T) := ⟨g2, fun j hj => by have := g3 j hj; have := w1.2.1; exact ⟨(g3 j hj).1, by omega, by omega⟩⟩
    refine jo_bd (jo_mono (jx_faceBy (w := w') hM E2 g1 g4 hl (by omega)) ?_)
    rintro r M3 ⟨fb, rfl, s3, E3, hfb⟩
    refine jo_cl (mkg (s3 _ _ b1)).2 ?_
    refine jo_bd (jo_mono (jx_withFace (C' := xFace (sC T) w' (sTaped T) (tLt T)) (f := cF (sC T)) hM E3 (hq2'.kp s3.kp) w1 (Nat.le_refl _) (by omega) hfb rfl ?_ ⟨rfl, rfl, rfl⟩ ⟨?_, ?_, ?_, ?_⟩) ?_)
    · rw [if_neg (by omega)]; rfl
    · show (if cF (sC T) = cF (sC T) then _ else _) = _
      rw [if_pos rfl]
    · show (if cF (sC T) = cF (sC T) then _ else _) = _
      rw [if_pos rfl]
    · show (fun k => if cF (sC T) = cF (sC T) then _ else _) = _
      simp only [if_true]
    · intro i hi ei
      refine ⟨?_, ?_, ?_⟩
      · show (if i = cF (sC T) then _ else _) = _
        rw [if_neg ei]
      · show (if i = cF (sC T) then _ else _) = _
        rw [if_neg ei]
      · show (fun k => if i = cF (sC T) then _ else _) = _
        simp only [if_neg ei]
    · rintro r M4 ⟨q', rfl, s4, E4, hq'⟩
      have s5 := s3.tr s4
      exact jo_cl (mkg (s5 _ _ x2)).2 (jx_acts E4 (hR2.sub s5) hW0 hN hp hq' hp (fun M5 h5 E5 _ => jo_ret ⟨rfl, h5, E5.mono (by omega) (by omega)⟩))
end CO
