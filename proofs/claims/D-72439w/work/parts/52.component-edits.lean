/-! PLAIN LAW, 52: the component writes; feed, undo, image, restore, act -/
/-- the heap without the model's cells -/
def jMk (md : Nat → Bool) (H : HM) : HM := fun a => if md a = true then none else H a
theorem mkg {md : Nat → Bool} {H : HM} {a : Nat} {e : CE} (h : jMk md H a = some e) : md a = false ∧ H a = some e := by
  unfold jMk at h
  by_cases c : md a = true
  · rw [if_pos c] at h; cases h
  · rw [if_neg c] at h; exact ⟨by simpa using c, h⟩
theorem jMk.sub {md : Nat → Bool} {H : HM} : jSub (jMk md H) H := fun _ _ h => (mkg h).2
theorem jMk.up {md : Nat → Bool} {H : HM} {a : Nat} {v : Option CE} (h : md a = false) : jMk md (va_up H a v) = va_up (jMk md H) a v := by
  funext b
  unfold jMk va_up
  by_cases c : b = a
  · subst c; simp [h]
  · simp [c]
theorem jKp.up {H : HM} {a : Nat} {e : CE} {v : Option CE} (h : H a = some e) (hg : jgd e = false) : jKp H (va_up H a v) := by
  intro b e' h1 h2
  rw [va_up_ne _ _ (fun c => ?_)]
  · exact h1
  · subst c
    rw [h] at h1
    cases h1
    rw [hg] at h2
    cases h2
/-- what a call may add, and what stays -/
def jExt (md : Nat → Bool) (c s : Nat) (M0 M : Mem) : Prop := M0.1 ≤ M.1 ∧ M.1 ≤ M0.1 + c ∧ M.2.1 ≤ M0.2.1 + s ∧ (∀ a, md a = true → M.2.2 a = M0.2.2 a) ∧ (∀ a, M.1 ≤ a → M.2.2 a = none)
theorem jExt.rf {md : Nat → Bool} {M : Mem} (hw : ∀ a, M.1 ≤ a → M.2.2 a = none) : jExt md 0 0 M M := ⟨Nat.le_refl _, by omega, by omega, fun _ _ => rfl, hw⟩
theorem jExt.mono {md : Nat → Bool} {c s c' s' : Nat} {M0 M : Mem} (h : jExt md c s M0 M) (h1 : c ≤ c') (h2 : s ≤ s') : jExt md c' s' M0 M := by
  obtain ⟨a, b, d, e, f⟩ := h
  exact ⟨a, by omega, by omega, e, f⟩
theorem jExt.tr {md : Nat → Bool} {c s c' s' : Nat} {M0 M M1 : Mem} (h : jExt md c s M0 M) (h' : jExt md c' s' M M1) : jExt md (c + c') (s + s') M0 M1 := by
  obtain ⟨a, b, d, e, f⟩ := h
  obtain ⟨a', b', d', e', f'⟩ := h'
  exact ⟨by omega, by omega, by omega, fun q hq => (e' q hq).trans (e q hq), f'⟩
theorem jExt.up {md : Nat → Bool} {c s : Nat} {M0 M : Mem} {a : Nat} {e : CE} {v : Option CE} (h : jExt md c s M0 M) (hm : md a = false) (ha : M.2.2 a = some e) : jExt md c s M0 (M.1, M.2.1, va_up M.2.2 a v) := by
  obtain ⟨h1, h2, h3, h4, h5⟩ := h
  refine ⟨h1, h2, h3, fun b hb => ?_, fun b hb => ?_⟩
  · rw [show (M.1, M.2.1, va_up M.2.2 a v).2.2 b = M.2.2 b from va_up_ne _ _ (fun x => by rw [x, hm] at hb; cases hb)]
    exact h4 b hb
  · have hb : M.1 ≤ b := hb
    rw [show (M.1, M.2.1, va_up M.2.2 a v).2.2 b = M.2.2 b from va_up_ne _ _ (fun x => by subst x; rw [h5 b hb] at ha; cases ha)]
    exact h5 b hb
section WR
variable {β : Type} {Q : β → Mem → Prop} {p : jm_P β} {md : Nat → Bool} {c s : Nat} {M0 M : Mem} {a : Nat}
theorem jX_wr {q : Mem → Option (Nat → Option CE)} {e : CE} {v : Option CE} (hq : q M = some (va_up M.2.2 a v)) (h : jMk md M.2.2 a = some e) (hE : jExt md c s M0 M) (kk : ∀ M1, jMk md M1.2.2 = va_up (jMk md M.2.2) a v → jExt md c s M0 M1 → jo p M1 Q) : jo (jm_wr q p) M Q :=
  jo_wr hq (kk _ (jMk.up (mkg h).1) (hE.up (mkg h).1 (mkg h).2))
theorem jX_put {cs : List Nat} {k cl : Nat} {vs : List Value} {v : Value} (h : jMk md M.2.2 a = some (.inr (cl, vs))) (hc : cl ∈ cs) (hk : k < vs.length) (hE : jExt md c s M0 M) (kk : ∀ M1, jMk md M1.2.2 = va_up (jMk md M.2.2) a (some (.inr (cl, vs.set k v))) → jExt md c s M0 M1 → jo p M1 Q) : jo (jm_wr (jm_put cs k v (some a)) p) M Q := by
  refine jX_wr ?_ h hE kk
  unfold jm_put
  simp only [(mkg h).2, if_pos (show cl ∈ cs ∧ k < vs.length from ⟨hc, hk⟩)]
theorem jX_stI {kd n j : Nat} {f : Nat → Int32} {i x : Int32} (h : jMk md M.2.2 a = some (aI kd n f)) (hi : i = nI j) (hj : j < n) (hn : n < 2 ^ 31) (hE : jExt md c s M0 M) (kk : ∀ M1, jMk md M1.2.2 = va_up (jMk md M.2.2) a (some (aI kd n (upd f j x))) → jExt md c s M0 M1 → jo p M1 Q) : jo (jm_wr (jm_stI kd (some a) i x) p) M Q := by
  subst hi
  exact jX_wr (ji_st (mkg h).2 (jm_ixn hj hn)) h hE kk
theorem jX_stR {kd n j : Nat} {f : Nat → Option Nat} {i : Int32} {cs : List Nat} {ka r : Option Nat} (h : jMk md M.2.2 a = some (aR kd n f)) (hi : i = nI j) (hj : j < n) (hn : n < 2 ^ 31) (hf : jm_fit cs ka r M = true) (hE : jExt md c s M0 M) (kk : ∀ M1, jMk md M1.2.2 = va_up (jMk md M.2.2) a (some (aR kd n (va_up f j r))) → jExt md c s M0 M1 → jo p M1 Q) : jo (jm_wr (jm_stR kd cs ka (some a) i r) p) M Q := by
  subst hi
  refine jX_wr ?_ h hE kk
  unfold jm_stR jm_ar
  simp only [(mkg h).2, if_true, jm_ixn hj hn, if_pos hf]
  unfold jm_sto
  simp only []
/-- a new cell -/
theorem jX_al {e : CE} {k : Nat → jm_P β} (hM : ∀ a, md a = true → a < M.1) (hE : jExt md c s M0 M) (kk : ∀ (a : Nat) M1, jMk md M.2.2 a = none → M1.1 = M.1 + 1 → jMk md M1.2.2 = va_up (jMk md M.2.2) a (some e) → jExt md (c + 1) (s + jm_sz e) M0 M1 → jo (k a) M1 Q) : jo (jm_al e k) M Q := by
  have hm : md M.1 = false := by
    cases h : md M.1
    · rfl
    · exact absurd (hM _ h) (by omega)
  obtain ⟨h1, h2, h3, h4, h5⟩ := hE
  refine jo_al (kk M.1 (jm_new e M) ?_ rfl (jMk.up hm) ⟨?_, ?_, ?_, fun b hb => ?_, fun b hb => ?_⟩)
  · unfold jMk; rw [h5 _ (Nat.le_refl _)]; split <;> rfl
  · show M0.1 ≤ M.1 + 1; omega
  · show M.1 + 1 ≤ _; omega
  · show M.2.1 + _ ≤ _; omega
  · show va_up M.2.2 M.1 (some e) b = _
    rw [va_up_ne _ _ (fun x => by rw [x, hm] at hb; cases hb)]
    exact h4 b hb
  · have hb : M.1 + 1 ≤ b := hb
    show va_up M.2.2 M.1 (some e) b = _
    rw [va_up_ne _ _ (by omega)]
    exact h5 b (by omega)
end WR
/-- the component's answer to an act -/
def jOX (x : Nat) (md : Nat → Bool) (c s : Nat) (M0 : Mem) (o : Int32 × ST) : Int32 → Mem → Prop := fun r M' => r = o.1 ∧ jRX x o.2 (jMk md M'.2.2) ∧ jExt md c s M0 M'
theorem jXA.df {x : Nat} {T : ST} {its : Option Nat} {tp pa im : Nat} {tf : Nat → Int32} {pf mf : Nat → Option Nat} {H : HM} (h : jXA x T its tp pa im tf pf mf H) : (x ≠ tp ∧ x ≠ pa ∧ x ≠ im) ∧ (tp ≠ pa ∧ tp ≠ im) ∧ pa ≠ im := by
  refine ⟨⟨fun e => ?_, fun e => ?_, fun e => ?_⟩, ⟨fun e => ?_, fun e => ?_⟩, h.ne⟩
  · have := h.ob; rw [e, h.tape] at this; cases this
  · have := h.ob; rw [e, h.past] at this; cases this
  · have := h.ob; rw [e, h.imgs] at this; cases this
  · have := h.tape; rw [e, h.past] at this; cases this
  · have := h.tape; rw [e, h.imgs] at this; cases this
section XE
variable {N x : Nat} {md : Nat → Bool} {c s : Nat} {M0 M : Mem} {T : ST}
theorem jx_feed (h : jRX x T (jMk md M.2.2)) (hE : jExt md c s M0 M) (hW : jWfS T) {v : Int32} : jo (jf_X0_feed N x v) M (jOX x md c s M0 (oFeed T v)) := by
  have hR := h
  obtain ⟨its, tp, pa, im, tf, pf, mf, h⟩ := h
  obtain ⟨⟨d1, d2, d3⟩, ⟨d4, d5⟩, d6⟩ := h.df
  have w6 := hW.2.2.2.2.2.1
  unfold jf_X0_feed oFeed
  refine jo_eq (in32X (a := 0) (b := 255) rfl rfl) ?_
  refine jo_bI (fun c1 => ?_) (fun c1 => ?_)
  · rw [if_pos c1]; exact jo_ret ⟨rfl, hR, hE⟩
  rw [if_neg (show ¬ ¬ (0 ≤ v.toInt ∧ v.toInt ≤ 255) from fun y => y c1)]
  refine jo_fI (mkg h.ob).2 (by decide) rfl ?_
  by_cases c2 : sTaped T = 90
  · rw [if_pos c2]
    exact jo_t (show nI (sTaped T) = nI 90 by rw [c2]) (jo_ret ⟨rfl, hR, hE⟩)
  rw [if_neg c2]
  refine jo_f (show ¬ nI (sTaped T) = nI 90 by rw [nI_eq (by omega) (by omega)]; exact c2) ?_
  refine jo_fR (mkg h.ob).2 (by decide) rfl (jo_fI (mkg h.ob).2 (by decide) rfl ?_)
  refine jX_put h.ob (by decide) (by simp) hE (fun M1 e1 E1 => ?_)
  refine jX_stI (kd := 1) (n := 90) (f := tf) (j := sTaped T) (a := tp) (by rw [e1, va_up_ne _ _ (Ne.symm d1)]; exact h.tape) rfl (by omega) (by decide) E1 (fun M2 e2 E2 => ?_)
  have o2 : jMk md M2.2.2 x = some (.inr (0, xVals its tp (sTaped T + 1) (sFault T) pa (sActs T) im)) := by
    rw [e2, va_up_ne _ _ d1, e1, va_up_self, nI_1]; rfl
  have k2 : jKp (jMk md M.2.2) (jMk md M2.2.2) := by
    rw [e2]
    refine jKp.tr (B := jMk md M1.2.2) (by rw [e1]; exact jKp.up h.ob rfl) (jKp.up (e := aI 1 90 tf) ?_ rfl)
    rw [e1, va_up_ne _ _ (Ne.symm d1)]; exact h.tape
  refine jo_fI (mkg o2).2 (by decide) rfl (jo_ret ⟨rfl, ⟨its, tp, pa, im, upd tf (sTaped T) ((v.toInt8.toInt32).toInt8.toInt32), pf, mf, o2, ?_, ?_, ?_, d6, h.cx.kp k2, fun i hi => ?_, fun i hi => (h.olds i hi).elim fun q hq => ⟨q, hq.1, hq.2.kp k2⟩, fun k hk => (h.kept k hk).kp k2⟩, E2⟩)
  · rw [e2, va_up_self]
  · rw [e2, va_up_ne _ _ (Ne.symm d4), e1, va_up_ne _ _ (Ne.symm d2)]; exact h.past
  · rw [e2, va_up_ne _ _ (Ne.symm d5), e1, va_up_ne _ _ (Ne.symm d3)]; exact h.imgs
  · have hi : i < sTaped T + 1 := hi
    show upd tf (sTaped T) _ i = tB (va_up (sTape T) (sTaped T) (tn v) i)
    unfold upd va_up
    by_cases e : i = sTaped T
    · rw [if_pos e, if_pos e]
      obtain ⟨x', q1, rfl, q3⟩ := n_of (n := 255) c1.1 c1.2 (by decide)
      rw [tn_nI (by omega)]
      unfold tB
      simp
    · rw [if_neg e, if_neg e]
      exact h.bytes i (by omega)
theorem jx_undo (h : jRX x T (jMk md M.2.2)) (hE : jExt md c s M0 M) (hW : jWfS T) : jo (jf_X0_undo N x) M (jOX x md c s M0 (oUndo T)) := by
  have hR := h
  obtain ⟨its, tp, pa, im, tf, pf, mf, h⟩ := h
  obtain ⟨⟨d1, d2, d3⟩, ⟨d4, d5⟩, d6⟩ := h.df
  obtain ⟨-, -, w3, w4, -⟩ := hW
  unfold jf_X0_undo oUndo
  refine jo_fI (mkg h.ob).2 (by decide) rfl ?_
  by_cases c2 : sActs T = 0
  · rw [if_pos c2]
    exact jo_t (show nI (sActs T) = nI 0 by rw [c2]) (jo_ret ⟨rfl, hR, hE⟩)
  rw [if_neg c2]
  refine jo_f (show ¬ nI (sActs T) = nI 0 by rw [nI_eq (by omega) (by omega)]; exact c2) ?_
  refine jo_fR (mkg h.ob).2 (by decide) rfl (jo_fI (mkg h.ob).2 (by decide) rfl ?_)
  obtain ⟨q, hq1, hq2⟩ := h.olds (sActs T - 1) (by omega)
  refine jX_put h.ob (by decide) (by simp) hE (fun M1 e1 E1 => ?_)
  refine jo_ldR (n := 8) (f := pf) (j := sActs T - 1) (mkg (show jMk md M1.2.2 pa = some (aR 6 8 pf) by rw [e1, va_up_ne _ _ (Ne.symm d2)]; exact h.past)).2 (nI_sub (b := 1) (by omega)) (by omega) (by decide) ?_
  have o1 : jMk md M1.2.2 x = some (.inr (0, xVals its tp (sTaped T) (sFault T) pa (sActs T - 1) im)) := by
    rw [e1, va_up_self, show (nI (sActs T) - 1 : Int32) = nI (sActs T - 1) from nI_sub (b := 1) (by omega)]; rfl
  refine jX_put o1 (by decide) (by simp) E1 (fun M2 e2 E2 => ?_)
  have o2 : jMk md M2.2.2 x = some (.inr (0, xVals (pf (sActs T - 1)) tp (sTaped T) (sFault T) pa (sActs T - 1) im)) := by
    rw [e2, va_up_self]; rfl
  have k2 : jKp (jMk md M.2.2) (jMk md M2.2.2) := by
    rw [e2]
    exact jKp.tr (B := jMk md M1.2.2) (by rw [e1]; exact jKp.up h.ob rfl) (jKp.up o1 rfl)
  have ot : ∀ a, a ≠ x → jMk md M2.2.2 a = jMk md M.2.2 a := fun a ha => by rw [e2, va_up_ne _ _ ha, e1, va_up_ne _ _ ha]
  refine jo_fI (mkg o2).2 (by decide) rfl (jo_ret ⟨rfl, ⟨_, tp, pa, im, tf, pf, mf, o2, ?_, ?_, ?_, d6, ?_, h.bytes, fun i hi => ?_, fun k hk => (h.kept k hk).kp k2⟩, E2⟩)
  · rw [ot _ (Ne.symm d1)]; exact h.tape
  · rw [ot _ (Ne.symm d2)]; exact h.past
  · rw [ot _ (Ne.symm d3)]; exact h.imgs
  · rw [hq1]
    exact ⟨(w4 _ (by omega)).2, hq2.kp k2⟩
  · have hi : i < sActs T - 1 := hi
    obtain ⟨q', hq⟩ := h.olds i (by omega)
    exact ⟨q', hq.1, hq.2.kp k2⟩
theorem jx_image (h : jRX x T (jMk md M.2.2)) (hE : jExt md c s M0 M) {k : Int32} : jo (jf_X0_image N x k) M (jOX x md c s M0 (oImage T k)) := by
  have hR := h
  obtain ⟨its, tp, pa, im, tf, pf, mf, h⟩ := h
  obtain ⟨⟨d1, d2, d3⟩, ⟨d4, d5⟩, d6⟩ := h.df
  have hcx := h.cx
  unfold jf_X0_image oImage
  refine jo_eq (in32X (a := 0) (b := 1) rfl rfl) ?_
  refine jo_bI (fun c1 => ?_) (fun c1 => ?_)
  · rw [if_pos c1]; exact jo_ret ⟨rfl, hR, hE⟩
  rw [if_neg (show ¬ ¬ (0 ≤ k.toInt ∧ k.toInt ≤ 1) from fun y => y c1)]
  refine jo_fQ (r := its) (mkg h.ob).2 (by decide) rfl ?_
  cases its with
  | none =>
    rw [if_pos (show ¬ 0 < cP (sC T) by have := hcx.1; omega)]
    exact jo_t rfl (jo_ret ⟨rfl, hR, hE⟩)
  | some q =>
    obtain ⟨hp, hq⟩ : 0 < cP (sC T) ∧ jCx q (sC T) (jMk md M.2.2) := hcx
    rw [if_neg (show ¬ ¬ 0 < cP (sC T) from fun y => y hp)]
    refine jo_ne (jo_fR (mkg h.ob).2 (by decide) rfl (jo_fR (mkg h.ob).2 (by decide) rfl ?_))
    obtain ⟨k', q1, rfl, q3⟩ := n_of (n := 1) c1.1 c1.2 (by decide)
    rw [tn_nI (by omega)]
    have hf : jm_fit [9] none (some q) M = true := by
      obtain ⟨_, _, _, h1, -⟩ := hq
      unfold jm_fit
      simp only [(mkg h1).2]
      rfl
    refine jX_stR (n := 2) (j := k') h.imgs rfl (by omega) (by decide) hf hE (fun M1 e1 E1 => ?_)
    have k1 : jKp (jMk md M.2.2) (jMk md M1.2.2) := by rw [e1]; exact jKp.up h.imgs rfl
    have ot : ∀ a, a ≠ im → jMk md M1.2.2 a = jMk md M.2.2 a := fun a ha => by rw [e1, va_up_ne _ _ ha]
    refine jo_ret ⟨rfl, ⟨some q, tp, pa, im, tf, pf, va_up mf k' (some q), ?_, ?_, ?_, ?_, d6, ⟨hp, hq.kp k1⟩, h.bytes, fun i hi => (h.olds i hi).elim fun q hq => ⟨q, hq.1, hq.2.kp k1⟩, fun i hi => ?_⟩, E1⟩
    · rw [ot _ d3]; exact h.ob
    · rw [ot _ d5]; exact h.tape
    · rw [ot _ d6]; exact h.past
    · rw [e1, va_up_self]
    · show jImg (va_up mf k' (some q) i) (va_up (sImg T) k' (some (sC T)) i) _
      unfold va_up
      by_cases e : i = k'
      · rw [if_pos e, if_pos e]; exact ⟨q, rfl, hq.kp k1⟩
      · rw [if_neg e, if_neg e]; exact (h.kept i hi).kp k1
theorem jx_restore (h : jRX x T (jMk md M.2.2)) (hE : jExt md c s M0 M) (hW : jWfS T) {k : Int32} : jo (jf_X0_restore N x k) M (jOX x md c s M0 (oRestore T k)) := by
  have hR := h
  obtain ⟨its, tp, pa, im, tf, pf, mf, h⟩ := h
  obtain ⟨⟨d1, d2, d3⟩, ⟨d4, d5⟩, d6⟩ := h.df
  have w5 := hW.2.2.2.2.1
  unfold jf_X0_restore oRestore
  refine jo_eq (in32X (a := 0) (b := 1) rfl rfl) ?_
  refine jo_bI (fun c1 => ?_) (fun c1 => ?_)
  · rw [if_pos c1]; exact jo_ret ⟨rfl, hR, hE⟩
  rw [if_neg (show ¬ ¬ (0 ≤ k.toInt ∧ k.toInt ≤ 1) from fun y => y c1)]
  obtain ⟨k', q1, rfl, q3⟩ := n_of (n := 1) c1.1 c1.2 (by decide)
  rw [tn_nI (by omega)]
  refine jo_fR (mkg h.ob).2 (by decide) rfl (jo_ldR (mkg h.imgs).2 rfl (by omega) (by decide) ?_)
  have hk := h.kept k' (by omega)
  cases hi : sImg T k' with
  | none =>
    rw [hi] at hk
    have hk : mf k' = none := hk
    rw [hk]
    exact jo_t rfl (jo_ret ⟨rfl, hR, hE⟩)
  | some C =>
    rw [hi] at hk
    obtain ⟨q, hq1, hq2⟩ := hk
    rw [hq1]
    refine jo_ne (jo_fR (mkg h.ob).2 (by decide) rfl (jo_ldR (mkg h.imgs).2 rfl (by omega) (by decide) ?_))
    rw [hq1]
    refine jX_put h.ob (by decide) (by simp) hE (fun M1 e1 E1 => ?_)
    have o1 : jMk md M1.2.2 x = some (.inr (0, xVals (some q) tp (sTaped T) (sFault T) pa (sActs T) im)) := by
      rw [e1, va_up_self]; rfl
    refine jX_put o1 (by decide) (by simp) E1 (fun M2 e2 E2 => ?_)
    have o2 : jMk md M2.2.2 x = some (.inr (0, xVals (some q) tp (sTaped T) (sFault T) pa 0 im)) := by
      rw [e2, va_up_self]; rfl
    have k2 : jKp (jMk md M.2.2) (jMk md M2.2.2) := by
      rw [e2]
      exact jKp.tr (B := jMk md M1.2.2) (by rw [e1]; exact jKp.up h.ob rfl) (jKp.up o1 rfl)
    have ot : ∀ a, a ≠ x → jMk md M2.2.2 a = jMk md M.2.2 a := fun a ha => by rw [e2, va_up_ne _ _ ha, e1, va_up_ne _ _ ha]
    refine jo_ret ⟨rfl, ⟨some q, tp, pa, im, tf, pf, mf, o2, ?_, ?_, ?_, d6, ⟨(w5 k' C (by omega) hi).2, hq2.kp k2⟩, h.bytes, fun i hi => absurd (show i < 0 from hi) (by omega), fun k hk => (h.kept k hk).kp k2⟩, E2⟩
    · rw [ot _ (Ne.symm d1)]; exact h.tape
    · rw [ot _ (Ne.symm d2)]; exact h.past
    · rw [ot _ (Ne.symm d3)]; exact h.imgs
end XE
