/-! PLAIN LAW, 43: words, face: the model -/
/-- a byte as a letter of a complex: the edge and 1, below 0 backward, 0: none -/
def lb (C : CX) (c : Nat) : Int := if 97 ≤ c ∧ c ≤ 122 then (if c - 97 < cE C then (c - 97 : Nat) + 1 else 0) else if 65 ≤ c ∧ c ≤ 90 then (if c - 65 < cE C then -((c - 65 : Nat) + 1) else 0) else 0
theorem lb_rg {C : CX} (hW : jWf C) (c : Nat) : -(cE C : Int) ≤ lb C c ∧ lb C c ≤ (cE C : Int) := by
  unfold lb
  split
  · split <;> omega
  · split
    · split <;> omega
    · omega
/-- the point where a letter begins, ends -/
def lBp (C : CX) (L : Int) : Nat := cEd C (lEd L) (if L < 0 then 1 else 0)
def lFp (C : CX) (L : Int) : Nat := cEd C (lEd L) (if L < 0 then 0 else 1)
/-- whether a letter can stand at place k of a word whose letters are L -/
def wNx (C : CX) (L : Nat → Int) (k : Nat) (x : Int) : Bool := decide (x ≠ 0 ∧ k < 4 ∧ (k = 0 ∨ lFp C (L (k - 1)) = lBp C x))
def wCl (C : CX) (L : Nat → Int) (n : Nat) : Bool := decide (0 < n ∧ lFp C (L (n - 1)) = lBp C (L 0))
/-- whether n letters are a closed word -/
def wOk (C : CX) (L : Nat → Int) (n : Nat) : Bool := decide (1 ≤ n ∧ n ≤ 4) && jall n (fun k => wNx C L k (L k)) && wCl C L n
def jEdg (C : CX) (b : Nat → Int32) : Prop := b 1 = nI (cE C) ∧ ∀ e w, e < cE C → w < 3 → b (3 + 3 * e + w) = nI (cEd C e w)
/-- a row with a word at the place of face f -/
def jwd (b : Nat → Int32) (f n : Nat) (L : Nat → Int) : Nat → Int32 := fun j => if j = 22 + 6 * f then nI n else if 23 + 6 * f ≤ j ∧ j < 23 + 6 * f + n then iI (L (j - (23 + 6 * f))) else b j
theorem jEdg_wd {C : CX} {b : Nat → Int32} (hW : jWf C) (h : jEdg C b) {f n : Nat} {L : Nat → Int} : jEdg C (jwd b f n L) := by
  have := hW.2.1
  refine ⟨?_, fun e w he hw => ?_⟩
  · unfold jwd; rw [if_neg (by omega), if_neg (by omega)]; exact h.1
  · unfold jwd; rw [if_neg (by omega), if_neg (by omega)]; exact h.2 e w he hw
theorem jEnc.edg {C : CX} {b : Nat → Int32} (h : jEnc C b) : jEdg C b := ⟨h.2.1, h.2.2.2.1⟩
theorem lEd_lt {C : CX} {L : Int} (h0 : L ≠ 0) (h1 : -(cE C : Int) ≤ L) (h2 : L ≤ (cE C : Int)) : lEd L < cE C := by unfold lEd; split <;> omega
section WD
variable {N m a n : Nat} {ad : Nat → Nat} {M0 M : Mem} {S : MS} {C : CX} {T : ST} {b : Nat → Int32}
theorem jr_told (h : M.2.2 a = some (.inl (0, 63, .inl b))) (hb : jEdg C b) (hW : jWf C) {c : Nat} (hc : c < 256) : (jf_X1_told N (some a) (nI c)).1 M = some (iI (lb C c), M) := by
  have h6 := hW.2.1
  refine jo_out ?_
  have tail : ∀ t : Nat, t < 300 → jo (jf_X1_told_j44 N (some a) (nI c) (nI t)) M (fun r M' => r = (if t < cE C then (if 97 ≤ c ∧ c ≤ 122 then iI ((t : Int) + 1) else iI (-((t : Int) + 1))) else iI 0) ∧ M' = M) := by
    intro t ht
    unfold jf_X1_told_j44
    refine jo_rd (jr_ld h (j := 1) rfl (by decide) (by decide)) ?_
    rw [hb.1]
    by_cases g : t < cE C
    · rw [if_pos g]
      refine jo_t (by rw [nI_ltI (by omega) (by omega)]; exact g) (jo_eq (in32 (a := 97) (b := 122) rfl rfl) ?_)
      rw [nI_toInt (by omega)]
      refine jo_bI (fun g2 => ?_) (fun g2 => ?_)
      · rw [if_neg (by omega), nI_iI, iI_neg, show (1 : Int32) = iI 1 from rfl, iI_sub]
        exact jo_ret ⟨congrArg iI (by omega), rfl⟩
      · rw [if_pos (by omega), nI_iI, show (1 : Int32) = iI 1 from rfl, iI_add]
        exact jo_ret ⟨rfl, rfl⟩
    · rw [if_neg g]
      exact jo_f (by rw [nI_ltI (by omega) (by omega)]; exact g) (jo_ret ⟨rfl, rfl⟩)
  unfold jf_X1_told
  refine jo_eq (in32 (a := 97) (b := 122) rfl rfl) ?_
  rw [nI_toInt (by omega)]
  unfold lb
  refine jo_bI (fun g1 => ?_) (fun g1 => ?_)
  · rw [if_neg (by omega)]
    refine jo_eq (in32 (a := 65) (b := 90) rfl rfl) ?_
    rw [nI_toInt (by omega)]
    refine jo_bI (fun g2 => ?_) (fun g2 => ?_)
    · rw [if_neg (by omega)]
      refine jo_mono (tail 9 (by decide)) (fun r M' hr => ⟨?_, hr.2⟩)
      rw [hr.1, if_neg (by omega)]
    · rw [if_pos (by omega), show nI c - (65 : Int32) = nI (c - 65) from nI_sub (b := 65) (by omega)]
      refine jo_mono (tail (c - 65) (by omega)) (fun r M' hr => ⟨?_, hr.2⟩)
      rw [hr.1]
      by_cases g : c - 65 < cE C
      · rw [if_pos g, if_pos g, if_neg (by omega)]
      · rw [if_neg g, if_neg g]
  · rw [if_pos (by omega), show nI c - (97 : Int32) = nI (c - 97) from nI_sub (b := 97) (by omega)]
    refine jo_mono (tail (c - 97) (by omega)) (fun r M' hr => ⟨?_, hr.2⟩)
    rw [hr.1]
    by_cases g : c - 97 < cE C
    · rw [if_pos g, if_pos g, if_pos (by omega)]
    · rw [if_neg g, if_neg g]
theorem jr_bg (h : M.2.2 a = some (.inl (0, 63, .inl b))) (hb : jEdg C b) (hW : jWf C) {L : Int} (h0 : L ≠ 0) (h1 : -(cE C : Int) ≤ L) (h2 : L ≤ (cE C : Int)) : (jf_X1_beginOf N (some a) (iI L)).1 M = some (nI (lBp C L), M) := by
  have h6 := hW.2.1
  have hle := lEd_lt h0 h1 h2
  rw [jr_beginOf h (by decide) (by omega) (by omega) h0 (by unfold lBg; split <;> omega)]
  unfold lBg lBp
  rw [hb.2 _ _ hle (by split <;> omega)]
theorem jr_fn (h : M.2.2 a = some (.inl (0, 63, .inl b))) (hb : jEdg C b) (hW : jWf C) {L : Int} (h0 : L ≠ 0) (h1 : -(cE C : Int) ≤ L) (h2 : L ≤ (cE C : Int)) : (jf_X1_endOf N (some a) (iI L)).1 M = some (nI (lFp C L), M) := by
  have h6 := hW.2.1
  have hle := lEd_lt h0 h1 h2
  rw [jr_endOf h (by decide) (by omega) (by omega) h0 (by unfold lFn; split <;> omega)]
  unfold lFn lFp
  rw [hb.2 _ _ hle (by split <;> omega)]
theorem lBp_lt {C : CX} (hW : jWf C) {L : Int} (h0 : L ≠ 0) (h1 : -(cE C : Int) ≤ L) (h2 : L ≤ (cE C : Int)) : lBp C L < 6 ∧ lFp C L < 6 := by
  have hle := lEd_lt h0 h1 h2
  have := hW.2.2.2.1 _ hle
  have := hW.1
  unfold lBp lFp
  split <;> omega
/-- the letters laid so far -/
def wLs (C : CX) (L : Nat → Int) (n : Nat) : Prop := ∀ k, k < n → L k ≠ 0 ∧ -(cE C : Int) ≤ L k ∧ L k ≤ (cE C : Int)
theorem jr_isNext {f n : Nat} {L : Nat → Int} (h : M.2.2 a = some (.inl (0, 63, .inl (jwd b f n L)))) (hb : jEdg C b) (hW : jWf C) (hf : f < 4) (hn : n ≤ 4) (hL : wLs C L n) {x : Int} (h1 : -(cE C : Int) ≤ x) (h2 : x ≤ (cE C : Int)) : (jf_X1_isNext N (some a) (nI f) (iI x)).1 M = some (bI (wNx C L n x = true), M) := by
  have h6 := hW.2.1
  have hb2 : jEdg C (jwd b f n L) := jEdg_wd hW hb
  have e1 : jwd b f n L (22 + 6 * f) = nI n := by unfold jwd; rw [if_pos rfl]
  refine jo_out ?_
  unfold jf_X1_isNext jf_X1_isNext_j39
  refine jo_eq (jr_many h (by decide) (by omega)) ?_
  rw [e1]
  by_cases g0 : x = 0
  · subst g0
    exact jo_t (by rfl) (jo_ret ⟨(bI_f (by simp [wNx])).symm, rfl⟩)
  refine jo_f (show ¬ iI x = iI 0 by rw [iI_eqI (by omega) (by omega)]; exact g0) ?_
  by_cases g1 : n = 4
  · exact jo_t (show nI 4 ≤ nI n by rw [nI_leI (by omega) (by omega)]; omega) (jo_ret ⟨(bI_f (by simp [wNx, g1])).symm, rfl⟩)
  refine jo_f (show ¬ nI 4 ≤ nI n by rw [nI_leI (by omega) (by omega)]; omega) ?_
  by_cases g2 : n = 0
  · subst g2
    exact jo_t (by rfl) (jo_ret ⟨(bI_t (by simp [wNx, g0])).symm, rfl⟩)
  refine jo_f (show ¬ nI n = nI 0 by rw [nI_eq (by omega) (by omega)]; exact g2) ?_
  have hl := hL (n - 1) (by omega)
  rw [show nI n - (1 : Int32) = nI (n - 1) from nI_sub (b := 1) (by omega)]
  refine jo_eq (jr_letter h (by decide) (by omega)) ?_
  have e2 : jwd b f n L (23 + 6 * f + (n - 1)) = iI (L (n - 1)) := by
    unfold jwd
    rw [if_neg (by omega), if_pos (by omega)]
    congr 2
    omega
  rw [e2]
  refine jo_eq (jr_fn h hb2 hW hl.1 hl.2.1 hl.2.2) (jo_eq (jr_bg h hb2 hW g0 h1 h2) ?_)
  have q1 := lBp_lt hW hl.1 hl.2.1 hl.2.2
  have q2 := lBp_lt hW g0 h1 h2
  by_cases g3 : lFp C (L (n - 1)) = lBp C x
  · exact jo_t (by rw [g3]) (jo_ret ⟨(bI_t (by simp [wNx, g0, g3]; omega)).symm, rfl⟩)
  · exact jo_f (by rw [nI_eq (by omega) (by omega)]; exact g3) (jo_ret ⟨(bI_f (by simp [wNx, g0, g2, g3])).symm, rfl⟩)
theorem jr_isClosed {f n : Nat} {L : Nat → Int} (h : M.2.2 a = some (.inl (0, 63, .inl (jwd b f n L)))) (hb : jEdg C b) (hW : jWf C) (hf : f < 4) (hn : n ≤ 4) (hL : wLs C L n) : (jf_X1_isClosed N (some a) (nI f)).1 M = some (bI (wCl C L n = true), M) := by
  have h6 := hW.2.1
  have hb2 : jEdg C (jwd b f n L) := jEdg_wd hW hb
  have e1 : jwd b f n L (22 + 6 * f) = nI n := by unfold jwd; rw [if_pos rfl]
  refine jo_out ?_
  unfold jf_X1_isClosed
  refine jo_eq (jr_many h (by decide) (by omega)) ?_
  rw [e1]
  by_cases g2 : n = 0
  · subst g2
    exact jo_t (show nI 0 ≤ nI 0 by decide +kernel) (jo_ret ⟨(bI_f (by simp [wCl])).symm, rfl⟩)
  refine jo_f (show ¬ nI n ≤ nI 0 by rw [nI_leI (by omega) (by omega)]; omega) ?_
  have hl := hL (n - 1) (by omega)
  have hz := hL 0 (by omega)
  rw [show nI n - (1 : Int32) = nI (n - 1) from nI_sub (b := 1) (by omega)]
  refine jo_eq (jr_letter h (by decide) (by omega)) ?_
  have e2 : ∀ k, k < n → jwd b f n L (23 + 6 * f + k) = iI (L k) := by
    intro k hk
    unfold jwd
    rw [if_neg (by omega), if_pos (by omega)]
    congr 2
    omega
  rw [e2 _ (by omega)]
  refine jo_eq (jr_fn h hb2 hW hl.1 hl.2.1 hl.2.2) (jo_eq (jr_letter (k := 0) h (by decide) (by omega)) ?_)
  rw [e2 0 (by omega)]
  refine jo_eq (jr_bg h hb2 hW hz.1 hz.2.1 hz.2.2) ?_
  have q1 := lBp_lt hW hl.1 hl.2.1 hl.2.2
  have q2 := lBp_lt hW hz.1 hz.2.1 hz.2.2
  by_cases g3 : lFp C (L (n - 1)) = lBp C (L 0)
  · exact jo_t (by rw [g3]) (jo_ret ⟨(bI_t (by simp [wCl, g3]; omega)).symm, rfl⟩)
  · exact jo_f (by rw [nI_eq (by omega) (by omega)]; exact g3) (jo_ret ⟨(bI_f (by simp [wCl, g3])).symm, rfl⟩)
theorem jwd_up {f n : Nat} {L : Nat → Int} {x : Int} (hx : L n = x) : upd (upd (jwd b f n L) (23 + 6 * f + n) (iI x)) (22 + 6 * f) (nI (n + 1)) = jwd b f (n + 1) L := by
  funext j
  by_cases c1 : j = 22 + 6 * f
  · rw [c1, upd_self]; unfold jwd; rw [if_pos rfl]
  · rw [upd_ne c1]
    by_cases c2 : j = 23 + 6 * f + n
    · rw [c2, upd_self]; unfold jwd; rw [if_neg (by omega), if_pos (by omega), Nat.add_sub_cancel_left, hx]
    · rw [upd_ne c2]
      unfold jwd
      rw [if_neg c1, if_neg c1]
      by_cases c3 : 23 + 6 * f ≤ j ∧ j < 23 + 6 * f + n
      · rw [if_pos c3, if_pos (show 23 + 6 * f ≤ j ∧ j < 23 + 6 * f + (n + 1) by omega)]
      · rw [if_neg c3, if_neg (show ¬ (23 + 6 * f ≤ j ∧ j < 23 + 6 * f + (n + 1)) by omega)]
theorem va_dr (S : MS) (f : Nat → Int32) : (va_up S.1 1 f, S.2).1 1 = f := va_up_self S.1 1 f
theorem jMM.dr2 {f g : Nat → Int32} (h : jMM m ad M0 (va_up (va_up S.1 1 f, S.2).1 1 g, (va_up S.1 1 f, S.2).2) M) : jMM m ad M0 (va_up S.1 1 g, S.2) M := by
  have e : va_up (va_up S.1 1 f, S.2).1 1 g = va_up S.1 1 g := va_up2 S.1 1 f g
  rw [e] at h
  exact h
theorem jM_dr (h : jMM m ad M0 S M) : M.2.2 (ad 1) = some (.inl (0, 63, .inl (S.1 1))) := h.1.2.1 1 (.inr (.inl rfl))
theorem jm_spells {f n : Nat} {L : Nat → Int} (h : jMM m ad M0 (va_up S.1 1 (jwd b f n L), S.2) M) (hf : f < 4) (hn : n < 4) {x : Int} (hx : L n = x) : jo (jf_X1_spells N (some (ad 1)) (nI f) (iI x)) M (fun _ M' => jMM m ad M0 (va_up S.1 1 (jwd b f (n + 1) L), S.2) M') := by
  have e1 : jwd b f n L (22 + 6 * f) = nI n := by unfold jwd; rw [if_pos rfl]
  unfold jf_X1_spells
  have hd := jM_dr h
  rw [va_dr] at hd
  refine jo_eq (jr_many hd (by decide) (by omega)) ?_
  rw [e1]
  have ex : (21 : Int32) + (6 : Int32) * nI f + (2 : Int32) + nI n = nI (23 + 6 * f + n) := by simp only [nI_lit, nI_mul, nI_add]; congr 1; omega
  have ey : (21 : Int32) + (6 : Int32) * nI f + (1 : Int32) = nI (22 + 6 * f) := by simp only [nI_lit, nI_mul, nI_add]; congr 1; omega
  rw [ex, ey]
  refine jM_stI h (k := 1) (.inr (.inl rfl)) rfl (j := 23 + 6 * f + n) (jm_ixn (by show _ < 63; omega) (by decide)) (fun M1 h1 => ?_)
  have h1 := h1.dr2
  rw [va_dr] at h1
  refine jo_rd (jM_ldI h1 (k := 1) (.inr (.inl rfl)) rfl (j := 22 + 6 * f) (jm_ixn (by show _ < 63; omega) (by decide))) ?_
  rw [va_dr, upd_ne (by omega), e1, nI_1]
  refine jM_stI h1 (k := 1) (.inr (.inl rfl)) rfl (j := 22 + 6 * f) (jm_ixn (by show _ < 63; omega) (by decide)) (fun M2 h2 => jo_ret ?_)
  have h2 := h2.dr2
  rw [va_dr, jwd_up hx] at h2
  exact h2
end WD
