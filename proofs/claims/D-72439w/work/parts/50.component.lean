/-! PLAIN LAW, 50: the component's cells -/
abbrev HM : Type := Nat → Option CE
abbrev aR (kd n : Nat) (f : Nat → Option Nat) : CE := .inl (kd, n, .inr (.inr (.inr (.inr f))))
abbrev aI (kd n : Nat) (f : Nat → Int32) : CE := .inl (kd, n, .inl f)
abbrev aJ (n : Nat) (f : Nat → Int64) : CE := .inl (2, n, .inr (.inl f))
abbrev jEdO (p q w : Nat) : CE := .inr (if p = q then 6 else 5, [.int (nI p), .int (nI q), .int (nI w)])
/-- a letter as the component holds it -/
def lDec (L : Int) : Int := if L < 0 then L else L - 1
def wTwo (l : Nat) (L : Nat → Int) (e : Nat) : Int := jsum l (fun k => lSg (L k) e)
def wSl (l : Nat) (L : Nat → Int) : Bool := jall 6 (fun e => decide (wTwo l L e = 0))
abbrev jFaO (s : Bool) (wa w : Nat) : CE := .inr (if s = true then 8 else 7, [.ref wa, .int (nI w)])
def jEs (eA n : Nat) (ed : Nat → Nat → Nat) (H : HM) : Prop := ∃ er, H eA = some (aR 4 n er) ∧ ∀ e, e < n → ∃ a, er e = some a ∧ H a = some (jEdO (ed e 0) (ed e 1) (ed e 2))
def jFa (a w l : Nat) (L : Nat → Int) (H : HM) : Prop := ∃ wa g, H a = some (jFaO (wSl l L) wa w) ∧ H wa = some (aI 0 l g) ∧ ∀ k, k < l → g k = iI (lDec (L k))
def jFs (fA n : Nat) (fw fl : Nat → Nat) (lt : Nat → Nat → Int) (H : HM) : Prop := ∃ fr, H fA = some (aR 5 n fr) ∧ ∀ f, f < n → ∃ a, fr f = some a ∧ jFa a (fw f) (fl f) (lt f) H
def jCs (cA n : Nat) (ch : Nat → Nat → Int) (H : HM) : Prop := ∃ cr, H cA = some (aR 12 3 cr) ∧ ∀ c, c < 3 → ∃ a g, cr c = some a ∧ H a = some (aI 0 6 g) ∧ ∀ e, e < 6 → g e = iI (if e < n then ch c e else 0)
/-- the object of a complex -/
def jCx (q : Nat) (C : CX) (H : HM) : Prop := ∃ eA fA cA, H q = some (.inr (9, [.int (nI (cP C)), .ref eA, .ref fA, .ref cA])) ∧ jEs eA (cE C) (cEd C) H ∧ jFs fA (cF C) (cFw C) (cFl C) (cLt C) H ∧ jCs cA (cE C) (cCh C) H
/-- cells that an act does not write -/
def jgd : CE → Bool
  | .inl x => x.1 == 0 || x.1 == 4 || x.1 == 5 || x.1 == 12
  | .inr o => o.1 == 5 || o.1 == 6 || o.1 == 7 || o.1 == 8 || o.1 == 9
def jKp (H H' : HM) : Prop := ∀ a e, H a = some e → jgd e = true → H' a = some e
theorem jKp.rf {H : HM} : jKp H H := fun _ _ h _ => h
theorem jKp.tr {A B C : HM} (h : jKp A B) (k : jKp B C) : jKp A C := fun a e h1 h2 => k a e (h a e h1 h2) h2
theorem jgd_ed {p q w : Nat} : jgd (jEdO p q w) = true := by unfold jgd; by_cases c : p = q <;> simp [c]
theorem jgd_fa {s : Bool} {wa w : Nat} : jgd (jFaO s wa w) = true := by unfold jgd; cases s <;> rfl
theorem jEs.kp {H H' : HM} (hk : jKp H H') {eA n : Nat} {ed : Nat → Nat → Nat} (h : jEs eA n ed H) : jEs eA n ed H' := by
  obtain ⟨er, h1, h2⟩ := h
  refine ⟨er, hk _ _ h1 rfl, fun e he => ?_⟩
  obtain ⟨a, h3, h4⟩ := h2 e he
  exact ⟨a, h3, hk _ _ h4 jgd_ed⟩
theorem jFa.kp {H H' : HM} (hk : jKp H H') {a w l : Nat} {L : Nat → Int} (h : jFa a w l L H) : jFa a w l L H' := by
  obtain ⟨wa, g, h1, h2, h3⟩ := h
  exact ⟨wa, g, hk _ _ h1 jgd_fa, hk _ _ h2 rfl, h3⟩
theorem jFs.kp {H H' : HM} (hk : jKp H H') {fA n : Nat} {fw fl : Nat → Nat} {lt : Nat → Nat → Int} (h : jFs fA n fw fl lt H) : jFs fA n fw fl lt H' := by
  obtain ⟨fr, h1, h2⟩ := h
  refine ⟨fr, hk _ _ h1 rfl, fun f hf => ?_⟩
  obtain ⟨a, h3, h4⟩ := h2 f hf
  exact ⟨a, h3, h4.kp hk⟩
theorem jCs.kp {H H' : HM} (hk : jKp H H') {cA n : Nat} {ch : Nat → Nat → Int} (h : jCs cA n ch H) : jCs cA n ch H' := by
  obtain ⟨cr, h1, h2⟩ := h
  refine ⟨cr, hk _ _ h1 rfl, fun c hc => ?_⟩
  obtain ⟨a, g, h3, h4, h5⟩ := h2 c hc
  exact ⟨a, g, h3, hk _ _ h4 rfl, h5⟩
theorem jCx.kp {H H' : HM} (hk : jKp H H') {q : Nat} {C : CX} (h : jCx q C H) : jCx q C H' := by
  obtain ⟨eA, fA, cA, h1, h2, h3, h4⟩ := h
  exact ⟨eA, fA, cA, hk _ _ h1 rfl, h2.kp hk, h3.kp hk, h4.kp hk⟩
/-! what is read of them -/
section CR
variable {N : Nat} {M : Mem} {C : CX}
theorem jo_fI {β : Type} {Q : β → Mem → Prop} {cs : List Nat} {k a c : Nat} {vs : List Value} {x : Int32} {p : Int32 → jm_P β} (h : M.2.2 a = some (.inr (c, vs))) (hc : c ∈ cs) (hv : vs[k]? = some (.int x)) (kk : jo (p x) M Q) : jo (jm_rd (jm_fI cs k (some a)) p) M Q := by
  refine jo_rd ?_ kk
  unfold jm_fI jm_fld
  simp only [h, if_pos hc, hv]
theorem jo_fJ {β : Type} {Q : β → Mem → Prop} {cs : List Nat} {k a c : Nat} {vs : List Value} {x : Int64} {p : Int64 → jm_P β} (h : M.2.2 a = some (.inr (c, vs))) (hc : c ∈ cs) (hv : vs[k]? = some (.long x)) (kk : jo (p x) M Q) : jo (jm_rd (jm_fJ cs k (some a)) p) M Q := by
  refine jo_rd ?_ kk
  unfold jm_fJ jm_fld
  simp only [h, if_pos hc, hv]
theorem jo_fR {β : Type} {Q : β → Mem → Prop} {cs : List Nat} {k a c : Nat} {vs : List Value} {x : Nat} {p : Option Nat → jm_P β} (h : M.2.2 a = some (.inr (c, vs))) (hc : c ∈ cs) (hv : vs[k]? = some (.ref x)) (kk : jo (p (some x)) M Q) : jo (jm_rd (jm_fR cs k (some a)) p) M Q := by
  refine jo_rd ?_ kk
  unfold jm_fR jm_fld
  simp only [h, if_pos hc, hv]
theorem jo_fN {β : Type} {Q : β → Mem → Prop} {cs : List Nat} {k a c : Nat} {vs : List Value} {p : Option Nat → jm_P β} (h : M.2.2 a = some (.inr (c, vs))) (hc : c ∈ cs) (hv : vs[k]? = some .null) (kk : jo (p none) M Q) : jo (jm_rd (jm_fR cs k (some a)) p) M Q := by
  refine jo_rd ?_ kk
  unfold jm_fR jm_fld
  simp only [h, if_pos hc, hv]
theorem jo_fQ {β : Type} {Q : β → Mem → Prop} {cs : List Nat} {k a c : Nat} {vs : List Value} {r : Option Nat} {p : Option Nat → jm_P β} (h : M.2.2 a = some (.inr (c, vs))) (hc : c ∈ cs) (hv : vs[k]? = some (va_rf r)) (kk : jo (p r) M Q) : jo (jm_rd (jm_fR cs k (some a)) p) M Q := by
  cases r with
  | none => exact jo_fN h hc hv kk
  | some x => exact jo_fR h hc hv kk
theorem jo_cl {β : Type} {Q : β → Mem → Prop} {a c : Nat} {vs : List Value} {p : Nat → jm_P β} (h : M.2.2 a = some (.inr (c, vs))) (kk : jo (p a) M Q) : jo (jm_rd (jm_cl c (some a)) p) M Q := by
  refine jo_rd ?_ kk
  unfold jm_cl
  simp only [h, if_true]
theorem jo_len {β : Type} {Q : β → Mem → Prop} {a kd n : Nat} {f : vp_A} {p : Int32 → jm_P β} (h : M.2.2 a = some (.inl (kd, f))) (hn : f.1 = n) (kk : jo (p (nI n)) M Q) : jo (jm_rd (jm_len kd (some a)) p) M Q := by
  subst hn
  refine jo_rd ?_ kk
  unfold jm_len jm_ar
  simp only [h, if_true]
  rfl
theorem jo_ldI {β : Type} {Q : β → Mem → Prop} {a kd n j : Nat} {f : Nat → Int32} {i : Int32} {p : Int32 → jm_P β} (h : M.2.2 a = some (aI kd n f)) (hi : i = nI j) (hj : j < n) (hn : n < 2 ^ 31) (kk : jo (p (f j)) M Q) : jo (jm_rd (jm_ldI kd (some a) i) p) M Q := by
  subst hi
  exact jo_rd (ji_ld h (jm_ixn hj hn)) kk
theorem jo_ldJ {β : Type} {Q : β → Mem → Prop} {a n j : Nat} {f : Nat → Int64} {i : Int32} {p : Int64 → jm_P β} (h : M.2.2 a = some (aJ n f)) (hi : i = nI j) (hj : j < n) (hn : n < 2 ^ 31) (kk : jo (p (f j)) M Q) : jo (jm_rd (jm_ldJ 2 (some a) i) p) M Q := by
  subst hi
  exact jo_rd (jl_ld h (jm_ixn hj hn)) kk
theorem jo_ldR {β : Type} {Q : β → Mem → Prop} {a kd n j : Nat} {f : Nat → Option Nat} {i : Int32} {p : Option Nat → jm_P β} (h : M.2.2 a = some (aR kd n f)) (hi : i = nI j) (hj : j < n) (hn : n < 2 ^ 31) (kk : jo (p (f j)) M Q) : jo (jm_rd (jm_ldR kd (some a) i) p) M Q := by
  subst hi
  exact jo_rd (jq_ld h (jm_ixn hj hn)) kk
/-- the class of an edge, of a face -/
theorem mem_56 (p q : Nat) : (if p = q then 6 else 5) ∈ [5, 6] := by by_cases c : p = q <;> simp [c]
theorem mem_78 (s : Bool) : (if s = true then 8 else 7) ∈ [7, 8] := by cases s <;> simp
theorem jx_many {q : Nat} (h : jCx q C M.2.2) (hW : jWf C) {d : Nat} (hd : d < 3) : (jf_X9_many N q (nI d)).1 M = some (nI (cMany C d), M) := by
  obtain ⟨eA, fA, cA, h1, ⟨er, h2, -⟩, ⟨fr, h3, -⟩, -⟩ := h
  refine jo_out ?_
  unfold jf_X9_many
  rcases (show d = 0 ∨ d = 1 ∨ d = 2 by omega) with rfl | rfl | rfl
  · exact jo_t (by rfl) (jo_fI h1 (by decide) rfl (jo_ret ⟨rfl, rfl⟩))
  · exact jo_f (by decide +kernel) (jo_t (by rfl) (jo_fR h1 (by decide) rfl (jo_len h2 rfl (jo_ret ⟨rfl, rfl⟩))))
  · exact jo_f (by decide +kernel) (jo_f (by decide +kernel) (jo_fR h1 (by decide) rfl (jo_len h3 rfl (jo_ret ⟨rfl, rfl⟩))))
theorem lDec_sg {L : Int} (h0 : L ≠ 0) (e : Nat) : (lDec L = (e : Int) ↔ lSg L e = 1) ∧ (lDec L = -1 - (e : Int) ↔ lSg L e = -1) := by
  unfold lDec lSg
  constructor <;> constructor <;> intro h <;> (repeat' split at *) <;> omega
theorem lDec_rg {L : Int} (h1 : -6 ≤ L) (h2 : L ≤ 6) : -6 ≤ lDec L ∧ lDec L ≤ 5 := by unfold lDec; split <;> omega
/-- the letters of a face are letters -/
def wRg (l : Nat) (L : Nat → Int) : Prop := l ≤ 4 ∧ ∀ k, k < l → L k ≠ 0 ∧ -6 ≤ L k ∧ L k ≤ 6
theorem jx_often {a w l : Nat} {L : Nat → Int} (h : jFa a w l L M.2.2) (hl : wRg l L) (hN : 100 < N) {e : Nat} (he : e < 100) : (jf_X7_often N a (nI e)).1 M = some (iI (wTwo l L e), M) := by
  obtain ⟨wa, g, h1, h2, h3⟩ := h
  refine jo_out ?_
  unfold jf_X7_often jf_X7_often_k14_59
  refine jo_fR h1 (mem_78 _) rfl (jo_len h2 rfl ?_)
  refine jo_eq (jl_sum (n := l) (fun k => lSg (L k) e) ?_ ?_ (by have := hl.1; omega)) (jo_ret ⟨rfl, rfl⟩)
  · intro k z hk
    have hL := hl.2 k hk
    have hs := lDec_sg hL.1 e
    have hr := lDec_rg hL.2.1 hL.2.2
    have hg := lSg_le (L k) e
    have hl4 := hl.1
    refine jo_out ?_
    unfold jf_X7_often_L14 jf_X7_often_j51
    refine jo_f (show ¬ nI l ≤ nI k by rw [nI_leI (by omega) (by omega)]; omega) ?_
    refine jo_ldI h2 rfl hk (by omega) ?_
    rw [h3 k hk]
    by_cases c1 : lDec (L k) = (e : Int)
    · refine jo_t (show iI _ = nI e by rw [nI_iI, c1]) (jo_ret ⟨?_, rfl⟩)
      show Sum.inl (iI z + iI 1, nI k + 1) = _
      rw [iI_add, nI_1, hs.1.mp c1]
    · refine jo_f (show ¬ iI _ = nI e by rw [nI_iI, iI_eqI (by omega) (by omega)]; exact c1) ?_
      have em : (-1 : Int32) - nI e = iI (-1 - (e : Int)) := by rw [nI_iI, show (-1 : Int32) = iI (-1) from rfl, iI_sub]
      rw [em]
      by_cases c2 : lDec (L k) = -1 - (e : Int)
      · refine jo_t (by rw [c2]) (jo_ret ⟨?_, rfl⟩)
        show Sum.inl (iI z + iI (-1), nI k + 1) = _
        rw [iI_add, nI_1, hs.2.mp c2]
      · refine jo_f (by rw [iI_eqI (by omega) (by omega)]; exact c2) (jo_ret ⟨?_, rfl⟩)
        have : lSg (L k) e = 0 := by
          have n1 : lSg (L k) e ≠ 1 := fun x => c1 (hs.1.mpr x)
          have n2 : lSg (L k) e ≠ -1 := fun x => c2 (hs.2.mpr x)
          omega
        show Sum.inl (iI z + iI 0, nI k + 1) = _
        rw [iI_add, nI_1, this]
  · intro z
    have hl4 := hl.1
    refine jo_out ?_
    unfold jf_X7_often_L14
    exact jo_t (show nI l ≤ nI l by rw [nI_leI (by omega) (by omega)]; omega) (jo_ret ⟨rfl, rfl⟩)
end CR
