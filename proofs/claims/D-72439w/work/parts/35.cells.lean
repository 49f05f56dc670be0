/-! PLAIN LAW, 35: the model: cells, chains, small questions -/
abbrev cIsCell (C : CX) (d k : Int32) : Prop := (0 ≤ d.toInt ∧ d.toInt ≤ 2) ∧ 0 ≤ k.toInt ∧ k.toInt ≤ (cMany C d.toInt.toNat : Int) - 1
abbrev cIsChain (C : CX) (c : Int32) : Prop := 0 < cP C ∧ 0 ≤ c.toInt ∧ c.toInt ≤ 2
theorem n_of {x : Int32} {n : Nat} (h0 : 0 ≤ x.toInt) (h1 : x.toInt ≤ (n : Int)) (hn : n < 2 ^ 31) : ∃ j : Nat, j ≤ n ∧ x = nI j ∧ x.toInt = (j : Int) := by
  refine ⟨x.toInt.toNat, by omega, ?_, (Int.toNat_of_nonneg h0).symm⟩
  rw [nI_iI, Int.toNat_of_nonneg h0]
  exact iI_of x
theorem cIsCell_of {C : CX} {d k : Int32} (hW : jWf C) (h : cIsCell C d k) : ∃ d' k' : Nat, d' < 3 ∧ k' < cMany C d' ∧ d = nI d' ∧ k = nI k' := by
  obtain ⟨d', h1, h2, h3⟩ := n_of (n := 2) h.1.1 h.1.2 (by decide)
  have hm := cMany_le hW d.toInt.toNat
  obtain ⟨k', h4, h5, h6⟩ := n_of (n := 6) h.2.1 (by have := h.2.2; omega) (by decide)
  refine ⟨d', k', by omega, ?_, h2, h5⟩
  have := h.2.2
  rw [h6, h3, Int.toNat_natCast] at this
  omega
theorem cIsCell_nI {C : CX} {d k : Nat} (hd : d < 2 ^ 31) (hk : k < 2 ^ 31) : cIsCell C (nI d) (nI k) ↔ d < 3 ∧ k < cMany C d := by
  unfold cIsCell
  rw [nI_toInt hd, nI_toInt hk, Int.toNat_natCast]
  omega
theorem in32 {N : Nat} {M : Mem} {x : Int32} {lo hi : Int64} {a b : Int} (ha : lo.toInt = a) (hb : hi.toInt = b) : (jf_X1_in N x.toInt64 lo hi).1 M = some (bI (a ≤ x.toInt ∧ x.toInt ≤ b), M) := by
  rw [jp_in, Int32.toInt_toInt64, ha, hb]
theorem in32X {N : Nat} {M : Mem} {x : Int32} {lo hi : Int64} {a b : Int} (ha : lo.toInt = a) (hb : hi.toInt = b) : (jf_X0_isIn N x.toInt64 lo hi).1 M = some (bI (a ≤ x.toInt ∧ x.toInt ≤ b), M) := in32 (N := N) ha hb
theorem bI_cg {p q : Prop} [Decidable p] [Decidable q] (h : p ↔ q) : bI p = bI q := by
  unfold bI
  by_cases c : p
  · rw [if_pos c, if_pos (h.mp c)]
  · rw [if_neg c, if_neg (fun x => c (h.mpr x))]
/-- a test and what comes behind it -/
theorem jo_bI {β : Type} {c : Prop} [Decidable c] {p q : jm_P β} {M : Mem} {Q : β → Mem → Prop} (hf : ¬ c → jo p M Q) (ht : c → jo q M Q) : jo (if bI c = 0 then p else q) M Q := by
  by_cases h : c
  · exact jo_f (by rw [bI_0]; exact fun x => x h) (ht h)
  · exact jo_t (by rw [bI_0]; exact h) (hf h)
section RD
variable {N m a n : Nat} {ad : Nat → Nat} {M0 M : Mem} {S : MS} {C : CX} {b : Nat → Int32}
theorem jr_isCell (h : jMM m ad M0 S M) (hC : jEnc C (S.1 0)) (hW : jWf C) {d k : Int32} : (jf_X1_isCell N m d k).1 M = some (bI (cIsCell C d k), M) := by
  refine jo_out ?_
  unfold jf_X1_isCell
  refine jo_eq (in32 (a := 0) (b := 2) rfl rfl) ?_
  refine jo_bI (fun c => ?_) (fun c => ?_)
  · exact jo_ret ⟨(bI_f (fun x => c x.1)).symm, rfl⟩
  · refine jo_rd (jM_fR h (k := 0) rfl) ?_
    obtain ⟨d', h1, rfl, h3⟩ := n_of (n := 2) c.1 c.2 (by decide)
    refine jo_rd (jr_ld (jM_now h) rfl (by omega) (by decide)) ?_
    have e : S.1 0 d' = nI (cMany C d') := by
      rcases (show d' = 0 ∨ d' = 1 ∨ d' = 2 by omega) with rfl | rfl | rfl
      · exact hC.1
      · exact hC.2.1
      · exact hC.2.2.1
    have hm := cMany_le hW d'
    have e2 : (S.1 0 d' - (1 : Int32)).toInt = (cMany C d' : Int) - 1 := by
      rw [e, nI_iI, show (1 : Int32) = iI 1 from rfl, iI_sub, iI_toInt (by omega) (by omega)]
    refine jo_eq (in32 (a := 0) (b := (cMany C d' : Int) - 1) rfl (by rw [Int32.toInt_toInt64]; exact e2)) ?_
    have h4 : (nI d').toInt.toNat = d' := by rw [h3]; rfl
    refine jo_bI (fun c2 => ?_) (fun c2 => ?_)
    · exact jo_ret ⟨(bI_f (fun x => c2 (by have := x.2; rw [h4] at this; exact this))).symm, rfl⟩
    · exact jo_ret ⟨(bI_t ⟨c, by rw [h4]; exact c2⟩).symm, rfl⟩
theorem jr_isChain (h : jMM m ad M0 S M) (hC : jEnc C (S.1 0)) (hW : jWf C) {c : Int32} : (jf_X1_isChain N m c).1 M = some (bI (cIsChain C c), M) := by
  refine jo_out ?_
  unfold jf_X1_isChain
  refine jo_rd (jM_cl h) (jo_eq (jr_isComplex h hC hW) ?_)
  refine jo_bI (fun c1 => jo_ret ⟨(bI_f (fun x => c1 x.1)).symm, rfl⟩) (fun c1 => ?_)
  refine jo_eq (in32 (a := 0) (b := 2) rfl rfl) ?_
  exact jo_bI (fun c2 => jo_ret ⟨(bI_f (fun x => c2 x.2)).symm, rfl⟩) (fun c2 => jo_ret ⟨(bI_t ⟨c1, c2⟩).symm, rfl⟩)
abbrev cPrime (p : Int32) : Prop := p = 0 ∨ p = 2 ∨ p = 3 ∨ p = 5 ∨ p = 7
theorem jr_isPrime {p : Int32} : (jf_X1_isPrime N p).1 M = some (bI (cPrime p), M) := by
  refine jo_out ?_
  unfold jf_X1_isPrime jf_X1_isPrime_j25
  by_cases c0 : p = 0
  · exact jo_t c0 (jo_ret ⟨(bI_t (.inl c0)).symm, rfl⟩)
  refine jo_f c0 ?_
  by_cases c2 : p = 2
  · exact jo_t c2 (jo_ret ⟨(bI_t (.inr (.inl c2))).symm, rfl⟩)
  refine jo_f c2 ?_
  by_cases c3 : p = 3
  · exact jo_t c3 (jo_ret ⟨(bI_t (.inr (.inr (.inl c3)))).symm, rfl⟩)
  refine jo_f c3 ?_
  by_cases c5 : p = 5
  · exact jo_t c5 (jo_ret ⟨(bI_t (.inr (.inr (.inr (.inl c5))))).symm, rfl⟩)
  refine jo_f c5 ?_
  by_cases c7 : p = 7
  · exact jo_t c7 (jo_ret ⟨(bI_t (.inr (.inr (.inr (.inr c7))))).symm, rfl⟩)
  refine jo_f c7 (jo_ret ⟨(bI_f ?_).symm, rfl⟩)
  rintro (x | x | x | x | x)
  · exact c0 x
  · exact c2 x
  · exact c3 x
  · exact c5 x
  · exact c7 x
theorem jp_isPrime {p : Int32} : (jf_X0_isPrime N p).1 M = some (bI (cPrime p), M) := jr_isPrime (N := N)
theorem jr_ch (h : jMM m ad M0 S M) (hC : jEnc C (S.1 0)) (hW : jWf C) {c e : Nat} (hc : c < 3) (he : e < cE C) {i : Int32} (hi : i = nI (45 + 6 * c + e)) : jm_ldI 0 (some (ad 0)) i M = some (iI (cCh C c e)) := by
  have := hW.2.1
  rw [jr_ld (jM_now h) hi (by omega) (by decide), hC.2.2.2.2.2 c e hc he]
def cEnd (C : CX) (c p : Nat) : Int := jsum (cE C) (fun e => cCh C c e * cOne C p e)
theorem jr_endsAt (h : jMM m ad M0 S M) (hC : jEnc C (S.1 0)) (hW : jWf C) (hN : 100 < N) {c p : Nat} (hc : c < 3) (hp : p < 100) : (jf_X1_endsAt N m (nI c) (nI p)).1 M = some (iI (cEnd C c p), M) := by
  have h6 := hW.2.1
  refine jo_out ?_
  unfold jf_X1_endsAt jf_X1_endsAt_k5_48
  refine jo_eq (jl_sum (n := cE C) (fun e => cCh C c e * cOne C p e) ?_ ?_ (by omega)) (jo_ret ⟨rfl, rfl⟩)
  · intro k z hk
    refine jo_out ?_
    unfold jf_X1_endsAt_L5
    refine jo_rd (jM_fR h (k := 0) rfl) (jo_rd (jr_now1 h hC rfl) ?_)
    refine jo_f (by dsimp only; rw [nI_leI (by omega) (by omega)]; omega) ?_
    refine jo_rd (jM_fR h (k := 0) rfl) (jo_rd (jr_ch h hC hW hc hk (by simp only [nI_lit, nI_mul, nI_add])) ?_)
    refine jo_rd (jM_cl h) (jo_eq (jr_one h hC hW hp hk) ?_)
    refine jo_ret ⟨?_, rfl⟩
    rw [iI_mul]
    show Sum.inl (iI z + iI _, nI k + 1) = _
    rw [iI_add, nI_1]
  · intro z
    refine jo_out ?_
    unfold jf_X1_endsAt_L5
    refine jo_rd (jM_fR h (k := 0) rfl) (jo_rd (jr_now1 h hC rfl) ?_)
    exact jo_t (by dsimp only; rw [nI_leI (by omega) (by omega)]; omega) (jo_ret ⟨rfl, rfl⟩)
theorem cEnd_le {C : CX} (hW : jWf C) {c p : Nat} (hc : c < 3) : -54 ≤ cEnd C c p ∧ cEnd C c p ≤ 54 := by
  have h6 := hW.2.1
  have := jsum_le (n := cE C) (f := fun e => cCh C c e * cOne C p e) (a := 9) (fun e he => by
    have h1 := hW.2.2.2.2.2 c e hc he
    have h2 := cOne_le (C := C) (p := p) (e := e)
    rcases (show cOne C p e = -1 ∨ cOne C p e = 0 ∨ cOne C p e = 1 by omega) with h | h | h <;> rw [h] <;> omega)
  unfold cEnd
  omega
def cCyc (C : CX) (c : Nat) : Bool := jall (cP C) (fun p => decide (cEnd C c p = 0))
theorem b01 (c : Bool) : bI (c = true) = 0 ∨ bI (c = true) = 1 := by cases c <;> simp [bI]
theorem jr_isCycle (h : jMM m ad M0 S M) (hC : jEnc C (S.1 0)) (hW : jWf C) (hN : 100 < N) {c : Nat} (hc : c < 3) : (jf_X1_isCycle N m (nI c)).1 M = some (bI (cCyc C c = true), M) := by
  have h5 := hW.1
  refine jo_out ?_
  unfold jf_X1_isCycle jf_X1_isCycle_k4_39
  refine jo_eq (jl_all (n := cP C) (fun p => decide (cEnd C c p = 0)) ?_ ?_ (by omega)) (jo_ck (b01 _) (jo_ret ⟨rfl, rfl⟩))
  · intro k z hk
    refine jo_out ?_
    unfold jf_X1_isCycle_L4 jf_X1_isCycle_j31 jf_X1_isCycle_j32
    refine jo_rd (jM_fR h (k := 0) rfl) (jo_rd (jr_now0 h hC rfl) ?_)
    refine jo_f (by dsimp only; rw [nI_leI (by omega) (by omega)]; omega) ?_
    refine jo_bI (c := z = true) (fun hz => ?_) (fun hz => ?_)
    · have hz : z = false := by simpa using hz
      subst hz
      refine jo_ret ⟨?_, rfl⟩
      show Sum.inl (0, nI k + 1) = _
      rw [nI_1]; rfl
    · subst hz
      refine jo_rd (jM_cl h) (jo_eq (jr_endsAt h hC hW hN hc (by omega)) ?_)
      have hb := cEnd_le hW (p := k) hc
      by_cases e : cEnd C c k = 0
      · refine jo_t (by rw [e]; rfl) (jo_ret ⟨?_, rfl⟩)
        show Sum.inl (1, nI k + 1) = _
        rw [nI_1, e]; rfl
      · refine jo_f (show ¬ iI _ = iI 0 by rw [iI_eqI (by omega) (by omega)]; exact e) (jo_ret ⟨?_, rfl⟩)
        show Sum.inl (0, nI k + 1) = _
        rw [nI_1, bI_f (by simp [e])]
  · intro z
    refine jo_out ?_
    unfold jf_X1_isCycle_L4
    refine jo_rd (jM_fR h (k := 0) rfl) (jo_rd (jr_now0 h hC rfl) ?_)
    exact jo_t (by dsimp only; rw [nI_leI (by omega) (by omega)]; omega) (jo_ret ⟨rfl, rfl⟩)
def cSeal (C : CX) (f : Nat) : Bool := jall (cE C) (fun e => decide (cTwo C e f = 0))
theorem jr_isSealed (h : jMM m ad M0 S M) (hC : jEnc C (S.1 0)) (hW : jWf C) (hN : 100 < N) {f : Nat} (hf : f < cF C) : (jf_X1_isSealed N m (nI f)).1 M = some (bI (cSeal C f = true), M) := by
  have h6 := hW.2.1
  refine jo_out ?_
  unfold jf_X1_isSealed jf_X1_isSealed_k4_39
  refine jo_eq (jl_all (n := cE C) (fun e => decide (cTwo C e f = 0)) ?_ ?_ (by omega)) (jo_ck (b01 _) (jo_ret ⟨rfl, rfl⟩))
  · intro k z hk
    refine jo_out ?_
    unfold jf_X1_isSealed_L4 jf_X1_isSealed_j31 jf_X1_isSealed_j32
    refine jo_rd (jM_fR h (k := 0) rfl) (jo_rd (jr_now1 h hC rfl) ?_)
    refine jo_f (by dsimp only; rw [nI_leI (by omega) (by omega)]; omega) ?_
    refine jo_bI (c := z = true) (fun hz => ?_) (fun hz => ?_)
    · have hz : z = false := by simpa using hz
      subst hz
      refine jo_ret ⟨?_, rfl⟩
      show Sum.inl (0, nI k + 1) = _
      rw [nI_1]; rfl
    · subst hz
      refine jo_rd (jM_cl h) (jo_eq (jr_two h hC hW (by omega) hf hN) ?_)
      have hb := cTwo_le hW (e := k) hf
      by_cases e : cTwo C k f = 0
      · refine jo_t (by rw [e]; rfl) (jo_ret ⟨?_, rfl⟩)
        show Sum.inl (1, nI k + 1) = _
        rw [nI_1, e]; rfl
      · refine jo_f (show ¬ iI _ = iI 0 by rw [iI_eqI (by omega) (by omega)]; exact e) (jo_ret ⟨?_, rfl⟩)
        show Sum.inl (0, nI k + 1) = _
        rw [nI_1, bI_f (by simp [e])]
  · intro z
    refine jo_out ?_
    unfold jf_X1_isSealed_L4
    refine jo_rd (jM_fR h (k := 0) rfl) (jo_rd (jr_now1 h hC rfl) ?_)
    exact jo_t (by dsimp only; rw [nI_leI (by omega) (by omega)]; omega) (jo_ret ⟨rfl, rfl⟩)
def cOth (C : CX) (c : Nat) : Int := jsum (cE C) (fun e => if cCh C c e = 0 then 0 else 1)
theorem jr_others (h : jMM m ad M0 S M) (hC : jEnc C (S.1 0)) (hW : jWf C) (hN : 100 < N) {c : Nat} (hc : c < 3) : (jf_X1_others N m (nI c)).1 M = some (iI (cOth C c), M) := by
  have h6 := hW.2.1
  refine jo_out ?_
  unfold jf_X1_others jf_X1_others_k4_45
  refine jo_eq (jl_sum (n := cE C) (fun e => if cCh C c e = 0 then 0 else 1) ?_ ?_ (by omega)) (jo_ret ⟨rfl, rfl⟩)
  · intro k z hk
    refine jo_out ?_
    unfold jf_X1_others_L4 jf_X1_others_j37
    refine jo_rd (jM_fR h (k := 0) rfl) (jo_rd (jr_now1 h hC rfl) ?_)
    refine jo_f (by dsimp only; rw [nI_leI (by omega) (by omega)]; omega) ?_
    refine jo_rd (jM_fR h (k := 0) rfl) (jo_rd (jr_ch h hC hW hc hk (by simp only [nI_lit, nI_mul, nI_add])) ?_)
    have hb := hW.2.2.2.2.2 c k hc hk
    by_cases e : cCh C c k = 0
    · refine jo_t (by rw [e]; rfl) (jo_ret ⟨?_, rfl⟩)
      show Sum.inl (iI z + iI 0, nI k + 1) = _
      rw [iI_add, nI_1, if_pos e]
    · refine jo_f (show ¬ iI _ = iI 0 by rw [iI_eqI (by omega) (by omega)]; exact e) (jo_ret ⟨?_, rfl⟩)
      show Sum.inl (iI z + iI 1, nI k + 1) = _
      rw [iI_add, nI_1, if_neg e]
  · intro z
    refine jo_out ?_
    unfold jf_X1_others_L4
    refine jo_rd (jM_fR h (k := 0) rfl) (jo_rd (jr_now1 h hC rfl) ?_)
    exact jo_t (by dsimp only; rw [nI_leI (by omega) (by omega)]; omega) (jo_ret ⟨rfl, rfl⟩)
end RD
