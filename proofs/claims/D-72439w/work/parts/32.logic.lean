/-! PLAIN LAW, 32: a logic over the abstract heap; the numbers; the model's cells -/
def jo {α : Type} (p : jm_P α) (M : Mem) (Q : α → Mem → Prop) : Prop := ∃ (r : α) (M' : Mem), p.1 M = some (r, M') ∧ Q r M'
section JO
variable {α β σ ρ : Type} {M M1 : Mem} {a : α} {p : jm_P α} {k : α → jm_P β} {Q : β → Mem → Prop} {R : α → Mem → Prop}
theorem jo_ret (h : R a M) : jo (jm_ret a) M R := ⟨a, M, rfl, h⟩
theorem jo_bd (h : jo p M (fun x M1 => jo (k x) M1 Q)) : jo (jm_bd p k) M Q := by
  obtain ⟨x, M1, h1, r, M2, h2, h3⟩ := h
  exact ⟨r, M2, (jm_bd_eq h1).trans h2, h3⟩
theorem jo_eq {x : α} (e : p.1 M = some (x, M1)) (h : jo (k x) M1 Q) : jo (jm_bd p k) M Q := jo_bd ⟨x, M1, e, h⟩
theorem jo_rd {q : Mem → Option α} {x : α} (e : q M = some x) (h : jo (k x) M Q) : jo (jm_rd q k) M Q := by
  obtain ⟨r, M2, h2, h3⟩ := h
  exact ⟨r, M2, (jm_rd_eq e).trans h2, h3⟩
theorem jo_wr {q : Mem → Option (Nat → Option CE)} {f : Nat → Option CE} (e : q M = some f) (h : jo p (M.1, M.2.1, f) R) : jo (jm_wr q p) M R := by
  obtain ⟨r, M2, h2, h3⟩ := h
  exact ⟨r, M2, (jm_wr_eq e).trans h2, h3⟩
theorem jo_al {e : CE} {k : Nat → jm_P β} (h : jo (k M.1) (jm_new e M) Q) : jo (jm_al e k) M Q := h
theorem jo_lt {x : α} (h : jo (k x) M Q) : jo (jm_lt x k) M Q := h
theorem jo_mono {R' : α → Mem → Prop} (h : jo p M R) (hq : ∀ r M', R r M' → R' r M') : jo p M R' := by
  obtain ⟨r, M2, h2, h3⟩ := h
  exact ⟨r, M2, h2, hq r M2 h3⟩
theorem jo_of {x : α} (e : p.1 M = some (x, M1)) (h : R x M1) : jo p M R := ⟨x, M1, e, h⟩
theorem jo_out (h : jo p M (fun r M' => r = a ∧ M' = M1)) : p.1 M = some (a, M1) := by
  obtain ⟨r, M2, h2, rfl, rfl⟩ := h
  exact h2
theorem jo_t {c : Prop} [Decidable c] {q : jm_P α} (hc : c) (h : jo p M R) : jo (if c then p else q) M R := by rw [if_pos hc]; exact h
theorem jo_f {c : Prop} [Decidable c] {q : jm_P α} (hc : ¬ c) (h : jo q M R) : jo (if c then p else q) M R := by rw [if_neg hc]; exact h
theorem jo_ck {c : Prop} [Decidable c] {k : Unit → jm_P β} (hc : c) (h : jo (k ()) M Q) : jo (jm_rd (jm_ck c) k) M Q := jo_rd (x := ()) (by unfold jm_ck; rw [if_pos hc]) h
end JO
/-- a loop whose counter goes from i to n: an invariant by the counter; it may be left early -/
theorem jo_up {σ ρ : Type} {body : σ → jm_P (σ ⊕ ρ)} (n : Nat) (I : Nat → σ → Mem → Prop) (Q : ρ → Mem → Prop)
    (step : ∀ (i : Nat) (s : σ) (M : Mem), i < n → I i s M → jo (body s) M (fun x M1 => match x with
      | .inl s' => I (i + 1) s' M1
      | .inr r => Q r M1))
    (last : ∀ (s : σ) (M : Mem), I n s M → jo (body s) M (fun x M1 => match x with
      | .inl _ => False
      | .inr r => Q r M1)) : ∀ (N i : Nat) (s : σ) (M : Mem), I i s M → i ≤ n → n < N + i → jo (jm_it body N s) M Q := by
  intro N
  induction N with
  | zero => intro i s M _ h1 h2; omega
  | succ N ih =>
    intro i s M hI hi hN
    by_cases c : i < n
    · obtain ⟨x, M1, h1, h2⟩ := step i s M c hI
      cases x with
      | inl s' =>
        obtain ⟨r, M2, h3, h4⟩ := ih (i + 1) s' M1 h2 c (by omega)
        exact ⟨r, M2, (jm_bd_eq h1).trans h3, h4⟩
      | inr r => exact ⟨r, M1, jm_bd_eq h1, h2⟩
    · have e : i = n := by omega
      subst e
      obtain ⟨x, M1, h1, h2⟩ := last s M hI
      cases x with
      | inl s' => exact h2.elim
      | inr r => exact ⟨r, M1, jm_bd_eq h1, h2⟩
/-- a loop with a measure -/
theorem jo_it {σ ρ : Type} {body : σ → jm_P (σ ⊕ ρ)} (I : σ → Mem → Prop) (Q : ρ → Mem → Prop) (μ : σ → Mem → Nat)
    (h : ∀ (s : σ) (M : Mem), I s M → jo (body s) M (fun x M1 => match x with
      | .inl s' => I s' M1 ∧ μ s' M1 < μ s M
      | .inr r => Q r M1)) (n : Nat) (s : σ) (M : Mem) (hI : I s M) (hn : μ s M < n) : jo (jm_it body n s) M Q :=
  jm_it_ok I Q μ (fun s M hI => h s M hI) n s M hI hn
/-! numbers -/
theorem nI_lit (n : Nat) : (OfNat.ofNat n : Int32) = nI n := rfl
theorem nI_mul (a b : Nat) : nI a * nI b = nI (a * b) := (Int32.ofNat_mul a b).symm
theorem nI_sub {a b : Nat} (h : b ≤ a) : nI a - nI b = nI (a - b) := by
  have : nI (a - b) + nI b = nI a := by rw [nI_add]; congr 1; omega
  rw [← this]
  simp [Int32.sub_eq_add_neg, Int32.add_assoc, Int32.add_right_neg]
theorem jm_ixn {j n : Nat} (h : j < n) (hn : n < 2 ^ 31) : jm_ix (nI j) n = some j := jm_ix_nI h hn
/-- an int by its value -/
def iI (z : Int) : Int32 := Int32.ofInt z
def jI (z : Int) : Int64 := Int64.ofInt z
theorem nI_iI (n : Nat) : nI n = iI (n : Int) := (Int32.ofInt_eq_ofNat).symm
theorem iI_add (a b : Int) : iI a + iI b = iI (a + b) := (Int32.ofInt_add a b).symm
theorem iI_mul (a b : Int) : iI a * iI b = iI (a * b) := (Int32.ofInt_mul a b).symm
theorem iI_neg (a : Int) : - iI a = iI (- a) := (Int32.ofInt_neg a).symm
theorem iI_sub (a b : Int) : iI a - iI b = iI (a - b) := (Int32.ofInt_sub a b).symm
theorem jI_add (a b : Int) : jI a + jI b = jI (a + b) := (Int64.ofInt_add a b).symm
theorem jI_mul (a b : Int) : jI a * jI b = jI (a * b) := (Int64.ofInt_mul a b).symm
theorem jI_neg (a : Int) : - jI a = jI (- a) := (Int64.ofInt_neg a).symm
theorem jI_sub (a b : Int) : jI a - jI b = jI (a - b) := (Int64.ofInt_sub a b).symm
theorem iI_toInt {z : Int} (h1 : -2147483648 ≤ z) (h2 : z < 2147483648) : (iI z).toInt = z := Int32.toInt_ofInt_of_le h1 h2
theorem jI_toInt {z : Int} (h1 : -9223372036854775808 ≤ z) (h2 : z < 9223372036854775808) : (jI z).toInt = z := Int64.toInt_ofInt_of_le h1 h2
theorem iI_of (x : Int32) : x = iI x.toInt := (Int32.ofInt_toInt x).symm
theorem jI_of (x : Int64) : x = jI x.toInt := (Int64.ofInt_toInt x).symm
theorem iI_l {z : Int} (h1 : -2147483648 ≤ z) (h2 : z < 2147483648) : (iI z).toInt64 = jI z := Int64.toInt_inj.mp (by rw [Int32.toInt_toInt64, iI_toInt h1 h2, jI_toInt (by omega) (by omega)])
theorem i32_l (x : Int32) : x.toInt64 = jI x.toInt := Int64.toInt_inj.mp (by
  have := Int32.le_toInt x
  have := Int32.toInt_lt x
  rw [Int32.toInt_toInt64, jI_toInt (by omega) (by omega)])
theorem i32_rg (x : Int32) : -2147483648 ≤ x.toInt ∧ x.toInt < 2147483648 := ⟨Int32.le_toInt x, Int32.toInt_lt x⟩
theorem i64_rg (x : Int64) : -9223372036854775808 ≤ x.toInt ∧ x.toInt < 9223372036854775808 := ⟨Int64.le_toInt x, Int64.toInt_lt x⟩
theorem jI_ltI {a b : Int} (ha : -9223372036854775808 ≤ a ∧ a < 9223372036854775808) (hb : -9223372036854775808 ≤ b ∧ b < 9223372036854775808) : jI a < jI b ↔ a < b := by
  rw [Int64.lt_iff_toInt_lt, jI_toInt ha.1 ha.2, jI_toInt hb.1 hb.2]
theorem iI_ltI {a b : Int} (ha : -2147483648 ≤ a ∧ a < 2147483648) (hb : -2147483648 ≤ b ∧ b < 2147483648) : iI a < iI b ↔ a < b := by
  rw [Int32.lt_iff_toInt_lt, iI_toInt ha.1 ha.2, iI_toInt hb.1 hb.2]
theorem iI_leI {a b : Int} (ha : -2147483648 ≤ a ∧ a < 2147483648) (hb : -2147483648 ≤ b ∧ b < 2147483648) : iI a ≤ iI b ↔ a ≤ b := by
  rw [Int32.le_iff_toInt_le, iI_toInt ha.1 ha.2, iI_toInt hb.1 hb.2]
theorem iI_eqI {a b : Int} (ha : -2147483648 ≤ a ∧ a < 2147483648) (hb : -2147483648 ≤ b ∧ b < 2147483648) : iI a = iI b ↔ a = b := by
  rw [← Int32.toInt_inj, iI_toInt ha.1 ha.2, iI_toInt hb.1 hb.2]
theorem jI_eqI {a b : Int} (ha : -9223372036854775808 ≤ a ∧ a < 9223372036854775808) (hb : -9223372036854775808 ≤ b ∧ b < 9223372036854775808) : jI a = jI b ↔ a = b := by
  rw [← Int64.toInt_inj, jI_toInt ha.1 ha.2, jI_toInt hb.1 hb.2]
/-- a truth value -/
def bI (c : Prop) [Decidable c] : Int32 := if c then 1 else 0
theorem bI_t {c : Prop} [Decidable c] (h : c) : bI c = 1 := if_pos h
theorem bI_f {c : Prop} [Decidable c] (h : ¬ c) : bI c = 0 := if_neg h
theorem bI_0 {c : Prop} [Decidable c] : bI c = 0 ↔ ¬ c := by
  by_cases h : c
  · rw [bI_t h]; exact ⟨fun x => absurd x (by decide), fun x => absurd h x⟩
  · rw [bI_f h]; exact ⟨fun _ => h, fun _ => rfl⟩
theorem jp_in {N : Nat} {M : Mem} {x lo hi : Int64} : (jf_X1_in N x lo hi).1 M = some (bI (lo.toInt ≤ x.toInt ∧ x.toInt ≤ hi.toInt), M) := by
  unfold jf_X1_in
  by_cases h1 : x < lo
  · rw [if_pos h1, bI_f (by rw [Int64.lt_iff_toInt_lt] at h1; omega)]; rfl
  · rw [if_neg h1]
    by_cases h2 : hi < x
    · rw [if_pos h2, bI_f (by rw [Int64.lt_iff_toInt_lt] at h2; omega)]; rfl
    · rw [if_neg h2, bI_t (by rw [Int64.lt_iff_toInt_lt] at h1 h2; omega)]; rfl
theorem jp_isIn {N : Nat} {M : Mem} {x lo hi : Int64} : (jf_X0_isIn N x lo hi).1 M = some (bI (lo.toInt ≤ x.toInt ∧ x.toInt ≤ hi.toInt), M) := jp_in (N := N)
/-! the model's cells -/
/-- arrays of ints (by field), of longs, fields that are ints, fields that are longs -/
abbrev MS : Type := (Nat → Nat → Int32) × (Nat → Nat → Int64) × (Nat → Int32) × (Nat → Int64)
def jM_vals (ad : Nat → Nat) (S : MS) : List Value := [.ref (ad 0), .ref (ad 1), .ref (ad 2), .int (S.2.2.1 3), .ref (ad 4), .ref (ad 5), .ref (ad 6), .int (S.2.2.1 7), .int (S.2.2.1 8), .int (S.2.2.1 9), .int (S.2.2.1 10), .int (S.2.2.1 11), .int (S.2.2.1 12), .int (S.2.2.1 13), .int (S.2.2.1 14), .ref (ad 15), .ref (ad 16), .long (S.2.2.2 17), .ref (ad 18), .ref (ad 19), .ref (ad 20), .ref (ad 21), .long (S.2.2.2 22), .long (S.2.2.2 23)]
def jM_len (k : Nat) : Nat := if k = 0 ∨ k = 1 then 63 else if k = 2 then 504 else if k = 4 then 126 else if k = 5 then 2 else if k = 6 then 90 else if k = 15 then 36 else 6
def jM_kd (k : Nat) : Nat := if k = 5 then 3 else 0
def jM_ia (k : Nat) : Prop := k = 0 ∨ k = 1 ∨ k = 2 ∨ k = 4 ∨ k = 5 ∨ k = 6
def jM_ja (k : Nat) : Prop := k = 15 ∨ k = 16 ∨ k = 18 ∨ k = 19 ∨ k = 20 ∨ k = 21
def jRepM (m : Nat) (ad : Nat → Nat) (S : MS) (M : Mem) : Prop :=
  M.2.2 m = some (.inr (1, jM_vals ad S)) ∧ (∀ k, jM_ia k → M.2.2 (ad k) = some (.inl (jM_kd k, jM_len k, .inl (S.1 k)))) ∧ (∀ k, jM_ja k → M.2.2 (ad k) = some (.inl (2, jM_len k, .inr (.inl (S.2.1 k)))))
def jApM (m : Nat) (ad : Nat → Nat) : Prop := (∀ k, jM_ia k ∨ jM_ja k → ad k ≠ m) ∧ ∀ k i, jM_ia k ∨ jM_ja k → jM_ia i ∨ jM_ja i → ad k = ad i → k = i
/-- nothing but the model's cells has changed since M0 -/
def jFrM (m : Nat) (ad : Nat → Nat) (M0 M : Mem) : Prop := M.1 = M0.1 ∧ M.2.1 = M0.2.1 ∧ ∀ a, a ≠ m → (∀ k, jM_ia k ∨ jM_ja k → a ≠ ad k) → M.2.2 a = M0.2.2 a
/-- the model's state is S, nothing else has changed since M0 -/
def jMM (m : Nat) (ad : Nat → Nat) (M0 : Mem) (S : MS) (M : Mem) : Prop := jRepM m ad S M ∧ jApM m ad ∧ jFrM m ad M0 M
section JMM
variable {m : Nat} {ad : Nat → Nat} {M0 M : Mem} {S : MS}
theorem jMM.start (h : jRepM m ad S M) (hp : jApM m ad) : jMM m ad M S M := ⟨h, hp, rfl, rfl, fun _ _ _ => rfl⟩
theorem jMM.tr {M1 : Mem} {S1 : MS} (h : jMM m ad M0 S M) (h1 : jMM m ad M S1 M1) : jMM m ad M0 S1 M1 :=
  ⟨h1.1, h1.2.1, h1.2.2.1.trans h.2.2.1, h1.2.2.2.1.trans h.2.2.2.1, fun a h2 h3 => (h1.2.2.2.2 a h2 h3).trans (h.2.2.2.2 a h2 h3)⟩
theorem jMM.re (h : jMM m ad M0 S M) : jMM m ad M S M := jMM.start h.1 h.2.1
theorem jM_cl (h : jMM m ad M0 S M) : jm_cl 1 (some m) M = some m := by
  unfold jm_cl
  simp only [h.1.1]
  rfl
theorem jM_fR (h : jMM m ad M0 S M) {k : Nat} (hv : (jM_vals ad S)[k]? = some (.ref (ad k))) : jm_fR [1] k (some m) M = some (some (ad k)) := by
  unfold jm_fR jm_fld
  simp only [h.1.1, List.mem_singleton, if_true, hv]
theorem jM_fI (h : jMM m ad M0 S M) {k : Nat} (hv : (jM_vals ad S)[k]? = some (.int (S.2.2.1 k))) : jm_fI [1] k (some m) M = some (S.2.2.1 k) := by
  unfold jm_fI jm_fld
  simp only [h.1.1, List.mem_singleton, if_true, hv]
theorem jM_fJ (h : jMM m ad M0 S M) {k : Nat} (hv : (jM_vals ad S)[k]? = some (.long (S.2.2.2 k))) : jm_fJ [1] k (some m) M = some (S.2.2.2 k) := by
  unfold jm_fJ jm_fld
  simp only [h.1.1, List.mem_singleton, if_true, hv]
theorem ji_ld {H : Mem} {kd a n : Nat} {f : Nat → Int32} {i : Int32} {j : Nat} (h : H.2.2 a = some (.inl (kd, n, .inl f))) (hi : jm_ix i n = some j) : jm_ldI kd (some a) i H = some (f j) := by
  unfold jm_ldI jm_ar
  simp only [h, if_true, hi]
theorem jl_ld {H : Mem} {kd a n : Nat} {f : Nat → Int64} {i : Int32} {j : Nat} (h : H.2.2 a = some (.inl (kd, n, .inr (.inl f)))) (hi : jm_ix i n = some j) : jm_ldJ kd (some a) i H = some (f j) := by
  unfold jm_ldJ jm_ar
  simp only [h, if_true, hi]
theorem jq_ld {H : Mem} {kd a n : Nat} {f : Nat → Option Nat} {i : Int32} {j : Nat} (h : H.2.2 a = some (.inl (kd, n, .inr (.inr (.inr (.inr f)))))) (hi : jm_ix i n = some j) : jm_ldR kd (some a) i H = some (f j) := by
  unfold jm_ldR jm_ar
  simp only [h, if_true, hi]
theorem ji_st {H : Mem} {kd a n : Nat} {f : Nat → Int32} {i x : Int32} {j : Nat} (h : H.2.2 a = some (.inl (kd, n, .inl f))) (hi : jm_ix i n = some j) : jm_stI kd (some a) i x H = some (va_up H.2.2 a (some (.inl (kd, n, .inl (upd f j x))))) := by
  unfold jm_stI jm_ar jm_sto
  simp only [h, if_true, hi]
theorem jl_st {H : Mem} {kd a n : Nat} {f : Nat → Int64} {i : Int32} {x : Int64} {j : Nat} (h : H.2.2 a = some (.inl (kd, n, .inr (.inl f)))) (hi : jm_ix i n = some j) : jm_stJ kd (some a) i x H = some (va_up H.2.2 a (some (.inl (kd, n, .inr (.inl (vp_updL f j x)))))) := by
  unfold jm_stJ jm_ar jm_sto
  simp only [h, if_true, hi]
theorem jM_ldI (h : jMM m ad M0 S M) {k kd : Nat} (hk : jM_ia k) (hd : jM_kd k = kd) {i : Int32} {j : Nat} (hi : jm_ix i (jM_len k) = some j) : jm_ldI kd (some (ad k)) i M = some (S.1 k j) := by
  subst hd
  exact ji_ld (h.1.2.1 k hk) hi
theorem jM_ldJ (h : jMM m ad M0 S M) {k : Nat} (hk : jM_ja k) {i : Int32} {j : Nat} (hi : jm_ix i (jM_len k) = some j) : jm_ldJ 2 (some (ad k)) i M = some (S.2.1 k j) := jl_ld (h.1.2.2 k hk) hi
theorem jM_vals_I {I : Nat → Nat → Int32} {J : Nat → Nat → Int64} {I' : Nat → Nat → Int32} {J' : Nat → Nat → Int64} {s : Nat → Int32} {l : Nat → Int64} : jM_vals ad (I, J, s, l) = jM_vals ad (I', J', s, l) := rfl
theorem jM_ij {k i : Nat} (h : jM_ia k) (h1 : jM_ja i) : k ≠ i := by unfold jM_ia at h; unfold jM_ja at h1; omega
theorem jM_setI (h : jMM m ad M0 S M) {k : Nat} (hk : jM_ia k) (f : Nat → Int32) : jMM m ad M0 (va_up S.1 k f, S.2) (M.1, M.2.1, va_up M.2.2 (ad k) (some (.inl (jM_kd k, jM_len k, .inl f)))) := by
  obtain ⟨⟨h1, h2, h3⟩, ⟨h4, h5⟩, h6, h7, h8⟩ := h
  refine ⟨⟨?_, fun i hi => ?_, fun i hi => ?_⟩, ⟨h4, h5⟩, h6, h7, fun a ha hb => ?_⟩
  · show va_up M.2.2 (ad k) _ m = _
    rw [va_up_ne _ _ (fun e => h4 k (.inl hk) e.symm), h1]
    rfl
  · show va_up M.2.2 (ad k) _ (ad i) = _
    by_cases c : i = k
    · subst c; rw [va_up_self]; show _ = (some (Sum.inl (_, _, Sum.inl (va_up S.1 i f i))) : Option CE); rw [va_up_self]
    · rw [va_up_ne _ _ (fun e => c (h5 i k (.inl hi) (.inl hk) e)), h2 i hi]
      show _ = (some (Sum.inl (_, _, Sum.inl (va_up S.1 k f i))) : Option CE)
      rw [va_up_ne _ _ c]
  · show va_up M.2.2 (ad k) _ (ad i) = _
    rw [va_up_ne _ _ (fun e => jM_ij hk hi (h5 k i (.inl hk) (.inr hi) e.symm)), h3 i hi]
  · show va_up M.2.2 (ad k) _ a = _
    rw [va_up_ne _ _ (hb k (.inl hk))]
    exact h8 a ha hb
theorem jM_setJ (h : jMM m ad M0 S M) {k : Nat} (hk : jM_ja k) (f : Nat → Int64) : jMM m ad M0 (S.1, va_up S.2.1 k f, S.2.2) (M.1, M.2.1, va_up M.2.2 (ad k) (some (.inl (2, jM_len k, .inr (.inl f))))) := by
  obtain ⟨⟨h1, h2, h3⟩, ⟨h4, h5⟩, h6, h7, h8⟩ := h
  refine ⟨⟨?_, fun i hi => ?_, fun i hi => ?_⟩, ⟨h4, h5⟩, h6, h7, fun a ha hb => ?_⟩
  · show va_up M.2.2 (ad k) _ m = _
    rw [va_up_ne _ _ (fun e => h4 k (.inr hk) e.symm), h1]
    rfl
  · show va_up M.2.2 (ad k) _ (ad i) = _
    rw [va_up_ne _ _ (fun e => jM_ij hi hk (h5 i k (.inl hi) (.inr hk) e)), h2 i hi]
  · show va_up M.2.2 (ad k) _ (ad i) = _
    by_cases c : i = k
    · subst c; rw [va_up_self]; show _ = (some (Sum.inl (_, _, Sum.inr (Sum.inl (va_up S.2.1 i f i)))) : Option CE); rw [va_up_self]
    · rw [va_up_ne _ _ (fun e => c (h5 i k (.inr hi) (.inr hk) e)), h3 i hi]
      show _ = (some (Sum.inl (_, _, Sum.inr (Sum.inl (va_up S.2.1 k f i)))) : Option CE)
      rw [va_up_ne _ _ c]
  · show va_up M.2.2 (ad k) _ a = _
    rw [va_up_ne _ _ (hb k (.inr hk))]
    exact h8 a ha hb
/-- a cell of an array of ints is written -/
theorem jM_stI {β : Type} {Q : β → Mem → Prop} {p : jm_P β} (h : jMM m ad M0 S M) {k kd : Nat} (hk : jM_ia k) (hd : jM_kd k = kd) {i x : Int32} {j : Nat} (hi : jm_ix i (jM_len k) = some j) (kk : ∀ M1, jMM m ad M0 (va_up S.1 k (upd (S.1 k) j x), S.2) M1 → jo p M1 Q) : jo (jm_wr (jm_stI kd (some (ad k)) i x) p) M Q := by
  subst hd
  exact jo_wr (ji_st (h.1.2.1 k hk) hi) (kk _ (jM_setI h hk _))
theorem jM_stJ {β : Type} {Q : β → Mem → Prop} {p : jm_P β} (h : jMM m ad M0 S M) {k : Nat} (hk : jM_ja k) {i : Int32} {x : Int64} {j : Nat} (hi : jm_ix i (jM_len k) = some j) (kk : ∀ M1, jMM m ad M0 (S.1, va_up S.2.1 k (vp_updL (S.2.1 k) j x), S.2.2) M1 → jo p M1 Q) : jo (jm_wr (jm_stJ 2 (some (ad k)) i x) p) M Q :=
  jo_wr (jl_st (h.1.2.2 k hk) hi) (kk _ (jM_setJ h hk _))
theorem jM_set_fld (h : jMM m ad M0 S M) (S1 : MS) (h1 : S1.1 = S.1) (h2 : S1.2.1 = S.2.1) : jMM m ad M0 S1 (M.1, M.2.1, va_up M.2.2 m (some (.inr (1, jM_vals ad S1)))) := by
  obtain ⟨⟨g1, g2, g3⟩, ⟨g4, g5⟩, g6, g7, g8⟩ := h
  refine ⟨⟨va_up_self _ _ _, fun i hi => ?_, fun i hi => ?_⟩, ⟨g4, g5⟩, g6, g7, fun a ha hb => ?_⟩
  · show va_up M.2.2 m _ (ad i) = _
    rw [va_up_ne _ _ (g4 i (.inl hi)), g2 i hi, h1]
  · show va_up M.2.2 m _ (ad i) = _
    rw [va_up_ne _ _ (g4 i (.inr hi)), g3 i hi, h2]
  · show va_up M.2.2 m _ a = _
    rw [va_up_ne _ _ ha]
    exact g8 a ha hb
/-- a field that is an int is written -/
theorem jM_puI {β : Type} {Q : β → Mem → Prop} {p : jm_P β} (h : jMM m ad M0 S M) {k : Nat} {x : Int32} (hk : k < 24) (hs : (jM_vals ad S).set k (.int x) = jM_vals ad (S.1, S.2.1, va_up S.2.2.1 k x, S.2.2.2)) (kk : ∀ M1, jMM m ad M0 (S.1, S.2.1, va_up S.2.2.1 k x, S.2.2.2) M1 → jo p M1 Q) : jo (jm_wr (jm_put [1] k (.int x) (some m)) p) M Q := by
  refine jo_wr (f := va_up M.2.2 m (some (.inr (1, jM_vals ad (S.1, S.2.1, va_up S.2.2.1 k x, S.2.2.2))))) ?_ (kk _ (jM_set_fld h _ rfl rfl))
  unfold jm_put
  simp only [h.1.1]
  rw [if_pos ⟨List.mem_singleton.mpr rfl, hk⟩, hs]
theorem jM_puJ {β : Type} {Q : β → Mem → Prop} {p : jm_P β} (h : jMM m ad M0 S M) {k : Nat} {x : Int64} (hk : k < 24) (hs : (jM_vals ad S).set k (.long x) = jM_vals ad (S.1, S.2.1, S.2.2.1, va_up S.2.2.2 k x)) (kk : ∀ M1, jMM m ad M0 (S.1, S.2.1, S.2.2.1, va_up S.2.2.2 k x) M1 → jo p M1 Q) : jo (jm_wr (jm_put [1] k (.long x) (some m)) p) M Q := by
  refine jo_wr (f := va_up M.2.2 m (some (.inr (1, jM_vals ad (S.1, S.2.1, S.2.2.1, va_up S.2.2.2 k x))))) ?_ (kk _ (jM_set_fld h _ rfl rfl))
  unfold jm_put
  simp only [h.1.1]
  rw [if_pos ⟨List.mem_singleton.mpr rfl, hk⟩, hs]
end JMM
