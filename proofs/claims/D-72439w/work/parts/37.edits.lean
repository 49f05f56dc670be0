/-! PLAIN LAW, 37: the abstract state; the model's past, images, tape -/
/-- the complex (no points: there is none), acts and what was before them, images, the tape, the fault -/
abbrev ST : Type := CX × (Nat × (Nat → CX)) × (Nat → Option CX) × (Nat × (Nat → Nat)) × Nat
def sC (T : ST) : CX := T.1
def sActs (T : ST) : Nat := T.2.1.1
def sPast (T : ST) : Nat → CX := T.2.1.2
def sImg (T : ST) : Nat → Option CX := T.2.2.1
def sTaped (T : ST) : Nat := T.2.2.2.1.1
def sTape (T : ST) : Nat → Nat := T.2.2.2.1.2
def sFault (T : ST) : Nat := T.2.2.2.2
/-- a complex that there is -/
def jWfP (C : CX) : Prop := jWf C ∧ 0 < cP C
def jWfS (T : ST) : Prop := jWf (sC T) ∧ (cP (sC T) = 0 → cE (sC T) = 0 ∧ cF (sC T) = 0) ∧ sActs T ≤ 8 ∧ (∀ i, i < sActs T → jWfP (sPast T i)) ∧ (∀ k C, k < 2 → sImg T k = some C → jWfP C) ∧ sTaped T ≤ 90 ∧ (∀ i, i < sTaped T → sTape T i < 256) ∧ sFault T < 4
def jRM (T : ST) (S : MS) : Prop := jEnc (sC T) (S.1 0) ∧ S.2.2.1 3 = nI (sActs T) ∧ (∀ i, i < sActs T → jEnc (sPast T i) (fun j => S.1 2 (63 * i + j))) ∧ (∀ k, k < 2 → S.1 5 k = bI ((sImg T k).isSome = true) ∧ ∀ C, sImg T k = some C → jEnc C (fun j => S.1 4 (63 * k + j))) ∧ S.2.2.1 7 = nI (sTaped T) ∧ (∀ i, i < sTaped T → S.1 6 i = nI (sTape T i)) ∧ S.2.2.1 14 = nI (sFault T)
theorem jEnc_cg {C : CX} {b c : Nat → Int32} (hW : jWf C) (h : jEnc C b) (e : ∀ j, j < 63 → b j = c j) : jEnc C c := by
  obtain ⟨h0, h1, h2, h3, h4, h5⟩ := h
  have := hW.2.1
  have := hW.2.2.1
  refine ⟨by rw [← e 0 (by decide), h0], by rw [← e 1 (by decide), h1], by rw [← e 2 (by decide), h2], fun x w hx hw => by rw [← e _ (by omega), h3 x w hx hw], fun f hf => ⟨by rw [← e _ (by omega), (h4 f hf).1], by rw [← e _ (by omega), (h4 f hf).2.1], fun k hk => ?_⟩, fun c x hc hx => by rw [← e _ (by omega), h5 c x hc hx]⟩
  have h6 := (hW.2.2.2.2.1 f hf).2.2.2.1
  rw [← e _ (by omega), (h4 f hf).2.2 k hk]
theorem va_up2 {α : Type} (f : Nat → α) (k : Nat) (x y : α) : va_up (va_up f k x) k y = va_up f k y := by
  funext j
  unfold va_up
  split <;> rfl
def jcp (f g : Nat → Int32) (a b i : Nat) : Nat → Int32 := fun j => if b ≤ j ∧ j < b + i then f (a + (j - b)) else g j
theorem jcp_0 {f g : Nat → Int32} {a b : Nat} : jcp f g a b 0 = g := by
  funext j
  unfold jcp
  rw [if_neg (by omega)]
theorem jcp_up {f g : Nat → Int32} {a b i : Nat} : upd (jcp f g a b i) (b + i) (f (a + i)) = jcp f g a b (i + 1) := by
  funext j
  unfold upd jcp
  by_cases c : j = b + i
  · rw [if_pos c, if_pos (by omega), c, Nat.add_sub_cancel_left]
  · rw [if_neg c]
    by_cases d : b ≤ j ∧ j < b + i
    · rw [if_pos d, if_pos (by omega)]
    · rw [if_neg d, if_neg (by omega)]
section ED
variable {N m a n : Nat} {ad : Nat → Nat} {M0 M : Mem} {S : MS} {C : CX} {T : ST}
theorem jr_copies (h : jMM m ad M0 S M) (hN : 100 < N) {k1 k2 a b : Nat} (h1 : jM_ia k1) (h2 : jM_ia k2) (h12 : k1 ≠ k2) (d1 : jM_kd k1 = 0) (d2 : jM_kd k2 = 0) (ha : a + 63 ≤ jM_len k1) (hb : b + 63 ≤ jM_len k2) (hl1 : jM_len k1 < 1000) (hl2 : jM_len k2 < 1000) :
    jo (jf_X1_copies N (some (ad k1)) (nI a) (some (ad k2)) (nI b)) M (fun _ M' => jMM m ad M0 (va_up S.1 k2 (jcp (S.1 k1) (S.1 k2) a b 63), S.2) M') := by
  unfold jf_X1_copies jf_X1_copies_k3_28
  refine jo_bd (jo_mono (jo_up 63 (fun i z M' => jMM m ad M0 (va_up S.1 k2 (jcp (S.1 k1) (S.1 k2) a b i), S.2) M' ∧ z = nI i) (fun _ M' => jMM m ad M0 (va_up S.1 k2 (jcp (S.1 k1) (S.1 k2) a b 63), S.2) M') ?_ ?_ N 0 _ M ⟨?_, rfl⟩ (Nat.zero_le _) (by omega)) (fun r M' hr => jo_ret hr))
  · rintro i z M' hi ⟨hI, rfl⟩
    unfold jf_X1_copies_L3
    refine jo_f (show ¬ nI 63 ≤ nI i by rw [nI_leI (by decide) (by omega)]; omega) ?_
    refine jo_rd (jM_ldI hI h1 d1 (j := a + i) (by rw [nI_add]; exact jm_ixn (by omega) (by omega))) ?_
    refine jM_stI hI h2 d2 (j := b + i) (by rw [nI_add]; exact jm_ixn (by omega) (by omega)) ?_
    intro M1 hM1
    refine jo_ret ⟨?_, (nI_1 i)⟩
    rw [show (va_up S.1 k2 (jcp (S.1 k1) (S.1 k2) a b i), S.2).1 k1 = S.1 k1 from va_up_ne _ _ h12, show (va_up S.1 k2 (jcp (S.1 k1) (S.1 k2) a b i), S.2).1 k2 = jcp (S.1 k1) (S.1 k2) a b i from va_up_self _ _ _, jcp_up] at hM1
    show jMM m ad M0 (va_up S.1 k2 (jcp (S.1 k1) (S.1 k2) a b (i + 1)), S.2) M1
    rw [show (va_up (va_up S.1 k2 (jcp (S.1 k1) (S.1 k2) a b i), S.2).1 k2 (jcp (S.1 k1) (S.1 k2) a b (i + 1)), (va_up S.1 k2 (jcp (S.1 k1) (S.1 k2) a b i), S.2).2) = (va_up S.1 k2 (jcp (S.1 k1) (S.1 k2) a b (i + 1)), S.2) from by rw [show (va_up S.1 k2 (jcp (S.1 k1) (S.1 k2) a b i), S.2).1 = va_up S.1 k2 (jcp (S.1 k1) (S.1 k2) a b i) from rfl, va_up2]] at hM1
    exact hM1
  · rintro z M' ⟨hI, rfl⟩
    unfold jf_X1_copies_L3
    exact jo_t (show nI 63 ≤ nI 63 by decide +kernel) (jo_ret hI)
  · rw [jcp_0, show va_up S.1 k2 (S.1 k2) = S.1 from by funext j; unfold va_up; split <;> simp_all]
    exact h
/-- what a state is behind an act that makes C' of the complex -/
def sPush (T : ST) (C' : CX) : ST := (C', (if sActs T = 8 then (8, fun i => if i < 7 then sPast T (i + 1) else sC T) else (sActs T + 1, fun i => if i = sActs T then sC T else sPast T i)), T.2.2)
def jshift (f : Nat → Int32) (i : Nat) : Nat → Int32 := fun j => if j < i then f (j + 63) else f j
theorem jshift_up {f : Nat → Int32} {i : Nat} : upd (jshift f i) i (jshift f i (i + 63)) = jshift f (i + 1) := by
  funext j
  unfold upd jshift
  by_cases c : j = i
  · rw [if_pos c, if_neg (by omega), if_pos (by omega), c]
  · rw [if_neg c]
    by_cases d : j < i
    · rw [if_pos d, if_pos (by omega)]
    · rw [if_neg d, if_neg (by omega)]
/-- behind 'notes': the complex is noted as the last of the past, all else is as it was (but a new complex may be laid now) -/
theorem jr_notes (h : jMM m ad M0 S M) (hT : jRM T S) (hW : jWfS T) (hN : 1000 < N) : jo (jf_X1_notes N m) M (fun _ M' => ∃ S', jMM m ad M0 S' M' ∧ (∀ C', jEnc C' (S.1 0) → jRM (sPush T C') S') ∧ S'.1 0 = S.1 0 ∧ S'.1 1 = S.1 1) := by
  obtain ⟨hC, hA, hP, hI, hU, hTp, hF⟩ := hT
  obtain ⟨w1, w2, w3, w4, w5, w6, w7, w8⟩ := hW
  have tail : ∀ (M1 : Mem) (n : Nat) (q : Nat → CX) (f : Nat → Int32) (s : Nat → Int32), n < 8 → (∀ i, i < n → jWf (q i)) → (∀ i, i < n → jEnc (q i) (fun j => f (63 * i + j))) → s 3 = nI n → (∀ k, k ≠ 3 → s k = S.2.2.1 k) → jMM m ad M0 (va_up S.1 2 f, S.2.1, s, S.2.2.2) M1 →
      jo (jf_X1_notes_j49 N m) M1 (fun _ M' => ∃ S', jMM m ad M0 S' M' ∧ (∀ C', jEnc C' (S.1 0) → jRM (C', (n + 1, fun i => if i = n then sC T else q i), T.2.2) S') ∧ S'.1 0 = S.1 0 ∧ S'.1 1 = S.1 1) := by
    intro M1 n q f s hn hq he hs3 hs hM1
    unfold jf_X1_notes_j49
    refine jo_rd (jM_fR hM1 (k := 0) rfl) (jo_rd (jM_fR hM1 (k := 2) rfl) (jo_rd (jM_fI hM1 (k := 3) rfl) ?_))
    rw [show (va_up S.1 2 f, S.2.1, s, S.2.2.2).2.2.1 3 = nI n from hs3, show (63 : Int32) * nI n = nI (63 * n) from nI_mul 63 n]
    refine jo_bd (jo_mono (jr_copies (k1 := 0) (k2 := 2) (a := 0) (b := 63 * n) hM1 (by omega) (.inl rfl) (.inr (.inr (.inl rfl))) (by decide) rfl rfl (by decide) (by show 63 * n + 63 ≤ 504; omega) (by decide) (by decide)) ?_)
    intro _ M2 hM2
    refine jo_rd (jM_fI hM2 (k := 3) rfl) ?_
    refine jM_puI hM2 (by decide) rfl ?_
    intro M3 hM3
    refine jo_ret ⟨_, hM3, fun C' hC' => ⟨hC', ?_, ?_, hI, ?_, hTp, ?_⟩, rfl, rfl⟩
    · show va_up s 3 (s 3 + 1) 3 = nI (n + 1)
      rw [va_up_self, hs3, nI_1]
    · intro i hi
      have hi : i < n + 1 := hi
      show jEnc (if i = n then sC T else q i) (fun j => jcp (S.1 0) (va_up S.1 2 f 2) 0 (63 * n) 63 (63 * i + j))
      rw [va_up_self]
      by_cases c : i = n
      · rw [if_pos c]
        refine jEnc_cg w1 hC (fun j hj => ?_)
        unfold jcp
        rw [if_pos (by omega), show 0 + (63 * i + j - 63 * n) = j from by omega]
      · rw [if_neg c]
        refine jEnc_cg (hq i (by omega)) (he i (by omega)) (fun j hj => ?_)
        unfold jcp
        rw [if_neg (by omega)]
    · show va_up s 3 (s 3 + 1) 7 = _
      rw [va_up_ne _ _ (by decide), hs 7 (by decide)]
      exact hU
    · show va_up s 3 (s 3 + 1) 14 = _
      rw [va_up_ne _ _ (by decide), hs 14 (by decide)]
      exact hF
  have hself : va_up S.1 2 (S.1 2) = S.1 := by funext j; unfold va_up; split <;> simp_all
  unfold jf_X1_notes
  refine jo_rd (jM_fI h (k := 3) rfl) ?_
  rw [hA]
  by_cases c : sActs T = 8
  · refine jo_t (show nI (sActs T) = nI 8 by rw [c]) ?_
    refine jo_bd (jo_mono (jo_up 441 (fun i z M' => jMM m ad M0 (va_up S.1 2 (jshift (S.1 2) i), S.2) M' ∧ z = nI i) (fun _ M' => jMM m ad M0 (va_up S.1 2 (jshift (S.1 2) 441), S.2) M') ?_ ?_ N 0 _ M ⟨?_, rfl⟩ (Nat.zero_le _) (by omega)) ?_)
    · rintro i z M' hi ⟨hM', rfl⟩
      unfold jf_X1_notes_L11
      refine jo_f (show ¬ nI 441 ≤ nI i by rw [nI_leI (by decide) (by omega)]; omega) ?_
      refine jo_rd (jM_fR hM' (k := 2) rfl) (jo_rd (jM_fR hM' (k := 2) rfl) ?_)
      refine jo_rd (jM_ldI hM' (k := 2) (.inr (.inr (.inl rfl))) rfl (j := i + 63) (by rw [show (63 : Int32) = nI 63 from rfl, nI_add]; exact jm_ixn (by show i + 63 < 504; omega) (by decide))) ?_
      refine jM_stI hM' (k := 2) (.inr (.inr (.inl rfl))) rfl (j := i) (jm_ixn (by show i < 504; omega) (by decide)) ?_
      intro M1 hM1
      refine jo_ret ⟨?_, nI_1 i⟩
      have e : (va_up (va_up S.1 2 (jshift (S.1 2) i), S.2).1 2 (upd ((va_up S.1 2 (jshift (S.1 2) i), S.2).1 2) i ((va_up S.1 2 (jshift (S.1 2) i), S.2).1 2 (i + 63))), (va_up S.1 2 (jshift (S.1 2) i), S.2).2) = (va_up S.1 2 (jshift (S.1 2) (i + 1)), S.2) := by
        show (va_up (va_up S.1 2 (jshift (S.1 2) i)) 2 (upd (va_up S.1 2 (jshift (S.1 2) i) 2) i (va_up S.1 2 (jshift (S.1 2) i) 2 (i + 63))), S.2) = _
        rw [va_up_self, jshift_up, va_up2]
      rw [e] at hM1
      exact hM1
    · rintro z M' ⟨hM', rfl⟩
      unfold jf_X1_notes_L11
      exact jo_t (show nI 441 ≤ nI 441 by decide +kernel) (jo_ret hM')
    · have : jshift (S.1 2) 0 = S.1 2 := by funext j; unfold jshift; rw [if_neg (Nat.not_lt_zero _)]
      rw [this, hself]
      exact h
    · intro _ M1 hM1
      unfold jf_X1_notes_k11_39
      refine jo_rd (jM_fI hM1 (k := 3) rfl) ?_
      refine jM_puI hM1 (by decide) rfl ?_
      intro M2 hM2
      refine jo_mono (tail M2 7 (fun i => sPast T (i + 1)) (jshift (S.1 2) 441) _ (by decide) (fun i hi => (w4 (i + 1) (by omega)).1) (fun i hi => ?_) ?_ ?_ hM2) ?_
      · refine jEnc_cg (w4 (i + 1) (by omega)).1 (hP (i + 1) (by omega)) (fun j hj => ?_)
        unfold jshift
        rw [if_pos (by omega), show 63 * i + j + 63 = 63 * (i + 1) + j from by omega]
      · show va_up S.2.2.1 3 (S.2.2.1 3 - 1) 3 = nI 7
        rw [va_up_self, hA, c]
        rfl
      · intro k hk
        exact va_up_ne _ _ hk
      · rintro _ M' ⟨S', q1, q2, q3, q4⟩
        refine ⟨S', q1, fun C' hC' => ?_, q3, q4⟩
        have := q2 C' hC'
        unfold sPush
        rw [if_pos c]
        obtain ⟨x1, x2, x3, x4⟩ := this
        refine ⟨x1, x2, fun i hi => ?_, x4⟩
        have hi : i < 8 := hi
        have x5 := x3 i hi
        show jEnc (if i < 7 then sPast T (i + 1) else sC T) _
        by_cases d : i < 7
        · rw [if_pos d]
          have x5 : jEnc (if i = 7 then sC T else sPast T (i + 1)) (fun j => S'.1 2 (63 * i + j)) := x5
          rw [if_neg (by omega)] at x5
          exact x5
        · rw [if_neg d]
          have x5 : jEnc (if i = 7 then sC T else sPast T (i + 1)) (fun j => S'.1 2 (63 * i + j)) := x5
          rw [if_pos (by omega)] at x5
          exact x5
  · refine jo_f (show ¬ nI (sActs T) = nI 8 by rw [nI_eq (by omega) (by omega)]; exact c) ?_
    have hM1 : jMM m ad M0 (va_up S.1 2 (S.1 2), S.2.1, S.2.2.1, S.2.2.2) M := by rw [hself]; exact h
    refine jo_mono (tail M (sActs T) (sPast T) (S.1 2) S.2.2.1 (by omega) (fun i hi => (w4 i hi).1) hP hA (fun _ _ => rfl) hM1) ?_
    rintro _ M' ⟨S', q1, q2, q3, q4⟩
    refine ⟨S', q1, fun C' hC' => ?_, q3, q4⟩
    unfold sPush
    rw [if_neg c]
    exact q2 C' hC'
end ED
