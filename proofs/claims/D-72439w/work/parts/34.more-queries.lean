/-! PLAIN LAW, 34: what the model reads, loops -/
theorem jl_sum {body : Int32 × Int32 → jm_P ((Int32 × Int32) ⊕ Int32)} {M : Mem} {n N : Nat} (g : Nat → Int)
    (hs : ∀ (i : Nat) (z : Int), i < n → (body (iI z, nI i)).1 M = some (.inl (iI (z + g i), nI (i + 1)), M))
    (hl : ∀ z : Int, (body (iI z, nI n)).1 M = some (.inr (iI z), M)) (hN : n < N) : (jm_it body N (iI 0, nI 0)).1 M = some (iI (jsum n g), M) := by
  refine jo_out (jo_up n (fun i z M' => M' = M ∧ z = (iI (jsum i g), nI i)) (fun r M' => r = iI (jsum n g) ∧ M' = M) ?_ ?_ N 0 _ M ⟨rfl, rfl⟩ (Nat.zero_le _) (by omega))
  · rintro i z M' hi ⟨rfl, rfl⟩
    exact jo_of (hs i (jsum i g) hi) ⟨rfl, rfl⟩
  · rintro z M' ⟨rfl, rfl⟩
    exact jo_of (hl (jsum n g)) ⟨rfl, rfl⟩
theorem jl_sumJ {body : Int64 × Int32 → jm_P ((Int64 × Int32) ⊕ Int64)} {M : Mem} {n N : Nat} (g : Nat → Int)
    (hs : ∀ (i : Nat) (z : Int), i < n → (body (jI z, nI i)).1 M = some (.inl (jI (z + g i), nI (i + 1)), M))
    (hl : ∀ z : Int, (body (jI z, nI n)).1 M = some (.inr (jI z), M)) (hN : n < N) : (jm_it body N (jI 0, nI 0)).1 M = some (jI (jsum n g), M) := by
  refine jo_out (jo_up n (fun i z M' => M' = M ∧ z = (jI (jsum i g), nI i)) (fun r M' => r = jI (jsum n g) ∧ M' = M) ?_ ?_ N 0 _ M ⟨rfl, rfl⟩ (Nat.zero_le _) (by omega))
  · rintro i z M' hi ⟨rfl, rfl⟩
    exact jo_of (hs i (jsum i g) hi) ⟨rfl, rfl⟩
  · rintro z M' ⟨rfl, rfl⟩
    exact jo_of (hl (jsum n g)) ⟨rfl, rfl⟩
/-- whether all of n -/
def jall : Nat → (Nat → Bool) → Bool
  | 0, _ => true
  | n + 1, f => jall n f && f n
theorem jall_iff {n : Nat} {f : Nat → Bool} : jall n f = true ↔ ∀ k, k < n → f k = true := by
  induction n with
  | zero => simp [jall]
  | succ n ih =>
    rw [jall, Bool.and_eq_true, ih]
    constructor
    · rintro ⟨h1, h2⟩ k hk
      rcases Nat.lt_or_eq_of_le (Nat.le_of_lt_succ hk) with h | h
      · exact h1 k h
      · rw [h]; exact h2
    · exact fun h => ⟨fun k hk => h k (Nat.lt_succ_of_lt hk), h n (Nat.lt_succ_self n)⟩
theorem jl_all {body : Int32 × Int32 → jm_P ((Int32 × Int32) ⊕ Int32)} {M : Mem} {n N : Nat} (g : Nat → Bool)
    (hs : ∀ (i : Nat) (c : Bool), i < n → (body (bI (c = true), nI i)).1 M = some (.inl (bI ((c && g i) = true), nI (i + 1)), M))
    (hl : ∀ c : Bool, (body (bI (c = true), nI n)).1 M = some (.inr (bI (c = true)), M)) (hN : n < N) : (jm_it body N (1, nI 0)).1 M = some (bI (jall n g = true), M) := by
  refine jo_out (jo_up n (fun i z M' => M' = M ∧ z = (bI (jall i g = true), nI i)) (fun r M' => r = bI (jall n g = true) ∧ M' = M) ?_ ?_ N 0 _ M ⟨rfl, rfl⟩ (Nat.zero_le _) (by omega))
  · rintro i z M' hi ⟨rfl, rfl⟩
    exact jo_of (hs i (jall i g) hi) ⟨rfl, rfl⟩
  · rintro z M' ⟨rfl, rfl⟩
    exact jo_of (hl (jall n g)) ⟨rfl, rfl⟩
section RD
variable {N m a n : Nat} {ad : Nat → Nat} {M0 M : Mem} {S : MS} {C : CX} {b : Nat → Int32}
theorem jr_now0 (h : jMM m ad M0 S M) (hC : jEnc C (S.1 0)) {i : Int32} (e : i = nI 0) : jm_ldI 0 (some (ad 0)) i M = some (nI (cP C)) := by
  rw [jr_ld (jM_now h) e (by decide) (by decide), hC.1]
theorem jr_now1 (h : jMM m ad M0 S M) (hC : jEnc C (S.1 0)) {i : Int32} (e : i = nI 1) : jm_ldI 0 (some (ad 0)) i M = some (nI (cE C)) := by
  rw [jr_ld (jM_now h) e (by decide) (by decide), hC.2.1]
theorem jr_now2 (h : jMM m ad M0 S M) (hC : jEnc C (S.1 0)) {i : Int32} (e : i = nI 2) : jm_ldI 0 (some (ad 0)) i M = some (nI (cF C)) := by
  rw [jr_ld (jM_now h) e (by decide) (by decide), hC.2.2.1]
theorem jr_ed (h : jMM m ad M0 S M) (hC : jEnc C (S.1 0)) (hW : jWf C) {e w : Nat} (he : e < cE C) (hw : w < 3) : (jf_X1_edgeAt N (some (ad 0)) (nI e) (nI w)).1 M = some (nI (cEd C e w), M) := by
  rw [jr_edgeAt (jM_now h) (by decide) (by have := hW.2.1; omega), hC.2.2.2.1 e w he hw]
theorem jr_mn (h : jMM m ad M0 S M) (hC : jEnc C (S.1 0)) (hW : jWf C) {f : Nat} (hf : f < cF C) : (jf_X1_many N (some (ad 0)) (nI f)).1 M = some (nI (cFl C f), M) := by
  rw [jr_many (jM_now h) (by decide) (by have := hW.2.2.1; omega), (hC.2.2.2.2.1 f hf).2.1]
theorem jr_lt (h : jMM m ad M0 S M) (hC : jEnc C (S.1 0)) (hW : jWf C) {f k : Nat} (hf : f < cF C) (hk : k < cFl C f) : (jf_X1_letter N (some (ad 0)) (nI f) (nI k)).1 M = some (iI (cLt C f k), M) := by
  rw [jr_letter (jM_now h) (by decide) (by have := hW.2.2.1; have := (hW.2.2.2.2.1 f hf).2.2.2.1; omega), (hC.2.2.2.2.1 f hf).2.2 k hk]
theorem jr_wt (h : jMM m ad M0 S M) (hC : jEnc C (S.1 0)) (hW : jWf C) {d k : Nat} (hd : d = 1 ∨ d = 2) (hk : k < cCols C d) : (jf_X1_weight N (some (ad 0)) (nI d) (nI k)).1 M = some (nI (cWt C d k), M) := by
  have h6 := hW.2.1
  have h4 := hW.2.2.1
  rcases hd with rfl | rfl
  · have hk : k < cE C := hk
    rw [jr_weight (jM_now h) (by decide) (.inl rfl) (by rw [if_pos rfl]; omega), if_pos rfl, show 5 + 3 * k = 3 + 3 * k + 2 by omega, hC.2.2.2.1 k 2 hk (by decide)]
    rfl
  · have hk : k < cF C := hk
    rw [jr_weight (jM_now h) (by decide) (.inr rfl) (by rw [if_neg (by decide)]; omega), if_neg (by decide), (hC.2.2.2.2.1 k hk).1]
    rfl
theorem jr_one (h : jMM m ad M0 S M) (hC : jEnc C (S.1 0)) (hW : jWf C) {p e : Nat} (hp : p < 100) (he : e < cE C) : (jf_X1_one N m (nI p) (nI e)).1 M = some (iI (cOne C p e), M) := by
  refine jo_out ?_
  have h5 := hW.1
  have hed := hW.2.2.2.1 e he
  unfold jf_X1_one jf_X1_one_j18 jf_X1_one_j36
  refine jo_rd (jM_fR h (k := 0) rfl) ?_
  refine jo_eq (jr_ed (w := 1) h hC hW he (by decide)) ?_
  unfold cOne
  by_cases c1 : cEd C e 1 = p
  · refine jo_t (by rw [nI_eq (by omega) (by omega)]; exact c1) ?_
    rw [if_pos c1]
    refine jo_rd (jM_fR h (k := 0) rfl) ?_
    refine jo_eq (jr_ed (w := 0) h hC hW he (by decide)) ?_
    by_cases c0 : cEd C e 0 = p
    · refine jo_t (by rw [nI_eq (by omega) (by omega)]; exact c0) ?_
      rw [if_pos c0]
      exact jo_ret ⟨rfl, rfl⟩
    · refine jo_f (by rw [nI_eq (by omega) (by omega)]; exact c0) ?_
      rw [if_neg c0]
      exact jo_ret ⟨rfl, rfl⟩
  · refine jo_f (by rw [nI_eq (by omega) (by omega)]; exact c1) ?_
    rw [if_neg c1]
    refine jo_rd (jM_fR h (k := 0) rfl) ?_
    refine jo_eq (jr_ed (w := 0) h hC hW he (by decide)) ?_
    by_cases c0 : cEd C e 0 = p
    · refine jo_t (by rw [nI_eq (by omega) (by omega)]; exact c0) ?_
      rw [if_pos c0]
      exact jo_ret ⟨rfl, rfl⟩
    · refine jo_f (by rw [nI_eq (by omega) (by omega)]; exact c0) ?_
      rw [if_neg c0]
      exact jo_ret ⟨rfl, rfl⟩
theorem lEd_sg {L : Int} (h0 : L ≠ 0) (e : Nat) : (lEd L = e ↔ lSg L e ≠ 0) ∧ (lEd L = e → lSg L e = if L < 0 then -1 else 1) := by
  unfold lEd lSg
  constructor
  · constructor
    · intro h; split at h <;> (repeat' split) <;> omega
    · intro h; split <;> (repeat' split at h) <;> omega
  · intro h; split at h <;> (repeat' split) <;> omega
theorem jr_two (h : jMM m ad M0 S M) (hC : jEnc C (S.1 0)) (hW : jWf C) {e f : Nat} (he : e < 100) (hf : f < cF C) (hN : 100 < N) : (jf_X1_two N m (nI e) (nI f)).1 M = some (iI (cTwo C e f), M) := by
  refine jo_out ?_
  have h6 := hW.2.1
  have hfw := hW.2.2.2.2.1 f hf
  unfold jf_X1_two jf_X1_two_k5_66
  refine jo_eq (jl_sum (n := cFl C f) (fun k => lSg (cLt C f k) e) ?_ ?_ (by omega)) (jo_ret ⟨rfl, rfl⟩)
  · intro i z hi
    refine jo_out ?_
    have hL := hfw.2.2.2.2 i hi
    unfold jf_X1_two_L5 jf_X1_two_j58
    refine jo_rd (jM_fR h (k := 0) rfl) ?_
    refine jo_eq (jr_mn h hC hW hf) ?_
    refine jo_f (by dsimp only; rw [nI_leI (by omega) (by omega)]; omega) ?_
    refine jo_rd (jM_fR h (k := 0) rfl) ?_
    refine jo_eq (jr_lt h hC hW hf hi) ?_
    refine jo_eq (jr_edgeOf (by omega) (by omega) hL.1) ?_
    have hs := lEd_sg hL.1 e
    have hle : lEd (cLt C f i) < 1000 := by unfold lEd; split <;> omega
    by_cases c : lEd (cLt C f i) = e
    · refine jo_t (by rw [nI_eq (by omega) (by omega)]; exact c) ?_
      refine jo_rd (jM_fR h (k := 0) rfl) ?_
      refine jo_eq (jr_lt h hC hW hf hi) ?_
      rw [hs.2 c]
      by_cases c2 : cLt C f i < 0
      · refine jo_f (show ¬ iI 0 ≤ iI _ by rw [iI_leI (by omega) (by omega)]; omega) ?_
        rw [if_pos c2]
        refine jo_ret ⟨?_, rfl⟩
        show Sum.inl (iI z + iI (-1), nI i + 1) = _
        rw [iI_add, nI_1]
      · refine jo_t (show iI 0 ≤ iI _ by rw [iI_leI (by omega) (by omega)]; omega) ?_
        rw [if_neg c2]
        refine jo_ret ⟨?_, rfl⟩
        show Sum.inl (iI z + iI 1, nI i + 1) = _
        rw [iI_add, nI_1]
    · refine jo_f (by rw [nI_eq (by omega) (by omega)]; exact c) ?_
      have : lSg (cLt C f i) e = 0 := Classical.byContradiction fun x => c (hs.1.mpr x)
      rw [this]
      refine jo_ret ⟨?_, rfl⟩
      show Sum.inl (iI z + iI 0, nI i + 1) = _
      rw [iI_add, nI_1]
  · intro z
    refine jo_out ?_
    unfold jf_X1_two_L5
    refine jo_rd (jM_fR h (k := 0) rfl) ?_
    refine jo_eq (jr_mn h hC hW hf) ?_
    exact jo_t (by dsimp only; rw [nI_leI (by omega) (by omega)]; omega) (jo_ret ⟨rfl, rfl⟩)
theorem jr_rows (h : jMM m ad M0 S M) (hC : jEnc C (S.1 0)) {d : Nat} (hd : d = 1 ∨ d = 2) : (jf_X1_rows N m (nI d)).1 M = some (nI (cRows C d), M) := by
  refine jo_out ?_
  unfold jf_X1_rows
  rcases hd with rfl | rfl
  · exact jo_t (by rfl) (jo_rd (jM_fR h (k := 0) rfl) (jo_rd (jr_now0 h hC rfl) (jo_ret ⟨rfl, rfl⟩)))
  · exact jo_f (by decide +kernel) (jo_rd (jM_fR h (k := 0) rfl) (jo_rd (jr_now1 h hC rfl) (jo_ret ⟨rfl, rfl⟩)))
theorem jr_cols (h : jMM m ad M0 S M) (hC : jEnc C (S.1 0)) {d : Nat} (hd : d = 1 ∨ d = 2) : (jf_X1_columns N m (nI d)).1 M = some (nI (cCols C d), M) := by
  refine jo_out ?_
  unfold jf_X1_columns
  rcases hd with rfl | rfl
  · exact jo_t (by rfl) (jo_rd (jM_fR h (k := 0) rfl) (jo_rd (jr_now1 h hC rfl) (jo_ret ⟨rfl, rfl⟩)))
  · exact jo_f (by decide +kernel) (jo_rd (jM_fR h (k := 0) rfl) (jo_rd (jr_now2 h hC rfl) (jo_ret ⟨rfl, rfl⟩)))
theorem cRows_le {C : CX} (hW : jWf C) {d : Nat} : cRows C d ≤ 6 := by
  unfold cRows; have := hW.1; have := hW.2.1; split <;> omega
theorem cCols_le {C : CX} (hW : jWf C) {d : Nat} : cCols C d ≤ 6 := by
  unfold cCols; have := hW.2.2.1; have := hW.2.1; split <;> omega
theorem jr_entry (h : jMM m ad M0 S M) (hC : jEnc C (S.1 0)) (hW : jWf C) (hN : 100 < N) {d i j : Nat} (hd : d = 1 ∨ d = 2) (hi : i < 100) (hj : j < cCols C d) : (jf_X1_entry N m (nI d) (nI i) (nI j)).1 M = some (iI (cTab C d i j), M) := by
  refine jo_out ?_
  unfold jf_X1_entry
  rcases hd with rfl | rfl
  · exact jo_t (by rfl) (jo_rd (jM_cl h) (jo_eq (jr_one h hC hW hi hj) (jo_ret ⟨rfl, rfl⟩)))
  · exact jo_f (by decide +kernel) (jo_rd (jM_cl h) (jo_eq (jr_two h hC hW hi hj hN) (jo_ret ⟨rfl, rfl⟩)))
theorem cTab_le {C : CX} (hW : jWf C) {d i j : Nat} (hd : d = 1 ∨ d = 2) (hj : j < cCols C d) : -4 ≤ cTab C d i j ∧ cTab C d i j ≤ 4 := by
  unfold cTab
  rcases hd with rfl | rfl
  · rw [if_pos rfl]; have := cOne_le (C := C) (p := i) (e := j); omega
  · rw [if_neg (by decide)]; exact cTwo_le hW hj
theorem cWt_le {C : CX} (hW : jWf C) {d j : Nat} (hd : d = 1 ∨ d = 2) (hj : j < cCols C d) : 1 ≤ cWt C d j ∧ cWt C d j ≤ 3 := by
  unfold cWt
  rcases hd with rfl | rfl
  · rw [if_pos rfl]; exact (hW.2.2.2.1 j hj).2.2
  · rw [if_neg (by decide)]; have := hW.2.2.2.2.1 j hj; omega
theorem jr_near (h : jMM m ad M0 S M) (hC : jEnc C (S.1 0)) (hW : jWf C) (hN : 100 < N) {w i j : Nat} (hw : w < 3) (hi : i < (if w = 0 then cP C else cE C)) (hj : j < (if w = 0 then cP C else cE C)) : (jf_X1_nearBy N m (nI w) (nI i) (nI j)).1 M = some (iI (cNear C w i j), M) := by
  refine jo_out ?_
  have h5 := hW.1
  have h6 := hW.2.1
  have hP : (if w = 0 then cP C else cE C) ≤ 6 := by split <;> omega
  have side : ∀ d, d = 1 ∨ d = 2 → (jf_X1_nearBy_j60 N m (nI i) (nI j) (0 : Int32) (nI d)).1 M = some (iI (jsum (cCols C d) (fun k => cTab C d i k * cWt C d k * cTab C d j k)), M) := by
    intro d hd
    have hc := cCols_le hW (d := d)
    refine jo_out ?_
    unfold jf_X1_nearBy_j60 jf_X1_nearBy_k65_118
    refine jo_eq (jl_sum (n := cCols C d) (fun k => cTab C d i k * cWt C d k * cTab C d j k) ?_ ?_ (by omega)) (jo_ret ⟨rfl, rfl⟩)
    · intro k z hk
      refine jo_out ?_
      unfold jf_X1_nearBy_L65
      refine jo_rd (jM_cl h) (jo_eq (jr_cols h hC hd) ?_)
      refine jo_f (by dsimp only; rw [nI_leI (by omega) (by omega)]; omega) ?_
      refine jo_rd (jM_cl h) (jo_eq (jr_entry h hC hW hN hd (by omega) hk) ?_)
      refine jo_rd (jM_fR h (k := 0) rfl) (jo_eq (jr_wt h hC hW hd hk) ?_)
      refine jo_rd (jM_cl h) (jo_eq (jr_entry h hC hW hN hd (by omega) hk) ?_)
      refine jo_ret ⟨?_, rfl⟩
      rw [nI_iI (cWt C d k), iI_mul, iI_mul]
      show Sum.inl (iI z + iI _, nI k + 1) = _
      rw [iI_add, nI_1]
    · intro z
      refine jo_out ?_
      unfold jf_X1_nearBy_L65
      refine jo_rd (jM_cl h) (jo_eq (jr_cols h hC hd) ?_)
      exact jo_t (by dsimp only; rw [nI_leI (by omega) (by omega)]; omega) (jo_ret ⟨rfl, rfl⟩)
  unfold jf_X1_nearBy
  unfold cNear
  rcases (show w = 0 ∨ w = 1 ∨ w = 2 by omega) with rfl | rfl | rfl
  · refine jo_f (by decide +kernel) (jo_t (by rfl) ?_)
    exact jo_of (side 1 (.inl rfl)) ⟨rfl, rfl⟩
  · refine jo_t (by rfl) ?_
    rw [if_pos rfl]
    rw [if_neg (by decide)] at hi hj
    unfold jf_X1_nearBy_k11_48
    refine jo_eq (jl_sum (n := cP C) (fun p => cOne C p i * cOne C p j) ?_ ?_ (by omega)) (jo_ret ⟨rfl, rfl⟩)
    · intro k z hk
      refine jo_out ?_
      unfold jf_X1_nearBy_L11
      refine jo_rd (jM_fR h (k := 0) rfl) (jo_rd (jr_now0 h hC rfl) ?_)
      refine jo_f (by dsimp only; rw [nI_leI (by omega) (by omega)]; omega) ?_
      refine jo_rd (jM_cl h) (jo_eq (jr_one h hC hW (by omega) hi) ?_)
      refine jo_rd (jM_cl h) (jo_eq (jr_one h hC hW (by omega) hj) ?_)
      refine jo_ret ⟨?_, rfl⟩
      rw [iI_mul]
      show Sum.inl (iI z + iI _, nI k + 1) = _
      rw [iI_add, nI_1]
    · intro z
      refine jo_out ?_
      unfold jf_X1_nearBy_L11
      refine jo_rd (jM_fR h (k := 0) rfl) (jo_rd (jr_now0 h hC rfl) ?_)
      exact jo_t (by dsimp only; rw [nI_leI (by omega) (by omega)]; omega) (jo_ret ⟨rfl, rfl⟩)
  · refine jo_f (by decide +kernel) (jo_f (by decide +kernel) ?_)
    exact jo_of (side 2 (.inr rfl)) ⟨rfl, rfl⟩
theorem jr_isComplex (h : jMM m ad M0 S M) (hC : jEnc C (S.1 0)) (hW : jWf C) : (jf_X1_isComplex N m).1 M = some (bI (0 < cP C), M) := by
  have h5 := hW.1
  refine jo_out ?_
  unfold jf_X1_isComplex
  refine jo_rd (jM_fR h (k := 0) rfl) (jo_rd (jr_now0 h hC rfl) ?_)
  by_cases c : 0 < cP C
  · exact jo_f (show ¬ nI _ ≤ nI 0 by rw [nI_leI (by omega) (by omega)]; omega) (jo_ret ⟨(bI_t c).symm, rfl⟩)
  · exact jo_t (show nI _ ≤ nI 0 by rw [nI_leI (by omega) (by omega)]; omega) (jo_ret ⟨(bI_f c).symm, rfl⟩)
/-- how many cells of a dimension -/
def cMany (C : CX) (d : Nat) : Nat := if d = 0 then cP C else if d = 1 then cE C else cF C
theorem cMany_le {C : CX} (hW : jWf C) (d : Nat) : cMany C d ≤ 6 := by
  unfold cMany; have := hW.1; have := hW.2.1; have := hW.2.2.1; split <;> (try split) <;> omega
end RD
