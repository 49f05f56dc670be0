/-! PLAIN LAW, 93.b: the model's determinant -/
section MD
variable {N m : Nat} {ad : Nat → Nat} {M0 M : Mem} {S : MS} {f : Nat → Int64}
/-- the model's state with another working table -/
def s15 (S : MS) (f : Nat → Int64) : MS := (S.1, va_up S.2.1 15 f, S.2.2)
theorem s15_self {S : MS} : s15 S (S.2.1 15) = S := by
  unfold s15
  have : va_up S.2.1 15 (S.2.1 15) = S.2.1 := by
    funext k
    by_cases c : k = 15
    · rw [c, va_up_self]
    · rw [va_up_ne _ _ c]
  rw [this]
theorem s15_15 {S : MS} {f : Nat → Int64} : (s15 S f).2.1 15 = f := va_up_self S.2.1 15 f
theorem s15_s15 {S : MS} {f g : Nat → Int64} : s15 (s15 S f) g = s15 S g := by unfold s15; dsimp only; rw [va_up2]
theorem ix6 {a c : Nat} : (6 : Int32) * nI a + nI c = nI (6 * a + c) := by rw [show (6 : Int32) = nI 6 from rfl, nI_mul, nI_add]
theorem jM_ld15 {β : Type} {Q : β → Mem → Prop} {k : Int64 → jm_P β} (h : jMM m ad M0 (s15 S f) M) {i : Int32} {j : Nat} (hi : i = nI j) (hj : j < 36) (kk : jo (k (f j)) M Q) : jo (jm_rd (jm_fR [1] 15 (some m)) fun x => jm_rd (jm_ldJ 2 x i) k) M Q := by
  subst hi
  refine jo_rd (jM_fR h (k := 15) rfl) (jo_rd (jM_ldJ h (k := 15) (.inl rfl) (j := j) (jm_ixn (by show j < 36; exact hj) (by decide))) ?_)
  rw [s15_15]
  exact kk
theorem jM_st15 {β : Type} {Q : β → Mem → Prop} {p : jm_P β} (h : jMM m ad M0 (s15 S f) M) {i : Int32} {j : Nat} {x : Int64} (hi : i = nI j) (hj : j < 36) (kk : ∀ M1, jMM m ad M0 (s15 S (vp_updL f j x)) M1 → jo p M1 Q) : jo (jm_wr (jm_stJ 2 (some (ad 15)) i x) p) M Q := by
  subst hi
  refine jM_stJ h (k := 15) (.inl rfl) (j := j) (jm_ixn (by show j < 36; exact hj) (by decide)) (fun M1 h1 => kk M1 ?_)
  have e : ((s15 S f).1, va_up (s15 S f).2.1 15 (vp_updL ((s15 S f).2.1 15) j x), (s15 S f).2.2) = s15 S (vp_updL f j x) := by
    show s15 (s15 S f) (vp_updL ((s15 S f).2.1 15) j x) = _
    rw [s15_15, s15_s15]
  rw [e] at h1
  exact h1
theorem upL {f : Nat → Int64} {j k : Nat} {x : Int64} : vp_updL f j x k = if k = j then x else f k := rfl
theorem ij6 {i j a b : Nat} (hj : j < 6) (hb : b < 6) : 6 * i + j = 6 * a + b ↔ i = a ∧ j = b := by omega
theorem jm_swaps (h : jMM m ad M0 (s15 S f) M) (hN : 100 < N) {a b : Nat} (ha : a < 6) (hb : b < 6) (hab : a ≠ b) : jo (jf_X1_swaps N m (nI a) (nI b)) M (fun _ M' => ∃ g, jMM m ad M0 (s15 S g) M' ∧ ∀ i j, i < 6 → j < 6 → g (6 * i + j) = f (6 * (if i = a then b else if i = b then a else i) + j)) := by
  unfold jf_X1_swaps
  refine jo_bd (jo_mono (jo_up 6 (fun c z M' => z = nI c ∧ ∃ g, jMM m ad M0 (s15 S g) M' ∧ ∀ i j, i < 6 → j < 6 → g (6 * i + j) = if j < c then f (6 * (if i = a then b else if i = b then a else i) + j) else f (6 * i + j)) (fun _ M' => ∃ g, jMM m ad M0 (s15 S g) M' ∧ ∀ i j, i < 6 → j < 6 → g (6 * i + j) = f (6 * (if i = a then b else if i = b then a else i) + j)) ?_ ?_ N 0 _ M ⟨rfl, f, h, fun i j _ _ => by rw [if_neg (by omega)]⟩ (by omega) (by omega)) ?_)
  · rintro c z M' hc ⟨rfl, g, hg, e⟩
    unfold jf_X1_swaps_L2
    refine jo_f (show ¬ nI 6 ≤ nI c by rw [nI_leI (by omega) (by omega)]; omega) ?_
    refine jM_ld15 hg (j := 6 * a + c) ix6 (by omega) ?_
    refine jo_rd (jM_fR hg (k := 15) rfl) ?_
    refine jM_ld15 hg (j := 6 * b + c) ix6 (by omega) ?_
    refine jM_st15 hg (j := 6 * a + c) ix6 (by omega) (fun M1 h1 => ?_)
    refine jo_rd (jM_fR h1 (k := 15) rfl) ?_
    refine jM_st15 h1 (j := 6 * b + c) ix6 (by omega) (fun M2 h2 => jo_ret ⟨by rw [nI_1], _, h2, fun i j hi hj => ?_⟩)
    rw [upL, upL]
    have ea := e a c ha hc
    have eb := e b c hb hc
    rw [if_neg (Nat.lt_irrefl c)] at ea eb
    by_cases jc : j = c
    · subst jc
      rw [if_pos (show j < j + 1 by omega)]
      by_cases i1 : i = a
      · subst i1
        rw [if_neg (by omega), if_pos rfl, if_pos rfl, eb]
      · by_cases i2 : i = b
        · subst i2
          rw [if_pos rfl, if_neg i1, if_pos rfl, ea]
        · rw [if_neg (by omega), if_neg (by omega), if_neg i1, if_neg i2, e i j hi hj, if_neg (by omega)]
    · rw [if_neg (by omega), if_neg (by omega), e i j hi hj]
      by_cases l : j < c
      · rw [if_pos l, if_pos (show j < c + 1 by omega)]
      · rw [if_neg l, if_neg (show ¬ j < c + 1 by omega)]
  · rintro z M' ⟨rfl, g, hg, e⟩
    unfold jf_X1_swaps_L2
    exact jo_t (show nI 6 ≤ nI 6 by decide) (jo_ret ⟨g, hg, fun i j hi hj => by rw [e i j hi hj, if_pos hj]⟩)
  · intro _ M' hq
    exact jo_ret hq
/-- the table that is worked on, from k on -/
def dOn (n k : Nat) (f : Nat → Int64) (T : Nat → Nat → Int) : Prop := ∀ i j, k ≤ i → i < n → k ≤ j → j < n → f (6 * i + j) = jI (T i j)
theorem jm_detRow {n k : Nat} {B : Nat → Nat → Int} (hn : n ≤ 6) (hN : 100 < N) (hz : ∀ m, 1 ≤ m → m ≤ k → mn m B ≠ 0) {Mx : Nat} (hB : ∀ i j, i < n → j < n → (B i j).natAbs ≤ Mx) (hb : jBd n Mx) (hk : k + 1 < n) {i : Nat} (hi : k < i) (hi2 : i < n) {sg : Int64} {g : Nat → Int64} (h : jMM m ad M0 (s15 S g) M) (hg1 : ∀ a b, k < a → a < i → k < b → b < n → g (6 * a + b) = jI (bm (k + 1) B a b)) (hg2 : ∀ a b, k ≤ a → a < n → k ≤ b → b < n → (a = k ∨ b = k ∨ i ≤ a) → g (6 * a + b) = jI (bm k B a b)) :
    jo (jm_it (fun z => jf_X1_determinant_L92 N m (nI n) sg (jI (mn k B)) (nI k) (nI i) z) N (nI k + (1 : Int32))) M (fun _ M' => ∃ g', jMM m ad M0 (s15 S g') M' ∧ (∀ a b, k < a → a < i + 1 → k < b → b < n → g' (6 * a + b) = jI (bm (k + 1) B a b)) ∧ ∀ a b, k ≤ a → a < n → k ≤ b → b < n → (a = k ∨ b = k ∨ i + 1 ≤ a) → g' (6 * a + b) = jI (bm k B a b)) := by
  rw [nI_1]
  refine jo_mono (jo_up n (fun j z M' => z = nI j ∧ k < j ∧ ∃ g', jMM m ad M0 (s15 S g') M' ∧ ∀ a b, a < n → b < n → g' (6 * a + b) = if a = i ∧ k < b ∧ b < j then jI (bm (k + 1) B a b) else g (6 * a + b)) (fun _ M' => ∃ g', jMM m ad M0 (s15 S g') M' ∧ ∀ a b, a < n → b < n → g' (6 * a + b) = if a = i ∧ k < b ∧ b < n then jI (bm (k + 1) B a b) else g (6 * a + b)) ?_ ?_ N (k + 1) _ M ⟨rfl, by omega, g, h, fun a b _ _ => by rw [if_neg (by omega)]⟩ (by omega) (by omega)) ?_
  · rintro j z M' hj ⟨rfl, jk, g', h', e⟩
    unfold jf_X1_determinant_L92
    refine jo_f (by rw [nI_leI (by omega) (by omega)]; omega) (jo_rd (jM_fR h' (k := 15) rfl) ?_)
    refine jM_ld15 h' (j := 6 * i + j) ix6 (by omega) (jM_ld15 h' (j := 6 * k + k) ix6 (by omega) (jM_ld15 h' (j := 6 * i + k) ix6 (by omega) (jM_ld15 h' (j := 6 * k + j) ix6 (by omega) ?_)))
    have w := fun a b (ha : a < n) (hb : b < n) => bm_abs (k := k) (i := a) (j := b) hB (by omega) ha hb
    have bz := hb.1 k hk
    have lz : -9223372036854775808 ≤ mn k B ∧ mn k B < 9223372036854775808 := by
      by_cases c : k = 0
      · subst c; exact ⟨by show _ ≤ (1 : Int); omega, by show (1 : Int) < _; omega⟩
      · obtain ⟨k', rfl⟩ : ∃ q, k = q + 1 := ⟨k - 1, by omega⟩
        rw [← bm_last]
        exact rg_of (bm_abs (k := k') hB (by omega) (by omega) (by omega)) (hb.2 k' (by omega))
    have l0 : mn k B ≠ 0 := by
      by_cases c : k = 0
      · subst c; intro e; cases e
      · exact hz k (by omega) (Nat.le_refl _)
    refine jo_ck (by rw [jI_0 lz]; exact l0) ?_
    refine jM_st15 h' (j := 6 * i + j) ix6 (by omega) (fun M1 h1 => jo_ret ⟨by rw [nI_1], by omega, _, h1, fun a b ha hb => ?_⟩)
    rw [upL]
    by_cases c : a = i ∧ b = j
    · obtain ⟨rfl, rfl⟩ := c
      rw [if_pos rfl, if_pos ⟨rfl, by omega, by omega⟩]
      rw [e a b ha hb, if_neg (by omega), e k k (by omega) (by omega), if_neg (by omega), e a k ha (by omega), if_neg (by omega), e k b (by omega) hb, if_neg (by omega)]
      rw [hg2 a b (by omega) ha (by omega) hb (by omega), hg2 k k (by omega) (by omega) (by omega) (by omega) (by omega), hg2 a k (by omega) ha (by omega) (by omega) (by omega), hg2 k b (by omega) (by omega) (by omega) hb (by omega)]
      rw [jI_mul, jI_mul, jI_sub, jI_tdv (prod_rg (w a b ha hb) (w k k (by omega) (by omega)) (w a k ha (by omega)) (w k b (by omega) hb) bz) lz, bm_step hz (by omega) (by omega)]
    · rw [if_neg (by rw [ij6 (by omega) (by omega)]; exact c), e a b ha hb]
      by_cases c2 : a = i ∧ k < b ∧ b < j
      · rw [if_pos c2, if_pos (by omega)]
      · rw [if_neg c2, if_neg (by omega)]
  · rintro z M' ⟨rfl, _, g', h', e⟩
    unfold jf_X1_determinant_L92
    exact jo_t (by rw [nI_leI (by omega) (by omega)]; omega) (jo_ret ⟨g', h', e⟩)
  · rintro _ M' ⟨g', h', e⟩
    refine ⟨g', h', fun a b a1 a2 b1 b2 => ?_, fun a b a1 a2 b1 b2 hc => ?_⟩
    · rw [e a b (by omega) b2]
      by_cases c : a = i
      · rw [if_pos ⟨c, b1, b2⟩]
      · rw [if_neg (by omega)]
        exact hg1 a b a1 (by omega) b1 b2
    · rw [e a b a2 b2, if_neg (by omega)]
      exact hg2 a b a1 a2 b1 b2 (by omega)
theorem jm_detClear {n k : Nat} {B : Nat → Nat → Int} (hn : n ≤ 6) (hN : 100 < N) (hz : ∀ m, 1 ≤ m → m ≤ k → mn m B ≠ 0) {Mx : Nat} (hB : ∀ i j, i < n → j < n → (B i j).natAbs ≤ Mx) (hb : jBd n Mx) (hk : k < n) {sg : Int64} {g : Nat → Int64} (h : jMM m ad M0 (s15 S g) M) (hg : dOn n k g (bm k B)) :
    jo (jf_X1_determinant_j74 N m (nI n) sg (jI (mn k B)) (nI k)) M (fun x M' => x = .inl (sg, jI (mn (k + 1) B), nI (k + 1)) ∧ ∃ g', jMM m ad M0 (s15 S g') M' ∧ dOn n (k + 1) g' (bm (k + 1) B)) := by
  unfold jf_X1_determinant_j74
  rw [nI_1]
  refine jo_bd (jo_mono (jo_up n (fun i z M' => z = nI i ∧ k < i ∧ ∃ g', jMM m ad M0 (s15 S g') M' ∧ (∀ a b, k < a → a < i → k < b → b < n → g' (6 * a + b) = jI (bm (k + 1) B a b)) ∧ ∀ a b, k ≤ a → a < n → k ≤ b → b < n → (a = k ∨ b = k ∨ i ≤ a) → g' (6 * a + b) = jI (bm k B a b)) (fun _ M' => ∃ g', jMM m ad M0 (s15 S g') M' ∧ (∀ a b, k < a → a < n → k < b → b < n → g' (6 * a + b) = jI (bm (k + 1) B a b)) ∧ g' (6 * k + k) = jI (bm k B k k)) ?_ ?_ N (k + 1) _ M ⟨rfl, by omega, g, h, fun a b a1 a2 => by omega, fun a b a1 a2 b1 b2 _ => hg a b a1 a2 b1 b2⟩ (by omega) (by omega)) ?_)
  · rintro i z M' hi ⟨rfl, ki, g', h', e1, e2⟩
    unfold jf_X1_determinant_L80 jf_X1_determinant_k92_175
    refine jo_f (by rw [nI_leI (by omega) (by omega)]; omega) (jo_bd (jo_mono (jm_detRow hn hN hz hB hb (by omega) ki hi h' e1 e2) ?_))
    rintro _ M1 ⟨g1, h1, q1, q2⟩
    exact jo_ret ⟨by rw [nI_1], by omega, g1, h1, q1, q2⟩
  · rintro z M' ⟨rfl, _, g', h', e1, e2⟩
    unfold jf_X1_determinant_L80
    exact jo_t (by rw [nI_leI (by omega) (by omega)]; omega) (jo_ret ⟨g', h', e1, e2 k k (by omega) (by omega) (by omega) (by omega) (.inl rfl)⟩)
  · rintro _ M' ⟨g', h', e1, e2⟩
    unfold jf_X1_determinant_k80_181
    refine jM_ld15 h' (j := 6 * k + k) ix6 (by omega) (jo_ret ⟨?_, g', h', fun a b a1 a2 b1 b2 => e1 a b (by omega) a2 (by omega) b2⟩)
    rw [e2, bm_last, nI_1]
theorem jm_det {n : Nat} {A : Nat → Nat → Int} {Mx : Nat} (h : jMM m ad M0 (s15 S f) M) (hn : n ≤ 6) (hN : 100 < N) (hA : ∀ i j, i < n → j < n → f (6 * i + j) = jI (A i j)) (hB : ∀ i j, i < n → j < n → (A i j).natAbs ≤ Mx) (hb : jBd n Mx) :
    jo (jf_X1_determinant N m (nI n)) M (fun r M' => r = jI (mn n A) ∧ ∃ g, jMM m ad M0 (s15 S g) M') := by
  unfold jf_X1_determinant
  refine jo_bd (jo_mono (jo_up n (fun k z M' => ∃ (B : Nat → Nat → Int) (sg : Int), z = (jI sg, jI (mn k B), nI k) ∧ mn n A = sg * mn n B ∧ (∀ m, 1 ≤ m → m ≤ k → mn m B ≠ 0) ∧ (∀ i j, i < n → j < n → (B i j).natAbs ≤ Mx) ∧ ∃ g, jMM m ad M0 (s15 S g) M' ∧ dOn n k g (bm k B)) (fun y M' => (match y with
      | .inl _ => mn n A = 0
      | .inr y => y.1 * y.2 = jI (mn n A)) ∧ ∃ g, jMM m ad M0 (s15 S g) M') ?_ ?_ N 0 _ M ⟨A, 1, rfl, by rw [Int.one_mul], fun m h1 h2 => by omega, hB, f, h, fun i j _ a _ b => by rw [bm_0]; exact hA i j a b⟩ (Nat.zero_le _) (by omega)) ?_)
  · rintro k z M' hk ⟨B, sg, rfl, e1, e2, e3, g, h', e4⟩
    unfold jf_X1_determinant_L8
    refine jo_f (by rw [nI_leI (by omega) (by omega)]; omega) ?_
    dsimp only
    -- the first row that is not 0
    refine jo_bd (jo_mono (jo_up n (fun p z M1 => z = nI p ∧ k ≤ p ∧ M1 = M' ∧ ∀ i, k ≤ i → i < p → bm k B i k = 0) (fun y M1 => M1 = M' ∧ ((y = nI n ∧ ∀ i, k ≤ i → i < n → bm k B i k = 0) ∨ ∃ p, y = nI p ∧ k ≤ p ∧ p < n ∧ bm k B p k ≠ 0)) ?_ ?_ N k _ M' ⟨rfl, Nat.le_refl _, rfl, fun i i1 i2 => by omega⟩ (by omega) (by omega)) ?_)
    · rintro p z M1 hp ⟨rfl, kp, rfl, e⟩
      unfold jf_X1_determinant_L18
      refine jo_f (by rw [nI_leI (by omega) (by omega)]; omega) (jM_ld15 h' (j := 6 * p + k) ix6 (by omega) ?_)
      rw [e4 p k kp hp (Nat.le_refl _) hk]
      have rg := rg_of (bm_abs (k := k) (i := p) (j := k) e3 hk hp hk) (hb.2 k hk)
      by_cases c : bm k B p k = 0
      · refine jo_t (by rw [c]; rfl) (jo_ret ⟨by rw [nI_1], by omega, rfl, fun i i1 i2 => ?_⟩)
        by_cases ei : i = p
        · rw [ei, c]
        · exact e i i1 (by omega)
      · exact jo_f (by rw [jI_0 rg]; exact c) (jo_ret ⟨rfl, .inr ⟨p, rfl, kp, hp, c⟩⟩)
    · rintro z M1 ⟨rfl, kp, rfl, e⟩
      unfold jf_X1_determinant_L18
      exact jo_t (by rw [nI_leI (by omega) (by omega)]; omega) (jo_ret ⟨rfl, .inl ⟨rfl, e⟩⟩)
    · rintro y M1 ⟨rfl, hy⟩
      unfold jf_X1_determinant_k18_48
      rcases hy with ⟨rfl, hy⟩ | ⟨p, rfl, kp, hp, hy⟩
      · refine jo_t rfl (jo_ret ⟨?_, g, h'⟩)
        show mn n A = 0
        rw [e1, mn_nopiv hk e2 hy, Int.mul_zero]
      · refine jo_f (by rw [nI_eq (by omega) (by omega)]; omega) ?_
        by_cases c : p = k
        · subst c
          refine jo_t (by rw [nI_leI (by omega) (by omega)]; omega) (jo_mono (jm_detClear hn hN e2 e3 hb hk h' e4) ?_)
          rintro x M2 ⟨rfl, g2, h2, q2⟩
          refine ⟨B, sg, rfl, e1, fun m m1 m2 => ?_, e3, g2, h2, q2⟩
          by_cases cm : m = p + 1
          · subst cm; rw [← bm_last]; exact hy
          · exact e2 m m1 (by omega)
        · refine jo_f (by rw [nI_leI (by omega) (by omega)]; omega) (jo_rd (jM_cl h') (jo_bd (jo_mono (jm_swaps h' hN (by omega) (by omega) c) ?_)))
          rintro _ M2 ⟨g2, h2, q2⟩
          have f4 : dOn n k g2 (bm k (swr B p k)) := by
            intro i j i1 i2 j1 j2
            rw [q2 i j (by omega) (by omega), bm_sw kp (Nat.le_refl _) i1]
            exact e4 _ j (by split; omega; split <;> omega) (by split; omega; split <;> omega) j1 j2
          have f2 : ∀ m, 1 ≤ m → m ≤ k → mn m (swr B p k) ≠ 0 := fun m m1 m2 => by rw [mn_swlow (by omega) m2]; exact e2 m m1 m2
          have f3 : ∀ i j, i < n → j < n → (swr B p k i j).natAbs ≤ Mx := fun i j i1 j1 => e3 _ j (by split; omega; split <;> omega) j1
          have f5 : mn k B = mn k (swr B p k) := (mn_swlow (by omega) (Nat.le_refl _)).symm
          rw [f5]
          refine jo_mono (jm_detClear hn hN f2 f3 hb hk h2 f4) ?_
          rintro x M3 ⟨rfl, g3, h3, q3⟩
          refine ⟨swr B p k, -sg, by rw [jI_neg], ?_, fun m m1 m2 => ?_, f3, g3, h3, q3⟩
          · rw [mn_swr hp hk c, e1, Int.neg_mul_neg]
          · by_cases cm : m = k + 1
            · subst cm
              rw [← bm_last, bm_sw kp (Nat.le_refl _) (Nat.le_refl _), if_neg (fun e => c e.symm), if_pos rfl]
              exact hy
            · exact f2 m m1 (by omega)
  · rintro z M' ⟨B, sg, rfl, e1, e2, e3, g, h', e4⟩
    unfold jf_X1_determinant_L8
    refine jo_t (by rw [nI_leI (by omega) (by omega)]; omega) (jo_ret ⟨?_, g, h'⟩)
    show jI sg * jI (mn n B) = jI (mn n A)
    rw [jI_mul, e1]
  · rintro y M' ⟨hy, g, h'⟩
    cases y with
    | inl y =>
      unfold jf_X1_determinant_k8_54
      have hy : mn n A = 0 := hy
      exact jo_ret ⟨by rw [hy]; rfl, g, h'⟩
    | inr y =>
      unfold jf_X1_determinant_k8_202
      exact jo_ret ⟨hy, g, h'⟩
end MD
