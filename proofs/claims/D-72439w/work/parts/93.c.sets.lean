/-! PLAIN LAW, 93.c: sets as rows of places -/
/-- where the k-th of a set stands, as the model looks for it -/
def ntR (s : Nat) : Nat → Nat → Nat → Nat
  | 0, _, i => i
  | g + 1, l, i => if 0 < l ∨ s.testBit i = false then ntR s g (l - (if s.testBit i = true then 1 else 0)) (i + 1) else i
def ntO (s : Nat) : Nat → Nat → Nat → Bool
  | 0, _, _ => false
  | g + 1, l, i => if 0 < l ∨ s.testBit i = false then ntO s g (l - (if s.testBit i = true then 1 else 0)) (i + 1) else true
def nt (s k : Nat) : Nat := ntR s 7 k 0
theorem nt_ok : ∀ s, s < 64 → ∀ k, k < 6 → k < sN s → ntO s 7 k 0 = true ∧ nt s k < 6 ∧ s.testBit (nt s k) = true ∧ (k + 1 < sN s → nt s k < nt s (k + 1)) := by decide +kernel
theorem nt_on : ∀ s, s < 64 → ∀ i, i < 6 → s.testBit i = true → ∃ j, j < 6 ∧ (j < sN s ∧ nt s j = i) := by decide +kernel
theorem sN_le : ∀ s, s < 64 → sN s ≤ 6 := by decide +kernel
theorem tb_lt {s R i : Nat} (h : s < 2 ^ R) (hb : s.testBit i = true) : i < R := by
  refine Nat.lt_of_not_le fun c => ?_
  have : s.testBit i = false := Nat.testBit_lt_two_pow (Nat.lt_of_lt_of_le h (Nat.pow_le_pow_right (by decide) c))
  rw [this] at hb
  cases hb
theorem nt_lt {s R k : Nat} (hs : s < 2 ^ R) (hR : R ≤ 6) (hk : k < sN s) : nt s k < R := by
  have h64 : s < 64 := Nat.lt_of_lt_of_le hs (Nat.pow_le_pow_right (n := 2) (by decide) hR)
  have := sN_le s h64
  exact tb_lt hs (nt_ok s h64 k (by omega) hk).2.2.1
theorem nt_inc {s : Nat} (hs : s < 64) : inc (sN s) (nt s) := fun a ha => by
  have := sN_le s hs
  exact (nt_ok s hs a (by omega) (by omega)).2.2.2 ha
/-- a set with given places -/
def bs : Nat → (Nat → Nat) → Nat
  | 0, _ => 0
  | k + 1, σ => 2 ^ σ k + bs k σ
theorem inc_lt {k : Nat} {σ : Nat → Nat} (h : inc k σ) : ∀ (d a : Nat), a + 1 + d < k → σ a < σ (a + 1 + d) := by
  intro d
  induction d with
  | zero => intro a ha; exact h a ha
  | succ d ih => intro a ha; exact Nat.lt_trans (ih a (by omega)) (h (a + 1 + d) ha)
theorem inc_mono {k a b : Nat} {σ : Nat → Nat} (h : inc k σ) (hab : a < b) (hb : b < k) : σ a < σ b := by
  obtain ⟨d, rfl⟩ : ∃ d, b = a + 1 + d := ⟨b - a - 1, by omega⟩
  exact inc_lt h d a hb
theorem bs_lt : ∀ {k : Nat} {σ : Nat → Nat} {R : Nat}, inc k σ → (∀ a, a < k → σ a < R) → bs k σ < 2 ^ R := by
  intro k
  induction k with
  | zero => intro σ R _ _; exact Nat.pow_pos (by decide)
  | succ k ih =>
    intro σ R hi hs
    have h1 : bs k σ < 2 ^ σ k := ih (fun a ha => hi a (by omega)) (fun a ha => inc_mono hi ha (by omega))
    have h2 : 2 ^ (σ k + 1) ≤ 2 ^ R := Nat.pow_le_pow_right (by decide) (hs k (by omega))
    rw [Nat.pow_succ] at h2
    show 2 ^ σ k + bs k σ < _
    omega
theorem bs_bit : ∀ {k : Nat} {σ : Nat → Nat} {i : Nat}, inc k σ → ((bs k σ).testBit i = true ↔ ∃ a, a < k ∧ σ a = i) := by
  intro k
  induction k with
  | zero =>
    intro σ i _
    constructor
    · intro h
      unfold bs at h
      rw [Nat.zero_testBit] at h
      cases h
    · rintro ⟨a, ha, _⟩; omega
  | succ k ih =>
    intro σ i hi
    have hi' : inc k σ := fun a ha => hi a (by omega)
    have h1 : bs k σ < 2 ^ σ k := bs_lt hi' (fun a ha => inc_mono hi ha (by omega))
    have ih' := ih (σ := σ) (i := i) hi'
    show (2 ^ σ k + bs k σ).testBit i = true ↔ _
    rcases Nat.lt_trichotomy i (σ k) with c | c | c
    · rw [Nat.testBit_two_pow_add_gt c, ih']
      constructor
      · rintro ⟨a, ha, e⟩; exact ⟨a, by omega, e⟩
      · rintro ⟨a, ha, e⟩
        by_cases ak : a = k
        · subst ak; omega
        · exact ⟨a, by omega, e⟩
    · subst c
      rw [Nat.testBit_two_pow_add_eq, Nat.testBit_lt_two_pow h1]
      exact ⟨fun _ => ⟨k, by omega, rfl⟩, fun _ => rfl⟩
    · have : (2 ^ σ k + bs k σ).testBit i = false := Nat.testBit_lt_two_pow (by
        have h2 : 2 ^ (σ k + 1) ≤ 2 ^ i := Nat.pow_le_pow_right (by decide) c
        rw [Nat.pow_succ] at h2
        omega)
      rw [this]
      refine ⟨fun h => (by cases h), ?_⟩
      rintro ⟨a, ha, e⟩
      by_cases ak : a = k
      · subst ak; omega
      · have := inc_mono hi (show a < k by omega) (by omega)
        omega
/-- two orders of the same set are the same -/
theorem inc_uniq {p q : Nat} {f g : Nat → Nat} (hf : inc p f) (hg : inc q g) (h1 : ∀ a, a < p → ∃ c, c < q ∧ g c = f a) (h2 : ∀ c, c < q → ∃ a, a < p ∧ f a = g c) : p = q ∧ ∀ a, a < p → f a = g a := by
  have key : ∀ a, a < p → a < q ∧ f a = g a := by
    intro a
    induction a using Nat.strongRecOn with
    | _ a ih =>
      intro ha
      obtain ⟨c, c1, c2⟩ := h1 a ha
      rcases Nat.lt_trichotomy c a with l | l | l
      · have := (ih c l (by omega)).2
        have := inc_mono hf l ha
        omega
      · subst l; exact ⟨c1, c2.symm⟩
      · have g1 := inc_mono hg l c1
        obtain ⟨e, e1, e2⟩ := h2 a (by omega)
        rcases Nat.lt_trichotomy e a with m | m | m
        · have := ih e m e1
          have := inc_mono hg m (by omega)
          omega
        · subst m; omega
        · have := inc_mono hf m e1
          omega
  refine ⟨?_, fun a ha => (key a ha).2⟩
  rcases Nat.lt_trichotomy p q with l | l | l
  · obtain ⟨a, a1, a2⟩ := h2 p l
    have := key a a1
    have := inc_mono hg a1 l
    omega
  · exact l
  · have := key q l
    omega
/-- every order is that of a set -/
theorem bs_nt {k R : Nat} {σ : Nat → Nat} (hi : inc k σ) (hs : ∀ a, a < k → σ a < R) (hR : R ≤ 6) : bs k σ < 2 ^ R ∧ sN (bs k σ) = k ∧ ∀ a, a < k → nt (bs k σ) a = σ a := by
  have h1 := bs_lt hi hs
  have h64 : bs k σ < 64 := Nat.lt_of_lt_of_le h1 (Nat.pow_le_pow_right (n := 2) (by decide) hR)
  have h6 := sN_le _ h64
  have u := inc_uniq (nt_inc h64) hi (fun a ha => (bs_bit hi).mp (nt_ok _ h64 a (by omega) ha).2.2.1) (fun c hc => by
    obtain ⟨j, _, j2, j3⟩ := nt_on _ h64 (σ c) (by have := hs c hc; omega) ((bs_bit hi).mpr ⟨c, hc, rfl⟩)
    exact ⟨j, j2, j3⟩)
  exact ⟨h1, u.1, fun a ha => u.2 a (by omega)⟩
section NT
variable {N : Nat} {M : Mem}
theorem jr_nth {s k : Nat} (hs : s < 64) (hk : k < sN s) (hN : 10 < N) : (jf_X1_nth N (nI s) (nI k)).1 M = some (nI (nt s k), M) := by
  have h6 := sN_le s hs
  refine jo_out ?_
  unfold jf_X1_nth jf_X1_nth_k4_38
  have key : ∀ (g l i N' : Nat), ntO s g l i = true → l < 7 → i + g ≤ 7 → g < N' → jo (jm_it (fun z => jf_X1_nth_L4 N (nI s) z.1 z.2) N' (nI l, nI i)) M (fun r M' => r = nI (ntR s g l i) ∧ M' = M) := by
    intro g
    induction g with
    | zero => intro l i N' h; cases h
    | succ g ih =>
      intro l i N' h hl hi hN'
      obtain ⟨N', rfl⟩ : ∃ n, N' = n + 1 := ⟨N' - 1, by omega⟩
      have hh := jr_has (N := N) (M := M) hs (show i < 32 by omega)
      unfold ntO at h
      unfold ntR
      -- one place on
      have st : (0 < l ∨ s.testBit i = false) → jo (jf_X1_nth_j16 N (nI s) (nI l) (nI i)) M (fun x M' => M' = M ∧ x = .inl (nI (l - (if s.testBit i = true then 1 else 0)), nI (i + 1))) := by
        intro hc
        unfold jf_X1_nth_j16 jf_X1_nth_j30
        refine jo_eq hh (jo_bI (fun c => jo_ret ⟨rfl, ?_⟩) (fun c => jo_ret ⟨rfl, ?_⟩))
        · rw [if_neg c, nI_1]
          show Sum.inl (nI l - nI 0, _) = _
          rw [nI_sub (Nat.zero_le _)]
        · rw [if_pos c, nI_1]
          have : 0 < l := hc.resolve_right (by rw [c]; decide)
          show Sum.inl (nI l - nI 1, _) = _
          rw [nI_sub (by omega)]
      by_cases c : 0 < l ∨ s.testBit i = false
      · rw [if_pos c] at h ⊢
        have hd : jo (jf_X1_nth_L4 N (nI s) (nI l) (nI i)) M (fun x M' => M' = M ∧ x = .inl (nI (l - (if s.testBit i = true then 1 else 0)), nI (i + 1))) := by
          unfold jf_X1_nth_L4
          by_cases c2 : 0 < l
          · exact jo_t (show nI 0 < nI l by rw [nI_ltI (by omega) (by omega)]; exact c2) (st c)
          · refine jo_f (show ¬ nI 0 < nI l by rw [nI_ltI (by omega) (by omega)]; exact c2) (jo_eq hh (jo_bI (fun _ => st c) (fun c3 => ?_)))
            exact absurd (c.resolve_left c2) (by rw [c3]; decide)
        refine jo_its (jo_mono hd ?_)
        rintro x M1 ⟨rfl, rfl⟩
        exact ih _ _ N' h (by omega) (by omega) (by omega)
      · rw [if_neg c]
        have c2 : ¬ 0 < l := fun y => c (.inl y)
        have hd : jo (jf_X1_nth_L4 N (nI s) (nI l) (nI i)) M (fun x M' => M' = M ∧ x = .inr (nI i)) := by
          unfold jf_X1_nth_L4
          refine jo_f (show ¬ nI 0 < nI l by rw [nI_ltI (by omega) (by omega)]; exact c2) (jo_eq hh (jo_bI (fun c3 => ?_) (fun _ => jo_ret ⟨rfl, rfl⟩)))
          exact absurd (.inr (by cases hb : s.testBit i; rfl; exact absurd hb c3)) c
        refine jo_its (jo_mono hd ?_)
        rintro x M1 ⟨rfl, rfl⟩
        exact ⟨rfl, rfl⟩
  refine jo_bd (jo_mono (key 7 k 0 N (nt_ok s hs k (by omega) hk).1 (by omega) (by omega) (by omega)) ?_)
  rintro r M1 ⟨rfl, rfl⟩
  exact jo_ret ⟨rfl, rfl⟩
end NT
