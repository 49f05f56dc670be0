/-! SIZES, 93.zya: what a clear does to minors (no program in sight) -/
theorem mn_schur {n : Nat} {A : Nat → Nat → Int} (h : A 0 0 ≠ 0) : A 0 0 * mn n (fun i j => A (i + 1) (j + 1)) = mn (n + 1) A + jsum n (fun t => A (t + 1) 0 * mn n (rwd (fun i j => A (i + 1) (j + 1)) t (fun j => A 0 (j + 1)))) := by
  have c := mn_chi (n := n) (A := A)
  have r := mn_rows (n := n) (R := fun i j => A 0 0 * A (i + 1) (j + 1)) (w := fun j => A 0 (j + 1)) (q := fun i => A (i + 1) 0)
  have sc : ∀ B : Nat → Nat → Int, mn n (fun i j => A 0 0 * B i j) = A 0 0 ^ n * mn n B := fun B => by
    rw [← mn_scale n (Nat.le_refl n)]
    exact mn_cg fun i j hi _ => by rw [if_pos hi]
  have one : ∀ t, t < n → A 0 0 * mn n (rwd (fun i j => A 0 0 * A (i + 1) (j + 1)) t (fun j => A 0 (j + 1))) = A 0 0 ^ n * mn n (rwd (fun i j => A (i + 1) (j + 1)) t (fun j => A 0 (j + 1))) := by
    intro t ht
    have l := mn_row (n := n) (A := fun i j => A 0 0 * A (i + 1) (j + 1)) (t := t) (u := fun j => A 0 (j + 1)) (v := fun j => A 0 (j + 1)) (x := A 0 0) (y := 0) ht
    rw [Int.zero_mul, Int.add_zero] at l
    rw [← l, ← sc]
    refine mn_cg fun i j _ _ => ?_
    unfold rwd
    by_cases e : i = t
    · rw [if_pos e, if_pos e]
      show A 0 0 * A 0 (j + 1) + 0 * A 0 (j + 1) = A 0 0 * A 0 (j + 1)
      rw [Int.zero_mul, Int.add_zero]
    · rw [if_neg e, if_neg e]
  have e1 : mn n (chi A) = mn n (fun i j => A 0 0 * A (i + 1) (j + 1)) - jsum n (fun t => A (t + 1) 0 * mn n (rwd (fun i j => A 0 0 * A (i + 1) (j + 1)) t (fun j => A 0 (j + 1)))) := r
  rw [e1, sc, Int.mul_sub, ← ds_mul] at c
  have e2 : jsum n (fun k => A 0 0 * (A (k + 1) 0 * mn n (rwd (fun i j => A 0 0 * A (i + 1) (j + 1)) k (fun j => A 0 (j + 1))))) = A 0 0 ^ n * jsum n (fun t => A (t + 1) 0 * mn n (rwd (fun i j => A (i + 1) (j + 1)) t (fun j => A 0 (j + 1)))) := by
    rw [← ds_mul]
    refine jsum_cg fun t ht => ?_
    have := one t ht
    generalize mn n (rwd (fun i j => A 0 0 * A (i + 1) (j + 1)) t (fun j => A 0 (j + 1))) = u at *
    generalize mn n (rwd (fun i j => A (i + 1) (j + 1)) t (fun j => A 0 (j + 1))) = v at *
    have : A (t + 1) 0 * (A 0 0 * u) = A (t + 1) 0 * (A 0 0 ^ n * v) := by rw [this]
    grind
  rw [e2] at c
  have hz : A 0 0 ^ n ≠ 0 := Int.pow_ne_zero h
  refine Int.eq_of_mul_eq_mul_left hz ?_
  generalize A 0 0 ^ n = P at *
  generalize mn n (fun i j => A (i + 1) (j + 1)) = u at *
  generalize jsum n (fun t => A (t + 1) 0 * mn n (rwd (fun i j => A (i + 1) (j + 1)) t (fun j => A 0 (j + 1)))) = v at *
  rw [Int.mul_add, ← c]
  grind
/-- one more in front -/
def cn (k : Nat) (σ : Nat → Nat) : Nat → Nat := fun a => if a = 0 then k else σ (a - 1)
theorem cn_s {k a : Nat} {σ : Nat → Nat} : cn k σ (a + 1) = σ a := by unfold cn; rw [if_neg (by omega)]; rfl
/-- the minor with row a changed to row k -/
def xch (F : Nat → Nat → Int) (n k : Nat) (σ τ : Nat → Nat) (t : Nat) : Int := mn n (rwd (fun a b => F (σ a) (τ b)) t (fun b => F k (τ b)))
theorem mn_piv {F : Nat → Nat → Int} {n k : Nat} {σ τ : Nat → Nat} (h : F k k ≠ 0) : F k k * mn n (fun a b => F (σ a) (τ b)) = mn (n + 1) (fun a b => F (cn k σ a) (cn k τ b)) + jsum n (fun t => F (σ t) k * xch F n k σ τ t) := by
  have := mn_schur (n := n) (A := fun a b => F (cn k σ a) (cn k τ b)) h
  simp only [cn_s] at this
  exact this
theorem mn_rowP {F : Nat → Nat → Int} {n k : Nat} {σ τ : Nat → Nat} (h : F k k ≠ 0) (hσ : ∀ a, a < n → k < σ a) : F k k * mn n (fun a b => rowP F k (σ a) (τ b)) = mn (n + 1) (fun a b => F (cn k σ a) (cn k τ b)) + jsum n (fun t => (F (σ t) k).tmod (F k k) * xch F n k σ τ t) := by
  have e : mn n (fun a b => rowP F k (σ a) (τ b)) = mn n (fun a b => F (σ a) (τ b)) - jsum n (fun t => (F (σ t) k).tdiv (F k k) * xch F n k σ τ t) := by
    have r := mn_rows (n := n) (R := fun a b => F (σ a) (τ b)) (w := fun b => F k (τ b)) (q := fun a => (F (σ a) k).tdiv (F k k))
    refine Eq.trans (mn_cg fun a b ha _ => ?_) r
    unfold rowP
    rw [if_pos (hσ a ha)]
  rw [e, Int.mul_sub, mn_piv h, ← ds_mul]
  have e2 : jsum n (fun t => F (σ t) k * xch F n k σ τ t) = jsum n (fun t => (F (σ t) k).tmod (F k k) * xch F n k σ τ t) + jsum n (fun t => F k k * ((F (σ t) k).tdiv (F k k) * xch F n k σ τ t)) := by
    have : ∀ (m : Nat) (f g : Nat → Int), jsum m (fun t => f t + g t) = jsum m f + jsum m g := fun m f g => by
      have := ds_lin (n := m) (f := f) (g := g) (x := 1) (y := 1)
      simpa only [Int.one_mul] using this
    rw [← this]
    refine jsum_cg fun t _ => ?_
    have := Int.tmod_def (F (σ t) k) (F k k)
    rw [this]
    grind
  omega
/-- sums of numbers that are lessened, signs kept -/
theorem co_sum {n : Nat} {T T' : Nat → Int} {c : Nat} (h1 : ∀ t, t < n → (0 ≤ T t → 0 ≤ T' t ∧ T' t ≤ T t) ∧ (T t ≤ 0 → T' t ≤ 0 ∧ T t ≤ T' t)) (h2 : ∀ t, t < n → (T' t).natAbs ≤ c) : (jsum n T').natAbs ≤ (jsum n T).natAbs ∨ (jsum n T').natAbs ≤ (n - 1) * c := by
  have mono : ∀ m, m ≤ n → (∀ t, t < m → 0 ≤ T t) → 0 ≤ jsum m T' ∧ jsum m T' ≤ jsum m T := by
    intro m
    induction m with
    | zero => intro _ _; exact ⟨Int.le_refl _, Int.le_refl _⟩
    | succ m ih =>
      intro hm hp
      have := ih (by omega) fun t ht => hp t (by omega)
      have := (h1 m (by omega)).1 (hp m (by omega))
      rw [ds_succ, ds_succ]
      omega
  have mono' : ∀ m, m ≤ n → (∀ t, t < m → T t ≤ 0) → jsum m T' ≤ 0 ∧ jsum m T ≤ jsum m T' := by
    intro m
    induction m with
    | zero => intro _ _; exact ⟨Int.le_refl _, Int.le_refl _⟩
    | succ m ih =>
      intro hm hp
      have := ih (by omega) fun t ht => hp t (by omega)
      have := (h1 m (by omega)).2 (hp m (by omega))
      rw [ds_succ, ds_succ]
      omega
  by_cases c1 : ∀ t, t < n → 0 ≤ T t
  · have := mono n (Nat.le_refl n) c1
    left; omega
  · by_cases c2 : ∀ t, t < n → T t ≤ 0
    · have := mono' n (Nat.le_refl n) c2
      left; omega
    · right
      have p1 : ∃ t, t < n ∧ T t < 0 := Classical.byContradiction fun y => c1 fun t ht => Classical.byContradiction fun z => y ⟨t, ht, by omega⟩
      have p2 : ∃ t, t < n ∧ 0 < T t := Classical.byContradiction fun y => c2 fun t ht => Classical.byContradiction fun z => y ⟨t, ht, by omega⟩
      obtain ⟨a, a1, a2⟩ := p1
      obtain ⟨b, b1, b2⟩ := p2
      have up : ∀ m, m ≤ n → jsum m T' ≤ ((if a < m then m - 1 else m : Nat) : Int) * c := by
        intro m
        induction m with
        | zero => intro _; rw [if_neg (Nat.not_lt_zero a)]; show (0 : Int) ≤ 0 * _; omega
        | succ m ih =>
          intro hm
          have i1 := ih (by omega)
          have i2 := h2 m (by omega)
          rw [ds_succ]
          by_cases e : a = m
          · subst e
            rw [if_neg (Nat.lt_irrefl a)] at i1
            rw [if_pos (Nat.lt_succ_self a), Nat.add_sub_cancel]
            have := (h1 a a1).2 (by omega)
            omega
          · by_cases l : a < m
            · rw [if_pos l] at i1
              rw [if_pos (by omega)]
              have : ((m + 1 - 1 : Nat) : Int) * c = ((m - 1 : Nat) : Int) * c + c := by
                rw [show m + 1 - 1 = (m - 1) + 1 by omega, Int.natCast_succ, Int.add_mul, Int.one_mul]
              omega
            · rw [if_neg l] at i1
              rw [if_neg (by omega), Int.natCast_succ, Int.add_mul, Int.one_mul]
              omega
      have dn : ∀ m, m ≤ n → - (((if b < m then m - 1 else m : Nat) : Int) * c) ≤ jsum m T' := by
        intro m
        induction m with
        | zero => intro _; rw [if_neg (Nat.not_lt_zero b)]; show - ((0 : Int) * _) ≤ 0; omega
        | succ m ih =>
          intro hm
          have i1 := ih (by omega)
          have i2 := h2 m (by omega)
          rw [ds_succ]
          by_cases e : b = m
          · subst e
            rw [if_neg (Nat.lt_irrefl b)] at i1
            rw [if_pos (Nat.lt_succ_self b), Nat.add_sub_cancel]
            have := (h1 b b1).1 (by omega)
            omega
          · by_cases l : b < m
            · rw [if_pos l] at i1
              rw [if_pos (by omega)]
              have : ((m + 1 - 1 : Nat) : Int) * c = ((m - 1 : Nat) : Int) * c + c := by
                rw [show m + 1 - 1 = (m - 1) + 1 by omega, Int.natCast_succ, Int.add_mul, Int.one_mul]
              omega
            · rw [if_neg l] at i1
              rw [if_neg (by omega), Int.natCast_succ, Int.add_mul, Int.one_mul]
              omega
      have u := up n (Nat.le_refl n)
      have d := dn n (Nat.le_refl n)
      rw [if_pos a1] at u
      rw [if_pos b1] at d
      have e : (((n - 1) * c : Nat) : Int) = ((n - 1 : Nat) : Int) * c := Int.natCast_mul _ _
      omega
