/-! PLAIN LAW, 92.d: determinants by divisions without a rest; bounds; minors in order -/
theorem mn_scale {n : Nat} {A : Nat → Nat → Int} {p : Int} : ∀ m, m ≤ n → mn n (fun i j => if i < m then p * A i j else A i j) = p ^ m * mn n A := by
  intro m
  induction m with
  | zero => intro _; rw [Int.pow_zero, Int.one_mul]; exact mn_cg (fun i j _ _ => by rw [if_neg (by omega)])
  | succ m ih =>
    intro hm
    have l := mn_row (n := n) (A := fun i j => if i < m then p * A i j else A i j) (t := m) (u := A m) (v := A m) (x := p) (y := 0) (by omega)
    have z : mn n (rwd (fun i j => if i < m then p * A i j else A i j) m (A m)) = mn n (fun i j => if i < m then p * A i j else A i j) := rwd_same (fun j _ => by rw [if_neg (by omega)])
    rw [z, ih (by omega), Int.zero_mul, Int.add_zero] at l
    have e : mn n (fun i j => if i < m + 1 then p * A i j else A i j) = mn n (rwd (fun i j => if i < m then p * A i j else A i j) m (fun j => p * A m j + 0 * A m j)) := mn_cg (fun i j _ _ => by
      unfold rwd
      dsimp only
      by_cases c : i = m
      · subst c; rw [if_pos (by omega), if_pos rfl]; omega
      · rw [if_neg c]
        by_cases c2 : i < m
        · rw [if_pos (by omega), if_pos c2]
        · rw [if_neg (by omega), if_neg c2])
    rw [e, l, Int.pow_succ]
    grind
/-- the two-minors through the first number -/
def chi (A : Nat → Nat → Int) : Nat → Nat → Int := fun i j => A 0 0 * A (i + 1) (j + 1) - A (i + 1) 0 * A 0 (j + 1)
theorem mn_chi {n : Nat} {A : Nat → Nat → Int} : A 0 0 * mn n (chi A) = A 0 0 ^ n * mn (n + 1) A := by
  have r := mn_rows (n := n + 1) (R := fun i j => if i = 0 then A 0 j else A 0 0 * A i j) (w := A 0) (q := fun i => if i = 0 then 0 else A i 0)
  have z : jsum (n + 1) (fun t => (if t = 0 then 0 else A t 0) * mn (n + 1) (rwd (fun i j => if i = 0 then A 0 j else A 0 0 * A i j) t (A 0))) = 0 := by
    refine ds_0 (fun t ht => ?_)
    by_cases c : t = 0
    · rw [if_pos c, Int.zero_mul]
    · have : mn (n + 1) (rwd (fun i j => if i = 0 then A 0 j else A 0 0 * A i j) t (A 0)) = 0 := mn_eq2 (s := 0) (t := t) (by omega) ht (fun e => c e.symm) (fun j _ => by
        unfold rwd
        dsimp only
        rw [if_neg (fun e => c e.symm), if_pos rfl, if_pos rfl])
      rw [this, Int.mul_zero]
  rw [z, Int.sub_zero] at r
  -- the first column is A00, 0, 0 ..
  have f : mn (n + 1) (fun i j => (if i = 0 then A 0 j else A 0 0 * A i j) - (if i = 0 then 0 else A i 0) * A 0 j) = A 0 0 * mn n (chi A) := by
    rw [mn_succ, ds_one (t := 0) (by omega) (fun k hk hn => ?_)]
    · have e2 : sgn 0 = 1 := rfl
      rw [e2, Int.one_mul]
      have e1 : ((if (0 : Nat) = 0 then A 0 0 else A 0 0 * A 0 0) - (if (0 : Nat) = 0 then 0 else A 0 0) * A 0 0) = A 0 0 := by simp
      rw [e1]
      congr 1
    · have : ((if k = 0 then A 0 0 else A 0 0 * A k 0) - (if k = 0 then 0 else A k 0) * A 0 0) = 0 := by rw [if_neg hn, if_neg hn]; grind
      rw [this, Int.zero_mul, Int.mul_zero]
  rw [f] at r
  rw [r]
  clear r f z
  -- rows but the first are taken A00 times
  have g : ∀ m, m ≤ n → mn (n + 1) (fun i j => if i = 0 then A 0 j else if i ≤ m then A 0 0 * A i j else A i j) = A 0 0 ^ m * mn (n + 1) A := by
    intro m
    induction m with
    | zero => intro _; rw [Int.pow_zero, Int.one_mul]; exact mn_cg (fun i j _ _ => by
        by_cases c : i = 0
        · rw [if_pos c, c]
        · rw [if_neg c, if_neg (by omega)])
    | succ m ih =>
      intro hm
      have l := mn_row (n := n + 1) (A := fun i j => if i = 0 then A 0 j else if i ≤ m then A 0 0 * A i j else A i j) (t := m + 1) (u := A (m + 1)) (v := A (m + 1)) (x := A 0 0) (y := 0) (by omega)
      have z : mn (n + 1) (rwd (fun i j => if i = 0 then A 0 j else if i ≤ m then A 0 0 * A i j else A i j) (m + 1) (A (m + 1))) = mn (n + 1) (fun i j => if i = 0 then A 0 j else if i ≤ m then A 0 0 * A i j else A i j) := rwd_same (fun j _ => by rw [if_neg (by omega), if_neg (by omega)])
      rw [z, ih (by omega), Int.zero_mul, Int.add_zero] at l
      have e : mn (n + 1) (fun i j => if i = 0 then A 0 j else if i ≤ m + 1 then A 0 0 * A i j else A i j) = mn (n + 1) (rwd (fun i j => if i = 0 then A 0 j else if i ≤ m then A 0 0 * A i j else A i j) (m + 1) (fun j => A 0 0 * A (m + 1) j + 0 * A (m + 1) j)) := mn_cg (fun i j _ _ => by
        unfold rwd
        dsimp only
        by_cases c : i = m + 1
        · subst c; rw [if_neg (by omega), if_pos (by omega), if_pos rfl]; omega
        · rw [if_neg c]
          by_cases c0 : i = 0
          · rw [if_pos c0, if_pos c0]
          · rw [if_neg c0, if_neg c0]
            by_cases c2 : i ≤ m
            · rw [if_pos (by omega), if_pos c2]
            · rw [if_neg (by omega), if_neg c2])
      rw [e, l, Int.pow_succ]
      grind
  rw [← g n (Nat.le_refl _)]
  refine mn_cg (fun i j hi _ => ?_)
  by_cases c : i = 0
  · rw [if_pos c, if_pos c]
  · rw [if_neg c, if_neg c, if_pos (by omega)]
/-- the leading minor with a row and a column more -/
def bm (k : Nat) (A : Nat → Nat → Int) (i j : Nat) : Int := mn (k + 1) (fun a b => A (if a < k then a else i) (if b < k then b else j))
theorem bm_chi {k : Nat} {A : Nat → Nat → Int} {i j : Nat} (h0 : A 0 0 ≠ 0) : bm k (chi A) i j = A 0 0 ^ k * bm (k + 1) A (i + 1) (j + 1) := by
  have e := mn_chi (n := k + 1) (A := fun a b => A (if a < k + 1 then a else i + 1) (if b < k + 1 then b else j + 1))
  have e0 : (if (0 : Nat) < k + 1 then (0 : Nat) else i + 1) = 0 := if_pos (by omega)
  have e1 : (if (0 : Nat) < k + 1 then (0 : Nat) else j + 1) = 0 := if_pos (by omega)
  rw [e0, e1] at e
  have c : mn (k + 1) (chi (fun a b => A (if a < k + 1 then a else i + 1) (if b < k + 1 then b else j + 1))) = bm k (chi A) i j := mn_cg (fun a b _ _ => by
    unfold chi
    dsimp only
    rw [e0, e1]
    by_cases ca : a < k <;> by_cases cb : b < k
    · rw [if_pos (show a + 1 < k + 1 by omega), if_pos (show b + 1 < k + 1 by omega), if_pos ca, if_pos cb]
    · rw [if_pos (show a + 1 < k + 1 by omega), if_neg (show ¬ b + 1 < k + 1 by omega), if_pos ca, if_neg cb]
    · rw [if_neg (show ¬ a + 1 < k + 1 by omega), if_pos (show b + 1 < k + 1 by omega), if_neg ca, if_pos cb]
    · rw [if_neg (show ¬ a + 1 < k + 1 by omega), if_neg (show ¬ b + 1 < k + 1 by omega), if_neg ca, if_neg cb])
  rw [c] at e
  have : A 0 0 * bm k (chi A) i j = A 0 0 * (A 0 0 ^ k * bm (k + 1) A (i + 1) (j + 1)) := by
    rw [e, Int.pow_succ]
    show _ * bm (k + 1) A (i + 1) (j + 1) = _
    grind
  exact Int.eq_of_mul_eq_mul_left h0 this
theorem pow_ne {p : Int} (h : p ≠ 0) : ∀ n : Nat, p ^ n ≠ 0 := by
  intro n
  induction n with
  | zero => intro e; rw [Int.pow_zero] at e; cases e
  | succ n ih => rw [Int.pow_succ]; exact Int.mul_ne_zero ih h
/-- Sylvester's identity, where no leading minor is 0 -/
theorem bm_syl : ∀ {k : Nat} {A : Nat → Nat → Int} {i j : Nat}, (∀ m, 1 ≤ m → m ≤ k → mn m A ≠ 0) → bm k A i j * bm k A k k - bm k A i k * bm k A k j = mn k A * (if k ≤ i ∧ k ≤ j then bm (k + 1) A i j else bm k A i j * bm k A k k - bm k A i k * bm k A k j) ∨ ¬ (k ≤ i ∧ k ≤ j) := by
  intro k
  induction k with
  | zero =>
    intro A i j _
    left
    rw [if_pos ⟨Nat.zero_le _, Nat.zero_le _⟩]
    show mn 1 _ * mn 1 _ - mn 1 _ * mn 1 _ = 1 * mn 2 _
    simp [mn, jsum, sgn, dk]
    grind
  | succ k ih =>
    intro A i j h
    by_cases c : k + 1 ≤ i ∧ k + 1 ≤ j
    · left
      rw [if_pos c]
      have h1 : mn 1 A = A 0 0 := by simp [mn, jsum, sgn, dk]
      have h0 : A 0 0 ≠ 0 := by rw [← h1]; exact h 1 (by omega) (by omega)
      obtain ⟨i, rfl⟩ : ∃ n, i = n + 1 := ⟨i - 1, by omega⟩
      obtain ⟨j, rfl⟩ : ∃ n, j = n + 1 := ⟨j - 1, by omega⟩
      have hc : ∀ m, 1 ≤ m → m ≤ k → mn m (chi A) ≠ 0 := by
        intro m m1 m2 e
        have := mn_chi (n := m) (A := A)
        rw [e, Int.mul_zero] at this
        exact Int.mul_ne_zero (pow_ne h0 m) (h (m + 1) (by omega) (by omega)) this.symm
      have s := (ih (A := chi A) (i := i) (j := j) hc).resolve_right (fun y => y ⟨by omega, by omega⟩)
      rw [if_pos ⟨by omega, by omega⟩, bm_chi h0, bm_chi h0, bm_chi h0, bm_chi h0, bm_chi h0] at s
      have e := mn_chi (n := k) (A := A)
      -- A00 ^ (2 k + 1) is taken out
      have t : A 0 0 ^ (2 * k + 1) * (bm (k + 1) A (i + 1) (j + 1) * bm (k + 1) A (k + 1) (k + 1) - bm (k + 1) A (i + 1) (k + 1) * bm (k + 1) A (k + 1) (j + 1)) = A 0 0 ^ (2 * k + 1) * (mn (k + 1) A * bm (k + 1 + 1) A (i + 1) (j + 1)) := by
        have p1 : A 0 0 ^ (2 * k + 1) = A 0 0 * (A 0 0 ^ k * A 0 0 ^ k) := by rw [Int.pow_succ, show 2 * k = k + k by omega, Int.pow_add]; grind
        have p2 : A 0 0 ^ (k + 1) = A 0 0 ^ k * A 0 0 := Int.pow_succ ..
        rw [p2] at s
        rw [p1]
        generalize A 0 0 ^ k = P at *
        generalize A 0 0 = p at *
        generalize mn k (chi A) = x at *
        generalize mn (k + 1) A = y at *
        grind
      exact Int.eq_of_mul_eq_mul_left (pow_ne h0 _) t
    · exact .inr c
/-! bounds -/
def fct : Nat → Nat
  | 0 => 1
  | n + 1 => (n + 1) * fct n
theorem ds_abs {n : Nat} {f : Nat → Int} {b : Nat} (h : ∀ k, k < n → (f k).natAbs ≤ b) : (jsum n f).natAbs ≤ n * b := by
  induction n with
  | zero => simp [jsum]
  | succ n ih =>
    rw [ds_succ, Nat.succ_mul]
    exact Nat.le_trans (Int.natAbs_add_le _ _) (Nat.add_le_add (ih (fun k hk => h k (by omega))) (h n (by omega)))
theorem mn_abs : ∀ {n : Nat} {A : Nat → Nat → Int} {M : Nat}, (∀ i j, i < n → j < n → (A i j).natAbs ≤ M) → (mn n A).natAbs ≤ fct n * M ^ n := by
  intro n
  induction n with
  | zero => intro A M _; exact Nat.le_refl 1
  | succ n ih =>
    intro A M h
    rw [mn_succ]
    have := ds_abs (n := n + 1) (f := fun i => sgn i * (A i 0 * mn n (fun a b => A (dk i a) (b + 1)))) (b := M * (fct n * M ^ n)) (fun i hi => by
      rw [Int.natAbs_mul, Int.natAbs_mul]
      have s : (sgn i).natAbs = 1 := by unfold sgn; split <;> rfl
      rw [s, Nat.one_mul]
      exact Nat.mul_le_mul (h i 0 hi (by omega)) (ih (fun a b ha hb => h _ _ (dk_lt ha) (by omega))))
    refine Nat.le_trans this (Nat.le_of_eq ?_)
    show (n + 1) * (M * (fct n * M ^ n)) = (n + 1) * fct n * M ^ (n + 1)
    rw [Nat.pow_succ]
    grind
theorem bm_abs {k i j M n : Nat} {A : Nat → Nat → Int} (h : ∀ i j, i < n → j < n → (A i j).natAbs ≤ M) (hk : k < n) (hi : i < n) (hj : j < n) : (bm k A i j).natAbs ≤ fct (k + 1) * M ^ (k + 1) :=
  mn_abs (fun a b ha hb => h _ _ (by split <;> omega) (by split <;> omega))
