/-! PLAIN LAW, 92.a: determinants: rows -/
theorem ds_succ {n : Nat} {f : Nat → Int} : jsum (n + 1) f = jsum n f + f n := rfl
theorem ds_0 {n : Nat} {f : Nat → Int} (h : ∀ k, k < n → f k = 0) : jsum n f = 0 := by
  induction n with
  | zero => rfl
  | succ n ih => rw [ds_succ, ih (fun k hk => h k (by omega)), h n (by omega)]; rfl
theorem ds_lin {n : Nat} {f g : Nat → Int} {x y : Int} : jsum n (fun k => x * f k + y * g k) = x * jsum n f + y * jsum n g := by
  induction n with
  | zero => simp [jsum]
  | succ n ih => rw [ds_succ, ds_succ, ds_succ, ih]; grind
theorem ds_mul {n : Nat} {f : Nat → Int} {x : Int} : jsum n (fun k => x * f k) = x * jsum n f := by
  induction n with
  | zero => simp [jsum]
  | succ n ih => rw [ds_succ, ds_succ, ih]; grind
theorem ds_neg {n : Nat} {f : Nat → Int} : jsum n (fun k => - f k) = - jsum n f := by
  induction n with
  | zero => simp [jsum]
  | succ n ih => rw [ds_succ, ds_succ, ih]; grind
theorem ds_one {n t : Nat} {f : Nat → Int} (ht : t < n) (h : ∀ k, k < n → k ≠ t → f k = 0) : jsum n f = f t := by
  induction n with
  | zero => omega
  | succ n ih =>
    rw [ds_succ]
    by_cases e : t = n
    · subst e; rw [ds_0 (fun k hk => h k (by omega) (by omega))]; omega
    · rw [ih (by omega) (fun k hk hn => h k (by omega) hn), h n (by omega) (fun x => e x.symm)]; omega
theorem ds_two {n t : Nat} {f : Nat → Int} (ht : t + 1 < n) (h : ∀ k, k < n → k ≠ t → k ≠ t + 1 → f k = 0) : jsum n f = f t + f (t + 1) := by
  induction n with
  | zero => omega
  | succ n ih =>
    rw [ds_succ]
    by_cases e : t + 1 = n
    · subst e; rw [ds_one (t := t) (by omega) (fun k hk hn => h k (by omega) hn (by omega))]
    · rw [ih (by omega) (fun k hk hn hm => h k (by omega) hn hm), h n (by omega) (by omega) (fun x => e x.symm)]; omega
theorem ds_swap {n m : Nat} {f : Nat → Nat → Int} : jsum n (fun i => jsum m (fun j => f i j)) = jsum m (fun j => jsum n (fun i => f i j)) := by
  induction n with
  | zero => exact (ds_0 (n := m) (fun _ _ => rfl)).symm
  | succ n ih =>
    rw [ds_succ, ih]
    have := ds_lin (n := m) (f := fun j => jsum n (fun i => f i j)) (g := fun j => f n j) (x := 1) (y := 1)
    simp only [Int.one_mul] at this
    rw [← this]
    rfl
/-- the sum over all but one -/
def dk (i a : Nat) : Nat := if a < i then a else a + 1
theorem ds_dk {n i : Nat} {g : Nat → Int} (hi : i < n + 1) : jsum n (fun a => g (dk i a)) = jsum (n + 1) g - g i := by
  induction n with
  | zero =>
    have : i = 0 := by omega
    subst this
    simp [jsum]
  | succ n ih =>
    by_cases e : i = n + 1
    · subst e
      rw [ds_succ (n := n + 1)]
      have : jsum (n + 1) (fun a => g (dk (n + 1) a)) = jsum (n + 1) g := jsum_cg (fun k hk => by unfold dk; rw [if_pos hk])
      rw [this]; omega
    · rw [ds_succ, ih (by omega), ds_succ (n := n + 1)]
      have : dk i n = n + 1 := by unfold dk; rw [if_neg (by omega)]
      rw [this]; omega
def sgn (i : Nat) : Int := if i % 2 = 0 then 1 else -1
theorem sgn_s {i : Nat} : sgn (i + 1) = - sgn i := by unfold sgn; split <;> split <;> omega
/-- the determinant of n rows and columns -/
def mn : Nat → (Nat → Nat → Int) → Int
  | 0, _ => 1
  | n + 1, A => jsum (n + 1) (fun i => sgn i * (A i 0 * mn n (fun a b => A (dk i a) (b + 1))))
theorem mn_succ {n : Nat} {A : Nat → Nat → Int} : mn (n + 1) A = jsum (n + 1) (fun i => sgn i * (A i 0 * mn n (fun a b => A (dk i a) (b + 1)))) := rfl
theorem mn_cg : ∀ {n : Nat} {A B : Nat → Nat → Int}, (∀ i j, i < n → j < n → A i j = B i j) → mn n A = mn n B := by
  intro n
  induction n with
  | zero => intro A B _; rfl
  | succ n ih =>
    intro A B h
    rw [mn_succ, mn_succ]
    refine jsum_cg (fun i hi => ?_)
    rw [h i 0 hi (by omega), ih (fun a b ha hb => h _ _ (by unfold dk; split <;> omega) (by omega))]
/-- a row is laid -/
def rwd (A : Nat → Nat → Int) (t : Nat) (u : Nat → Int) : Nat → Nat → Int := fun i j => if i = t then u j else A i j
theorem rwd_dk {A : Nat → Nat → Int} {t i : Nat} {u : Nat → Int} (h : i ≠ t) : (fun a b => rwd A t u (dk i a) (b + 1)) = rwd (fun a b => A (dk i a) (b + 1)) (if t < i then t else t - 1) (fun b => u (b + 1)) := by
  funext a b
  have e : dk i a = t ↔ a = (if t < i then t else t - 1) := by unfold dk; split <;> split <;> omega
  show (if dk i a = t then u (b + 1) else A (dk i a) (b + 1)) = if a = (if t < i then t else t - 1) then u (b + 1) else A (dk i a) (b + 1)
  by_cases c : dk i a = t
  · rw [if_pos c, if_pos (e.mp c)]
  · rw [if_neg c, if_neg (fun x => c (e.mpr x))]
theorem mn_row : ∀ {n : Nat} {A : Nat → Nat → Int} {t : Nat} {u v : Nat → Int} {x y : Int}, t < n → mn n (rwd A t (fun j => x * u j + y * v j)) = x * mn n (rwd A t u) + y * mn n (rwd A t v) := by
  intro n
  induction n with
  | zero => intro A t u v x y h; omega
  | succ n ih =>
    intro A t u v x y h
    rw [mn_succ, mn_succ, mn_succ, ← ds_lin]
    refine jsum_cg (fun i hi => ?_)
    by_cases e : i = t
    · subst e
      have z : ∀ w : Nat → Int, mn n (fun a b => rwd A i w (dk i a) (b + 1)) = mn n (fun a b => A (dk i a) (b + 1)) := fun w => mn_cg (fun a b _ _ => by unfold rwd; rw [if_neg (by unfold dk; split <;> omega)])
      rw [z, z, z]
      simp only [rwd, if_true]
      grind
    · rw [rwd_dk e, rwd_dk e, rwd_dk e, ih (by split <;> omega)]
      have z : ∀ w : Nat → Int, rwd A t w i 0 = A i 0 := fun w => by unfold rwd; rw [if_neg e]
      rw [z, z, z]
      grind
/-- two rows side by side are alike -/
theorem mn_adj : ∀ {n : Nat} {A : Nat → Nat → Int} {t : Nat}, t + 1 < n → (∀ j, j < n → A t j = A (t + 1) j) → mn n A = 0 := by
  intro n
  induction n with
  | zero => intro A t h; omega
  | succ n ih =>
    intro A t h hA
    rw [mn_succ, ds_two h (fun k hk h1 h2 => ?_)]
    · rw [sgn_s, ← hA 0 (by omega)]
      have : mn n (fun a b => A (dk t a) (b + 1)) = mn n (fun a b => A (dk (t + 1) a) (b + 1)) := mn_cg (fun a b _ hb => by
        unfold dk
        by_cases c1 : a < t
        · rw [if_pos c1, if_pos (by omega)]
        · rw [if_neg c1]
          by_cases c2 : a = t
          · subst c2; rw [if_pos (by omega)]; exact (hA _ (by omega)).symm
          · rw [if_neg (by omega)])
      rw [this]; grind
    · have := ih (A := fun a b => A (dk k a) (b + 1)) (t := if t < k then t else t - 1) (by split <;> omega) (fun j hj => by
        unfold dk
        by_cases c1 : t < k
        · rw [if_pos c1, if_pos (by omega), if_pos (by omega)]; exact hA _ (by omega)
        · rw [if_neg c1, if_neg (by omega), if_neg (by omega), show t - 1 + 1 = t by omega]; exact hA _ (by omega))
      rw [this]; omega
theorem rwd_same {A : Nat → Nat → Int} {t : Nat} {n : Nat} {u : Nat → Int} (h : ∀ j, j < n → u j = A t j) : mn n (rwd A t u) = mn n A := mn_cg (fun i j _ hj => by
  unfold rwd
  by_cases c : i = t
  · rw [if_pos c, h j hj, c]
  · rw [if_neg c])
theorem rwd_cg {A B : Nat → Nat → Int} {t n : Nat} {u v : Nat → Int} (h : ∀ i j, i < n → j < n → i ≠ t → A i j = B i j) (hu : ∀ j, j < n → u j = v j) : mn n (rwd A t u) = mn n (rwd B t v) := mn_cg (fun i j hi hj => by
  unfold rwd
  by_cases c : i = t
  · rw [if_pos c, if_pos c, hu j hj]
  · rw [if_neg c, if_neg c, h i j hi hj c])
/-- two rows side by side change places -/
theorem mn_sw {n : Nat} {A : Nat → Nat → Int} {t : Nat} (h : t + 1 < n) : mn n (fun i j => A (if i = t then t + 1 else if i = t + 1 then t else i) j) = - mn n A := by
  have f : ∀ x y : Nat → Int, mn n (rwd (rwd A t (fun j => x j + y j)) (t + 1) (fun j => x j + y j)) = 0 := fun x y => mn_adj h (fun j _ => by unfold rwd; rw [if_neg (by omega), if_pos rfl, if_pos rfl])
  have g : ∀ x : Nat → Int, mn n (rwd (rwd A t x) (t + 1) x) = 0 := fun x => mn_adj h (fun j _ => by unfold rwd; rw [if_neg (by omega), if_pos rfl, if_pos rfl])
  have l1 : ∀ w x y : Nat → Int, mn n (rwd (rwd A t (fun j => x j + y j)) (t + 1) w) = mn n (rwd (rwd A t x) (t + 1) w) + mn n (rwd (rwd A t y) (t + 1) w) := by
    intro w x y
    have c : ∀ z : Nat → Int, mn n (rwd (rwd A t z) (t + 1) w) = mn n (rwd (rwd A (t + 1) w) t z) := fun z => mn_cg (fun i j _ _ => by
      unfold rwd
      by_cases c1 : i = t
      · subst c1; rw [if_neg (by omega), if_pos rfl, if_pos rfl]
      · by_cases c2 : i = t + 1
        · subst c2; rw [if_pos rfl, if_neg c1, if_pos rfl]
        · rw [if_neg c2, if_neg c1, if_neg c1, if_neg c2])
    rw [c, c, c]
    have := mn_row (n := n) (A := rwd A (t + 1) w) (t := t) (u := x) (v := y) (x := 1) (y := 1) (by omega)
    simp only [Int.one_mul] at this
    exact this
  have l2 : ∀ w x y : Nat → Int, mn n (rwd (rwd A t w) (t + 1) (fun j => x j + y j)) = mn n (rwd (rwd A t w) (t + 1) x) + mn n (rwd (rwd A t w) (t + 1) y) := by
    intro w x y
    have := mn_row (n := n) (A := rwd A t w) (t := t + 1) (u := x) (v := y) (x := 1) (y := 1) (by omega)
    simp only [Int.one_mul] at this
    exact this
  have e := f (A t) (A (t + 1))
  rw [l1, l2, l2, g, g] at e
  have e1 : mn n (rwd (rwd A t (A t)) (t + 1) (A (t + 1))) = mn n A := by
    rw [rwd_cg (B := A) (v := A (t + 1)) (fun i j _ _ _ => by unfold rwd; split; rename_i c; rw [c]; rfl) (fun _ _ => rfl)]
    exact rwd_same (fun _ _ => rfl)
  have e2 : mn n (rwd (rwd A t (A (t + 1))) (t + 1) (A t)) = mn n (fun i j => A (if i = t then t + 1 else if i = t + 1 then t else i) j) := mn_cg (fun i j _ _ => by
    unfold rwd
    by_cases c1 : i = t
    · subst c1; rw [if_neg (by omega), if_pos rfl, if_pos rfl]
    · by_cases c2 : i = t + 1
      · subst c2; rw [if_pos rfl, if_neg c1, if_pos rfl]
      · rw [if_neg c2, if_neg c1, if_neg c1, if_neg c2])
  rw [e1, e2] at e
  omega
/-- two rows are alike -/
theorem mn_eq : ∀ (d : Nat) {n : Nat} {A : Nat → Nat → Int} {s : Nat}, s + 1 + d < n → (∀ j, j < n → A s j = A (s + 1 + d) j) → mn n A = 0 := by
  intro d
  induction d with
  | zero => intro n A s h hA; exact mn_adj h hA
  | succ d ih =>
    intro n A s h hA
    have e := mn_sw (n := n) (A := A) (t := s + 1 + d) (by omega)
    have z := ih (n := n) (A := fun i j => A (if i = s + 1 + d then s + 1 + d + 1 else if i = s + 1 + d + 1 then s + 1 + d else i) j) (s := s) (by omega) (fun j hj => by
      show A (if s = s + 1 + d then _ else if s = s + 1 + d + 1 then _ else s) j = A (if s + 1 + d = s + 1 + d then _ else _) j
      rw [if_neg (show ¬ s = s + 1 + d by omega), if_neg (show ¬ s = s + 1 + d + 1 by omega), if_pos rfl]
      exact hA j hj)
    rw [z] at e
    omega
theorem mn_eq2 {n : Nat} {A : Nat → Nat → Int} {s t : Nat} (hs : s < n) (ht : t < n) (hne : s ≠ t) (h : ∀ j, j < n → A s j = A t j) : mn n A = 0 := by
  by_cases c : s < t
  · obtain ⟨d, rfl⟩ : ∃ d, t = s + 1 + d := ⟨t - s - 1, by omega⟩
    exact mn_eq d ht h
  · obtain ⟨d, rfl⟩ : ∃ d, s = t + 1 + d := ⟨s - t - 1, by omega⟩
    exact mn_eq d hs (fun j hj => (h j hj).symm)
/-- multiples of one row are taken from all -/
theorem mn_rows {n : Nat} {R : Nat → Nat → Int} {w : Nat → Int} {q : Nat → Int} : mn n (fun i j => R i j - q i * w j) = mn n R - jsum n (fun t => q t * mn n (rwd R t w)) := by
  have aux : ∀ (t : Nat), t < n → ∀ m, m ≤ t → mn n (fun i j => if i < m then R i j - q i * w j else if i = t then w j else R i j) = mn n (rwd R t w) := by
    intro t ht m
    induction m with
    | zero => intro _; exact mn_cg (fun i j _ _ => by rw [if_neg (by omega)]; rfl)
    | succ m ih =>
      intro hm
      rw [← ih (by omega)]
      have l := mn_row (n := n) (A := fun i j => if i < m then R i j - q i * w j else if i = t then w j else R i j) (t := m) (u := R m) (v := w) (x := 1) (y := - q m) (by omega)
      have z : mn n (rwd (fun i j => if i < m then R i j - q i * w j else if i = t then w j else R i j) m w) = 0 := mn_eq2 (s := m) (t := t) (by omega) ht (by omega) (fun j _ => by unfold rwd; dsimp only; rw [if_pos rfl, if_neg (by omega), if_neg (by omega), if_pos rfl])
      have z2 : mn n (rwd (fun i j => if i < m then R i j - q i * w j else if i = t then w j else R i j) m (R m)) = mn n (fun i j => if i < m then R i j - q i * w j else if i = t then w j else R i j) := rwd_same (fun j _ => by rw [if_neg (by omega), if_neg (by omega)])
      rw [z, z2] at l
      rw [Int.mul_zero, Int.add_zero, Int.one_mul] at l
      rw [← l]
      refine mn_cg (fun i j _ _ => ?_)
      unfold rwd
      dsimp only
      by_cases c : i = m
      · subst c; rw [if_pos (by omega), if_pos rfl]; grind
      · rw [if_neg c]
        by_cases c2 : i < m
        · rw [if_pos (by omega), if_pos c2]
        · rw [if_neg (by omega), if_neg c2]
  have main : ∀ m, m ≤ n → mn n (fun i j => if i < m then R i j - q i * w j else R i j) = mn n R - jsum m (fun t => q t * mn n (rwd R t w)) := by
    intro m
    induction m with
    | zero => intro _; rw [show jsum 0 (fun t => q t * mn n (rwd R t w)) = 0 from rfl, Int.sub_zero]; exact mn_cg (fun i j _ _ => by rw [if_neg (by omega)])
    | succ m ih =>
      intro hm
      have l := mn_row (n := n) (A := fun i j => if i < m then R i j - q i * w j else R i j) (t := m) (u := R m) (v := w) (x := 1) (y := - q m) (by omega)
      have z : mn n (rwd (fun i j => if i < m then R i j - q i * w j else R i j) m w) = mn n (rwd R m w) := by
        rw [← aux m (by omega) m (Nat.le_refl _)]
        refine mn_cg (fun i j _ _ => ?_)
        unfold rwd
        dsimp only
        by_cases c : i = m
        · subst c; rw [if_pos rfl, if_neg (by omega), if_pos rfl]
        · rw [if_neg c]
          by_cases c2 : i < m
          · rw [if_pos c2, if_pos c2]
          · rw [if_neg c2, if_neg c2, if_neg c]
      have z2 : mn n (rwd (fun i j => if i < m then R i j - q i * w j else R i j) m (R m)) = mn n (fun i j => if i < m then R i j - q i * w j else R i j) := rwd_same (fun j _ => by rw [if_neg (by omega)])
      rw [z, z2, ih (by omega)] at l
      rw [ds_succ]
      have : mn n (fun i j => if i < m + 1 then R i j - q i * w j else R i j) = mn n (rwd (fun i j => if i < m then R i j - q i * w j else R i j) m (fun j => 1 * R m j + - q m * w j)) := mn_cg (fun i j _ _ => by
        unfold rwd
        dsimp only
        by_cases c : i = m
        · subst c; rw [if_pos (by omega), if_pos rfl]; grind
        · rw [if_neg c]
          by_cases c2 : i < m
          · rw [if_pos (by omega), if_pos c2]
          · rw [if_neg (by omega), if_neg c2])
      rw [this, l]
      grind
  rw [← main n (Nat.le_refl _)]
  exact mn_cg (fun i j hi _ => by rw [if_pos hi])
