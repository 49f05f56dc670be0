/-! PLAIN LAW, 92.b: determinants: columns -/
/-- a column is laid -/
def cwd (A : Nat → Nat → Int) (t : Nat) (u : Nat → Int) : Nat → Nat → Int := fun i j => if j = t then u i else A i j
theorem cwd_dk {A : Nat → Nat → Int} {t i : Nat} {u : Nat → Int} : (fun a b => cwd A (t + 1) u (dk i a) (b + 1)) = cwd (fun a b => A (dk i a) (b + 1)) t (fun a => u (dk i a)) := by
  funext a b
  show (if b + 1 = t + 1 then _ else _) = if b = t then _ else _
  by_cases c : b = t
  · rw [if_pos c, if_pos (by omega)]
  · rw [if_neg c, if_neg (by omega)]
theorem mn_col : ∀ {n : Nat} {A : Nat → Nat → Int} {t : Nat} {u v : Nat → Int} {x y : Int}, t < n → mn n (cwd A t (fun i => x * u i + y * v i)) = x * mn n (cwd A t u) + y * mn n (cwd A t v) := by
  intro n
  induction n with
  | zero => intro A t u v x y h; omega
  | succ n ih =>
    intro A t u v x y h
    rw [mn_succ, mn_succ, mn_succ, ← ds_lin]
    refine jsum_cg (fun i hi => ?_)
    cases t with
    | zero =>
      have z : ∀ w : Nat → Int, mn n (fun a b => cwd A 0 w (dk i a) (b + 1)) = mn n (fun a b => A (dk i a) (b + 1)) := fun w => mn_cg (fun a b _ _ => by unfold cwd; rw [if_neg (by omega)])
      rw [z, z, z]
      simp only [cwd, if_true]
      grind
    | succ t =>
      rw [cwd_dk, cwd_dk, cwd_dk, ih (by omega)]
      have z : ∀ w : Nat → Int, cwd A (t + 1) w i 0 = A i 0 := fun w => by unfold cwd; rw [if_neg (by omega)]
      rw [z, z, z]
      grind
theorem dk_dk {i j x : Nat} (h : j < i) : dk i (dk j x) = dk j (dk (i - 1) x) := by
  unfold dk
  (repeat' split) <;> omega
/-- the first two columns are alike -/
theorem mn_col01 {n : Nat} {A : Nat → Nat → Int} (h : ∀ i, i < n + 2 → A i 0 = A i 1) : mn (n + 2) A = 0 := by
  -- what is left without two rows
  let W : Nat → Nat → Int := fun i i' => mn n (fun x y => A (dk i (dk (if i' < i then i' else i' - 1) x)) (y + 2))
  let s : Nat → Nat → Int := fun i i' => if i' < i then sgn i' else - sgn i'
  let K : Nat → Nat → Int := fun i i' => if i = i' then 0 else sgn i * (s i i' * (A i 0 * A i' 0 * W i i'))
  have sy : ∀ i i', i' < i → W i i' = W i' i := by
    intro i i' hi
    show mn n _ = mn n _
    rw [if_pos hi, if_neg (by omega)]
    exact mn_cg (fun a b _ _ => by rw [dk_dk hi])
  have an : ∀ i i', K i i' = - K i' i := by
    intro i i'
    show (if i = i' then 0 else _) = - (if i' = i then 0 else _)
    by_cases c : i = i'
    · rw [if_pos c, if_pos c.symm]; rfl
    · rw [if_neg c, if_neg (fun x => c x.symm)]
      show sgn i * ((if i' < i then _ else _) * _) = - (sgn i' * ((if i < i' then _ else _) * _))
      by_cases c2 : i' < i
      · rw [if_pos c2, if_neg (by omega), sy i i' c2]; grind
      · rw [if_neg c2, if_pos (by omega), sy i' i (by omega)]; grind
  have e : mn (n + 2) A = jsum (n + 2) (fun i => jsum (n + 2) (fun i' => K i i')) := by
    rw [mn_succ]
    refine jsum_cg (fun i hi => ?_)
    rw [mn_succ, ← ds_mul, ← ds_mul]
    have g := ds_dk (n := n + 1) (i := i) (g := fun i' => K i i') hi
    have z : K i i = 0 := by show (if i = i then _ else _) = _; rw [if_pos rfl]
    rw [show (n + 1 + 1 : Nat) = n + 2 from rfl] at g
    rw [z, Int.sub_zero] at g
    rw [← g]
    refine jsum_cg (fun a ha => ?_)
    show _ = (if i = dk i a then 0 else _)
    have hd : i ≠ dk i a := by unfold dk; split <;> omega
    rw [if_neg hd]
    show _ = sgn i * ((if dk i a < i then sgn (dk i a) else - sgn (dk i a)) * (A i 0 * A (dk i a) 0 * mn n _))
    have ea : (if dk i a < i then dk i a else dk i a - 1) = a := by unfold dk; (repeat' split) <;> omega
    have es : (if dk i a < i then sgn (dk i a) else - sgn (dk i a)) = sgn a := by
      unfold dk
      by_cases c : a < i
      · rw [if_pos c, if_pos c]
      · rw [if_neg c, if_neg (by omega), sgn_s]; omega
    rw [ea, es, h (dk i a) (by unfold dk; split <;> omega)]
    show sgn i * (A i 0 * (sgn a * (A (dk i a) (0 + 1) * mn n _))) = _
    have : (fun a_1 b => A (dk i (dk a a_1)) (b + 1 + 1)) = (fun x y => A (dk i (dk a x)) (y + 2)) := rfl
    rw [this]
    grind
  have f : jsum (n + 2) (fun i => jsum (n + 2) (fun i' => K i i')) = - jsum (n + 2) (fun i => jsum (n + 2) (fun i' => K i i')) := by
    rw [← ds_neg]
    rw [ds_swap (f := fun i i' => K i i')]
    refine jsum_cg (fun i _ => ?_)
    rw [← ds_neg]
    exact jsum_cg (fun i' _ => an i' i)
  rw [e]
  omega
theorem mn_cadj : ∀ (t : Nat) {n : Nat} {A : Nat → Nat → Int}, t + 1 < n → (∀ i, i < n → A i t = A i (t + 1)) → mn n A = 0 := by
  intro t
  induction t with
  | zero =>
    intro n A h hA
    obtain ⟨n, rfl⟩ : ∃ k, n = k + 2 := ⟨n - 2, by omega⟩
    exact mn_col01 hA
  | succ t ih =>
    intro n A h hA
    obtain ⟨n, rfl⟩ : ∃ k, n = k + 1 := ⟨n - 1, by omega⟩
    rw [mn_succ]
    refine ds_0 (fun i hi => ?_)
    rw [ih (n := n) (A := fun a b => A (dk i a) (b + 1)) (by omega) (fun a ha => hA _ (by unfold dk; split <;> omega))]
    omega
theorem cwd_same {A : Nat → Nat → Int} {t : Nat} {n : Nat} {u : Nat → Int} (h : ∀ i, i < n → u i = A i t) : mn n (cwd A t u) = mn n A := mn_cg (fun i j hi _ => by
  unfold cwd
  by_cases c : j = t
  · rw [if_pos c, h i hi, c]
  · rw [if_neg c])
theorem mn_csw {n : Nat} {A : Nat → Nat → Int} {t : Nat} (h : t + 1 < n) : mn n (fun i j => A i (if j = t then t + 1 else if j = t + 1 then t else j)) = - mn n A := by
  have f : ∀ x y : Nat → Int, mn n (cwd (cwd A t (fun j => x j + y j)) (t + 1) (fun j => x j + y j)) = 0 := fun x y => mn_cadj t h (fun j _ => by unfold cwd; rw [if_neg (by omega), if_pos rfl, if_pos rfl])
  have g : ∀ x : Nat → Int, mn n (cwd (cwd A t x) (t + 1) x) = 0 := fun x => mn_cadj t h (fun j _ => by unfold cwd; rw [if_neg (by omega), if_pos rfl, if_pos rfl])
  have l1 : ∀ w x y : Nat → Int, mn n (cwd (cwd A t (fun j => x j + y j)) (t + 1) w) = mn n (cwd (cwd A t x) (t + 1) w) + mn n (cwd (cwd A t y) (t + 1) w) := by
    intro w x y
    have c : ∀ z : Nat → Int, mn n (cwd (cwd A t z) (t + 1) w) = mn n (cwd (cwd A (t + 1) w) t z) := fun z => mn_cg (fun j i _ _ => by
      unfold cwd
      by_cases c1 : i = t
      · subst c1; rw [if_neg (by omega), if_pos rfl, if_pos rfl]
      · by_cases c2 : i = t + 1
        · subst c2; rw [if_pos rfl, if_neg c1, if_pos rfl]
        · rw [if_neg c2, if_neg c1, if_neg c1, if_neg c2])
    rw [c, c, c]
    have := mn_col (n := n) (A := cwd A (t + 1) w) (t := t) (u := x) (v := y) (x := 1) (y := 1) (by omega)
    simp only [Int.one_mul] at this
    exact this
  have l2 : ∀ w x y : Nat → Int, mn n (cwd (cwd A t w) (t + 1) (fun j => x j + y j)) = mn n (cwd (cwd A t w) (t + 1) x) + mn n (cwd (cwd A t w) (t + 1) y) := by
    intro w x y
    have := mn_col (n := n) (A := cwd A t w) (t := t + 1) (u := x) (v := y) (x := 1) (y := 1) (by omega)
    simp only [Int.one_mul] at this
    exact this
  have e := f (fun i => A i t) (fun i => A i (t + 1))
  rw [l1, l2, l2, g, g] at e
  have e1 : mn n (cwd (cwd A t (fun i => A i t)) (t + 1) (fun i => A i (t + 1))) = mn n A := mn_cg (fun i j _ _ => by
    unfold cwd
    by_cases c2 : j = t + 1
    · rw [if_pos c2, c2]
    · rw [if_neg c2]
      by_cases c1 : j = t
      · rw [if_pos c1, c1]
      · rw [if_neg c1])
  have e2 : mn n (cwd (cwd A t (fun i => A i (t + 1))) (t + 1) (fun i => A i t)) = mn n (fun i j => A i (if j = t then t + 1 else if j = t + 1 then t else j)) := mn_cg (fun j i _ _ => by
    unfold cwd
    by_cases c1 : i = t
    · subst c1; rw [if_neg (by omega), if_pos rfl, if_pos rfl]
    · by_cases c2 : i = t + 1
      · subst c2; rw [if_pos rfl, if_neg c1, if_pos rfl]
      · rw [if_neg c2, if_neg c1, if_neg c1, if_neg c2])
  rw [e1, e2] at e
  omega
theorem mn_ceq : ∀ (d : Nat) {n : Nat} {A : Nat → Nat → Int} {s : Nat}, s + 1 + d < n → (∀ i, i < n → A i s = A i (s + 1 + d)) → mn n A = 0 := by
  intro d
  induction d with
  | zero => intro n A s h hA; exact mn_cadj s h hA
  | succ d ih =>
    intro n A s h hA
    have e := mn_csw (n := n) (A := A) (t := s + 1 + d) (by omega)
    have z := ih (n := n) (A := fun i j => A i (if j = s + 1 + d then s + 1 + d + 1 else if j = s + 1 + d + 1 then s + 1 + d else j)) (s := s) (by omega) (fun i hi => by
      show A i (if s = s + 1 + d then _ else if s = s + 1 + d + 1 then _ else s) = A i (if s + 1 + d = s + 1 + d then _ else _)
      rw [if_neg (show ¬ s = s + 1 + d by omega), if_neg (show ¬ s = s + 1 + d + 1 by omega), if_pos rfl]
      exact hA i hi)
    rw [z] at e
    omega
theorem mn_ceq2 {n : Nat} {A : Nat → Nat → Int} {s t : Nat} (hs : s < n) (ht : t < n) (hne : s ≠ t) (h : ∀ i, i < n → A i s = A i t) : mn n A = 0 := by
  by_cases c : s < t
  · obtain ⟨d, rfl⟩ : ∃ d, t = s + 1 + d := ⟨t - s - 1, by omega⟩
    exact mn_ceq d ht h
  · obtain ⟨d, rfl⟩ : ∃ d, s = t + 1 + d := ⟨s - t - 1, by omega⟩
    exact mn_ceq d hs (fun j hj => (h j hj).symm)
/-- multiples of one column are taken from all -/
theorem mn_cols {n : Nat} {R : Nat → Nat → Int} {w : Nat → Int} {q : Nat → Int} : mn n (fun i j => R i j - q j * w i) = mn n R - jsum n (fun t => q t * mn n (cwd R t w)) := by
  have aux : ∀ (t : Nat), t < n → ∀ m, m ≤ t → mn n (fun i j => if j < m then R i j - q j * w i else if j = t then w i else R i j) = mn n (cwd R t w) := by
    intro t ht m
    induction m with
    | zero => intro _; exact mn_cg (fun i j _ _ => by rw [if_neg (by omega)]; rfl)
    | succ m ih =>
      intro hm
      rw [← ih (by omega)]
      have l := mn_col (n := n) (A := fun i j => if j < m then R i j - q j * w i else if j = t then w i else R i j) (t := m) (u := fun i => R i m) (v := w) (x := 1) (y := - q m) (by omega)
      have z : mn n (cwd (fun i j => if j < m then R i j - q j * w i else if j = t then w i else R i j) m w) = 0 := mn_ceq2 (s := m) (t := t) (by omega) ht (by omega) (fun j _ => by unfold cwd; dsimp only; rw [if_pos rfl, if_neg (by omega), if_neg (by omega), if_pos rfl])
      have z2 : mn n (cwd (fun i j => if j < m then R i j - q j * w i else if j = t then w i else R i j) m (fun i => R i m)) = mn n (fun i j => if j < m then R i j - q j * w i else if j = t then w i else R i j) := cwd_same (fun j _ => by rw [if_neg (by omega), if_neg (by omega)])
      rw [z, z2] at l
      rw [Int.mul_zero, Int.add_zero, Int.one_mul] at l
      rw [← l]
      refine mn_cg (fun i j _ _ => ?_)
      unfold cwd
      dsimp only
      by_cases c : j = m
      · subst c; rw [if_pos (by omega), if_pos rfl]; grind
      · rw [if_neg c]
        by_cases c2 : j < m
        · rw [if_pos (by omega), if_pos c2]
        · rw [if_neg (by omega), if_neg c2]
  have main : ∀ m, m ≤ n → mn n (fun i j => if j < m then R i j - q j * w i else R i j) = mn n R - jsum m (fun t => q t * mn n (cwd R t w)) := by
    intro m
    induction m with
    | zero => intro _; rw [show jsum 0 (fun t => q t * mn n (cwd R t w)) = 0 from rfl, Int.sub_zero]; exact mn_cg (fun i j _ _ => by rw [if_neg (by omega)])
    | succ m ih =>
      intro hm
      have l := mn_col (n := n) (A := fun i j => if j < m then R i j - q j * w i else R i j) (t := m) (u := fun i => R i m) (v := w) (x := 1) (y := - q m) (by omega)
      have z : mn n (cwd (fun i j => if j < m then R i j - q j * w i else R i j) m w) = mn n (cwd R m w) := by
        rw [← aux m (by omega) m (Nat.le_refl _)]
        refine mn_cg (fun i j _ _ => ?_)
        unfold cwd
        dsimp only
        by_cases c : j = m
        · subst c; rw [if_pos rfl, if_neg (by omega), if_pos rfl]
        · rw [if_neg c]
          by_cases c2 : j < m
          · rw [if_pos c2, if_pos c2]
          · rw [if_neg c2, if_neg c2, if_neg c]
      have z2 : mn n (cwd (fun i j => if j < m then R i j - q j * w i else R i j) m (fun i => R i m)) = mn n (fun i j => if j < m then R i j - q j * w i else R i j) := cwd_same (fun j _ => by rw [if_neg (by omega)])
      rw [z, z2, ih (by omega)] at l
      rw [ds_succ]
      have : mn n (fun i j => if j < m + 1 then R i j - q j * w i else R i j) = mn n (cwd (fun i j => if j < m then R i j - q j * w i else R i j) m (fun i => 1 * R i m + - q m * w i)) := mn_cg (fun i j _ _ => by
        unfold cwd
        dsimp only
        by_cases c : j = m
        · subst c; rw [if_pos (by omega), if_pos rfl]; grind
        · rw [if_neg c]
          by_cases c2 : j < m
          · rw [if_pos (by omega), if_pos c2]
          · rw [if_neg (by omega), if_neg c2])
      rw [this, l]
      grind
  rw [← main n (Nat.le_refl _)]
  exact mn_cg (fun i j _ hj => by rw [if_pos hj])
/-! what divides all minors -/
def dv (k R K : Nat) (A : Nat → Nat → Int) (d : Int) : Prop := ∀ σ τ : Nat → Nat, (∀ a, a < k → σ a < R) → (∀ b, b < k → τ b < K) → d ∣ mn k (fun a b => A (σ a) (τ b))
theorem dvd_ds {n : Nat} {f : Nat → Int} {d : Int} (h : ∀ k, k < n → d ∣ f k) : d ∣ jsum n f := by
  induction n with
  | zero => exact Int.dvd_zero d
  | succ n ih => exact Int.dvd_add (ih (fun k hk => h k (by omega))) (h n (by omega))
theorem dv_cg {k R K : Nat} {A B : Nat → Nat → Int} {d : Int} (e : ∀ i j, i < R → j < K → A i j = B i j) (h : dv k R K A d) : dv k R K B d := by
  intro σ τ hs ht
  rw [← mn_cg (fun a b ha hb => e (σ a) (τ b) (hs a ha) (ht b hb))]
  exact h σ τ hs ht
theorem dv_rows {k R K b : Nat} {A : Nat → Nat → Int} {q : Nat → Int} {d : Int} (hb : b < R) (h : dv k R K A d) : dv k R K (fun i j => A i j - q i * A b j) d := by
  intro σ τ hs ht
  have e := mn_rows (n := k) (R := fun a c => A (σ a) (τ c)) (w := fun c => A b (τ c)) (q := fun a => q (σ a))
  rw [e]
  refine Int.dvd_sub (h σ τ hs ht) (dvd_ds (fun t htk => Int.dvd_trans ?_ (Int.dvd_mul_left _ _)))
  have := h (fun a => if a = t then b else σ a) τ (fun a ha => by split; exact hb; exact hs a ha) ht
  rw [mn_cg (B := rwd (fun a c => A (σ a) (τ c)) t (fun c => A b (τ c))) (fun a c _ _ => by unfold rwd; dsimp only; split <;> rfl)] at this
  exact this
theorem dv_cols {k R K b : Nat} {A : Nat → Nat → Int} {q : Nat → Int} {d : Int} (hb : b < K) (h : dv k R K A d) : dv k R K (fun i j => A i j - q j * A i b) d := by
  intro σ τ hs ht
  have e := mn_cols (n := k) (R := fun a c => A (σ a) (τ c)) (w := fun a => A (σ a) b) (q := fun c => q (τ c))
  rw [e]
  refine Int.dvd_sub (h σ τ hs ht) (dvd_ds (fun t htk => Int.dvd_trans ?_ (Int.dvd_mul_left _ _)))
  have := h σ (fun c => if c = t then b else τ c) hs (fun a ha => by split; exact hb; exact ht a ha)
  rw [mn_cg (B := cwd (fun a c => A (σ a) (τ c)) t (fun a => A (σ a) b)) (fun a c _ _ => by unfold cwd; dsimp only; split <;> rfl)] at this
  exact this
theorem dv_perm {k R K : Nat} {A : Nat → Nat → Int} {d : Int} {f g : Nat → Nat} (hf : ∀ i, i < R → f i < R) (hg : ∀ j, j < K → g j < K) (h : dv k R K A d) : dv k R K (fun i j => A (f i) (g j)) d :=
  fun σ τ hs ht => h (fun a => f (σ a)) (fun b => g (τ b)) (fun a ha => hf _ (hs a ha)) (fun b hb => hg _ (ht b hb))
