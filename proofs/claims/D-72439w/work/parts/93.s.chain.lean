/-! PLAIN LAW, 93.s: a row of numbers becomes a row of divisors (no program in sight) -/
theorem bezN : ∀ (y x : Nat), ∃ a b : Int, ((Nat.gcd x y : Nat) : Int) = a * x + b * y := by
  intro y
  induction y using Nat.strongRecOn with
  | _ y ih =>
    intro x
    by_cases c : y = 0
    · subst c
      exact ⟨1, 0, by rw [Nat.gcd_zero_right]; omega⟩
    · obtain ⟨a, b, e⟩ := ih (x % y) (Nat.mod_lt x (Nat.pos_of_ne_zero c)) y
      refine ⟨b, a - b * ((x / y : Nat) : Int), ?_⟩
      have h1 : Nat.gcd x y = Nat.gcd y (x % y) := by rw [Nat.gcd_comm x y, Nat.gcd_rec y x, Nat.gcd_comm]
      have h2 : (x : Int) = (y : Int) * ((x / y : Nat) : Int) + ((x % y : Nat) : Int) := by
        have := Nat.div_add_mod x y
        have h3 : ((y * (x / y) + x % y : Nat) : Int) = (x : Int) := by rw [this]
        rw [← h3, Int.natCast_add, Int.natCast_mul]
      rw [h1, e]
      generalize ((x / y : Nat) : Int) = q at *
      generalize ((x % y : Nat) : Int) = w at *
      rw [h2]
      grind
theorem pr_upI {d : Nat → Int} {i : Nat} {v : Int} : ∀ k, i < k → pr k (upI d i v) * d i = pr k d * v := by
  intro k
  induction k with
  | zero => intro h; omega
  | succ k ih =>
    intro h
    rw [pr_succ, pr_succ]
    by_cases c : k = i
    · subst c
      have : pr k (upI d k v) = pr k d := pr_cg (fun a ha => by unfold upI; rw [if_neg (by omega)])
      rw [this]
      unfold upI
      rw [if_pos rfl]
      grind
    · have e := ih (by omega)
      have : upI d i v k = d k := by unfold upI; rw [if_neg c]
      rw [this]
      grind
theorem inc_id {k : Nat} {σ : Nat → Nat} (h : inc k σ) (hs : ∀ a, a < k → σ a < k) : ∀ a, a < k → σ a = a := by
  have lo : ∀ a, a < k → a ≤ σ a := by
    intro a
    induction a with
    | zero => intro _; omega
    | succ a ih => intro ha; have := ih (by omega); have := h a ha; omega
  have hi : ∀ d a, a + d + 1 = k → σ a + d < k := by
    intro d
    induction d with
    | zero => intro a ha; exact hs a (by omega)
    | succ d ih => intro a ha; have := ih (a + 1) (by omega); have := h a (by omega); omega
  intro a ha
  have := lo a ha
  have := hi (k - 1 - a) a (by omega)
  omega
theorem dvP_top {k : Nat} {d : Nat → Int} {x : Int} : dvP k k d x ↔ x ∣ pr k d := by
  rw [← dv_dg (Nat.le_refl k) (Nat.le_refl k), dv_inc]
  have e : ∀ σ τ : Nat → Nat, (∀ a, a < k → σ a = a) → (∀ a, a < k → τ a = a) → mn k (fun a b => dgM k d (σ a) (τ b)) = pr k d := by
    intro σ τ hs ht
    rw [show mn k (fun a b => dgM k d (σ a) (τ b)) = mn k (fun a b => dgM k d ((fun z => z) a) ((fun z => z) b)) from mn_cg (fun i j hi hj => by dsimp only; rw [hs i hi, ht j hj])]
    exact mn_dgp (s := fun z => z) (fun a b _ _ h => h) (fun a h => h)
  constructor
  · intro h
    have := h (fun a => a) (fun a => a) (fun a _ => by show a < a + 1; omega) (fun a h => h) (fun a _ => by show a < a + 1; omega) (fun a h => h)
    rwa [e _ _ (fun _ _ => rfl) (fun _ _ => rfl)] at this
  · intro h σ τ s1 s2 t1 t2
    rw [e _ _ (inc_id s1 s2) (inc_id t1 t2)]
    exact h
/-- alike: positive, of one product, of the same divisors -/
def glR (k : Nat) (a0 a : Nat → Int) : Prop := (∀ x, x < k → 0 < a x) ∧ pr k a = pr k a0 ∧ ∀ q x, dvP q k a x ↔ dvP q k a0 x
def glI (k i j : Nat) (a : Nat → Int) : Prop := (∀ x y, x < i → x ≤ y → y < k → a x ∣ a y) ∧ ∀ y, i ≤ y → y < j → y < k → a i ∣ a y
theorem gl_step {k i j : Nat} {a0 a : Nat → Int} (hi : i < j) (hj : j < k) (h : glR k a0 a) (h2 : glI k i j a) :
    glR k a0 (upI (upI a i ((Int.gcd (a i) (a j) : Nat) : Int)) j (a i / ((Int.gcd (a i) (a j) : Nat) : Int) * a j)) ∧ glI k i (j + 1) (upI (upI a i ((Int.gcd (a i) (a j) : Nat) : Int)) j (a i / ((Int.gcd (a i) (a j) : Nat) : Int) * a j)) := by
  obtain ⟨p1, p2, p3⟩ := h
  obtain ⟨c1, c2⟩ := h2
  have ai := p1 i (by omega)
  have aj := p1 j hj
  have g1 : ((Int.gcd (a i) (a j) : Nat) : Int) ∣ a i := Int.gcd_dvd_left ..
  have g2 : ((Int.gcd (a i) (a j) : Nat) : Int) ∣ a j := Int.gcd_dvd_right ..
  have g3 : ∀ z, z ∣ a i → z ∣ a j → z ∣ ((Int.gcd (a i) (a j) : Nat) : Int) := fun z h1 h2 => Int.dvd_coe_gcd h1 h2
  have gp : (0 : Int) < ((Int.gcd (a i) (a j) : Nat) : Int) := by
    have : 0 < Int.gcd (a i) (a j) := Int.gcd_pos_of_ne_zero_left _ (by omega)
    omega
  have gb : ∃ u v, ((Int.gcd (a i) (a j) : Nat) : Int) = u * a i + v * a j := by
    obtain ⟨u, v, e⟩ := bezN (a j).natAbs (a i).natAbs
    have e1 : ((a i).natAbs : Int) = a i := by omega
    have e2 : ((a j).natAbs : Int) = a j := by omega
    rw [e1, e2] at e
    exact ⟨u, v, e⟩
  generalize ((Int.gcd (a i) (a j) : Nat) : Int) = g at *
  have hu : a i / g * g = a i := Int.ediv_mul_cancel g1
  have up : 0 < a i / g := by
    rcases Int.lt_or_le 0 (a i / g) with c | c
    · exact c
    · have : a i / g * g ≤ 0 := Int.mul_nonpos_of_nonpos_of_nonneg c (Int.le_of_lt gp)
      omega
  obtain ⟨v, hv⟩ := g2
  have hn : i ≠ j := by omega
  generalize hq : a i / g = u at *
  have lp : 0 < u * a j := Int.mul_pos up aj
  have fi : upI (upI a i g) j (u * a j) i = g := by unfold upI; rw [if_neg hn, if_pos rfl]
  have fj : upI (upI a i g) j (u * a j) j = u * a j := by unfold upI; rw [if_pos rfl]
  have fo : ∀ m, m ≠ i → m ≠ j → upI (upI a i g) j (u * a j) m = a m := fun m x y => by unfold upI; rw [if_neg y, if_neg x]
  refine ⟨⟨fun x hx => ?_, ?_, fun q x => (dvP_gl (by omega) hj hn hu.symm (by rw [hv, Int.mul_comm]) rfl gb).trans (p3 q x)⟩, fun x y hx hxy hy => ?_, fun y h1 h2 hy => ?_⟩
  · by_cases xj : x = j
    · subst xj; rw [fj]; exact lp
    · by_cases xi : x = i
      · subst xi; rw [fi]; exact gp
      · rw [fo x xi xj]; exact p1 x hx
  · have e1 := pr_upI (d := upI a i g) (i := j) (v := u * a j) k hj
    have e2 := pr_upI (d := a) (i := i) (v := g) k (by omega)
    have e3 : upI a i g j = a j := by unfold upI; rw [if_neg (by omega)]
    rw [e3] at e1
    have e4 : pr k (upI (upI a i g) j (u * a j)) * (a j * a i) = pr k a * (a j * a i) := by
      rw [← Int.mul_assoc, e1, show pr k (upI a i g) * (u * a j) * a i = (pr k (upI a i g) * a i) * (u * a j) by grind, e2, ← hu]
      grind
    have := Int.eq_of_mul_eq_mul_right (show a j * a i ≠ 0 from Int.ne_of_gt (Int.mul_pos aj ai)) e4
    rw [this, p2]
  · rw [fo x (by omega) (by omega)]
    by_cases yj : y = j
    · subst yj; rw [fj]; exact Int.dvd_trans (c1 x y hx hxy hy) (Int.dvd_mul_left ..)
    · by_cases yi : y = i
      · subst yi; rw [fi]; exact g3 _ (c1 x y hx hxy hy) (c1 x j hx (by omega) hj)
      · rw [fo y yi yj]; exact c1 x y hx hxy hy
  · rw [fi]
    by_cases yj : y = j
    · subst yj; rw [fj, hv]; exact Int.dvd_trans (Int.dvd_mul_right g v) (Int.dvd_mul_left ..)
    · by_cases yi : y = i
      · subst yi; rw [fi]; exact Int.dvd_refl _
      · rw [fo y yi yj]; exact Int.dvd_trans g1 (c2 y h1 (by omega) hy)
theorem gl_next {k i : Nat} {a : Nat → Int} (h : glI k i k a) : glI k (i + 1) (i + 1 + 1) a := by
  refine ⟨fun x y hx hxy hy => ?_, fun y h1 h2 _ => ?_⟩
  · by_cases xi : x = i
    · subst xi; exact h.2 y hxy hy hy
    · exact h.1 x y (by omega) hxy hy
  · obtain rfl : y = i + 1 := by omega
    exact Int.dvd_refl _
theorem pr_pos {k : Nat} {a : Nat → Int} (h : ∀ x, x < k → 0 < a x) : 0 < pr k a := by
  induction k with
  | zero => exact Int.one_pos
  | succ k ih => rw [pr_succ]; exact Int.mul_pos (ih (fun x hx => h x (by omega))) (h k (by omega))
/-- what a row of positive numbers divides: no part is greater than the product -/
theorem pr_part {k : Nat} {a : Nat → Int} (h : ∀ x, x < k → 0 < a x) : ∀ d m, m + d = k → pr m a ≤ pr k a := by
  intro d
  induction d with
  | zero => intro m e; obtain rfl : m = k := by omega
            exact Int.le_refl _
  | succ d ih =>
    intro m e
    have h1 := ih (m + 1) (by omega)
    rw [pr_succ] at h1
    have h2 : 0 < pr m a := pr_pos (fun x hx => h x (by omega))
    have h3 := h m (by omega)
    have : pr m a * 1 ≤ pr m a * a m := Int.mul_le_mul_of_nonneg_left (by omega) (by omega)
    omega
theorem pr_two {k i j : Nat} {a : Nat → Int} (h : ∀ x, x < k → 0 < a x) (hij : i < j) (hj : j < k) : a i * a j ≤ pr k a := by
  have h1 := pr_part h (k - (j + 1)) (j + 1) (by omega)
  rw [pr_succ] at h1
  have h2 := pr_part (k := j) (fun x hx => h x (by omega)) (j - (i + 1)) (i + 1) (by omega)
  rw [pr_succ] at h2
  have h3 : 0 < pr i a := pr_pos (fun x hx => h x (by omega))
  have ai := h i (by omega)
  have h4 : 1 * a i ≤ pr i a * a i := Int.mul_le_mul_of_nonneg_right (by omega) (by omega)
  have h5 : a i * a j ≤ pr j a * a j := Int.mul_le_mul_of_nonneg_right (by omega) (by have := h j hj; omega)
  omega
theorem pr_one {k i : Nat} {a : Nat → Int} (h : ∀ x, x < k → 0 < a x) (hi : i < k) : a i ≤ pr k a := by
  have h1 := pr_part h (k - (i + 1)) (i + 1) (by omega)
  rw [pr_succ] at h1
  have h3 : 0 < pr i a := pr_pos (fun x hx => h x (by omega))
  have ai := h i (by omega)
  have h4 : 1 * a i ≤ pr i a * a i := Int.mul_le_mul_of_nonneg_right (by omega) (by omega)
  omega
