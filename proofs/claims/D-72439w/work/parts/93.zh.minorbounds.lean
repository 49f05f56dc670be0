/-! PLAIN LAW, 93.zh: bounds of minors (no program in sight): products of tables, edges with two ends, columns with few numbers -/
def nsm : Nat → (Nat → Nat) → Nat
  | 0, _ => 0
  | n + 1, f => nsm n f + f n
def npr : Nat → (Nat → Nat) → Nat
  | 0, _ => 1
  | n + 1, f => npr n f * f n
theorem nsm_le {n : Nat} {f g : Nat → Nat} (h : ∀ k, k < n → f k ≤ g k) : nsm n f ≤ nsm n g := by
  induction n with
  | zero => exact Nat.le_refl _
  | succ n ih => exact Nat.add_le_add (ih fun k hk => h k (by omega)) (h n (by omega))
theorem nsm_mul {n x : Nat} {f : Nat → Nat} : nsm n (fun k => f k * x) = nsm n f * x := by
  induction n with
  | zero => exact (Nat.zero_mul _).symm
  | succ n ih => show nsm n _ + _ = (nsm n f + f n) * x; rw [ih, Nat.add_mul]
theorem nsm_add {n : Nat} {f g : Nat → Nat} : nsm n (fun k => f k + g k) = nsm n f + nsm n g := by
  induction n with
  | zero => rfl
  | succ n ih => show nsm n _ + (f n + g n) = (nsm n f + f n) + (nsm n g + g n); rw [ih]; omega
theorem nsm_0 {n : Nat} {f : Nat → Nat} (h : ∀ k, k < n → f k = 0) : nsm n f = 0 := by
  induction n with
  | zero => rfl
  | succ n ih => show nsm n f + f n = 0; rw [ih fun k hk => h k (by omega), h n (by omega)]
theorem nsm_c {n x : Nat} {f : Nat → Nat} (h : ∀ k, k < n → f k ≤ x) : nsm n f ≤ n * x := by
  induction n with
  | zero => exact Nat.zero_le _
  | succ n ih => have := ih fun k hk => h k (by omega); have := h n (by omega); show nsm n f + f n ≤ _; rw [Nat.succ_mul]; omega
theorem nsm_swap {n m : Nat} {f : Nat → Nat → Nat} : nsm n (fun i => nsm m (fun j => f i j)) = nsm m (fun j => nsm n (fun i => f i j)) := by
  induction n with
  | zero => exact (nsm_0 fun _ _ => rfl).symm
  | succ n ih =>
    show nsm n _ + nsm m (f n) = _
    rw [ih, ← nsm_add]
    rfl
theorem nsm_1 {n : Nat} {f : Nat → Nat} (h1 : ∀ k, k < n → f k ≤ 1) (h : ∀ a b, a < n → b < n → f a ≠ 0 → f b ≠ 0 → a = b) : nsm n f ≤ 1 := by
  induction n with
  | zero => exact Nat.zero_le _
  | succ n ih =>
    show nsm n f + f n ≤ 1
    by_cases c : f n = 0
    · rw [c]; exact ih (fun k hk => h1 k (by omega)) (fun a b ha hb => h a b (by omega) (by omega))
    · have := nsm_0 (n := n) (f := f) fun k hk => Classical.byContradiction fun y => by
        have := h k n (by omega) (by omega) y c
        omega
      have := h1 n (by omega)
      omega
theorem ds_nsm {n : Nat} {f : Nat → Int} : (jsum n f).natAbs ≤ nsm n (fun k => (f k).natAbs) := by
  induction n with
  | zero => exact Nat.le_refl _
  | succ n ih =>
    rw [ds_succ]
    show _ ≤ nsm n (fun k => (f k).natAbs) + (f n).natAbs
    have := Int.natAbs_add_le (jsum n f) (f n)
    omega
theorem npr_le {n : Nat} {f g : Nat → Nat} (h : ∀ k, k < n → f k ≤ g k) : npr n f ≤ npr n g := by
  induction n with
  | zero => exact Nat.le_refl _
  | succ n ih => exact Nat.mul_le_mul (ih fun k hk => h k (by omega)) (h n (by omega))
theorem npr_c {n x : Nat} : npr n (fun _ => x) = x ^ n := by
  induction n with
  | zero => rfl
  | succ n ih => show npr n _ * x = _; rw [ih, Nat.pow_succ]
theorem mn_mulB {k K : Nat} {A B : Nat → Nat → Int} {S : Nat → Nat} {Mx : Nat} (hS : ∀ b, b < k → nsm K (fun c => (B c b).natAbs) ≤ S b) (hA : ∀ τ : Nat → Nat, (∀ b, b < k → τ b < K) → (mn k (fun a b => A a (τ b))).natAbs ≤ Mx) : (mn k (fun a b => jsum K (fun c => A a c * B c b))).natAbs ≤ npr k S * Mx := by
  have aux : ∀ t, t ≤ k → ∀ τ : Nat → Nat, (∀ b, t ≤ b → b < k → τ b < K) → (mn k (fun a b => if b < t then jsum K (fun c => A a c * B c b) else A a (τ b))).natAbs ≤ npr t S * Mx := by
    intro t
    induction t with
    | zero =>
      intro _ τ hτ
      rw [mn_cg (B := fun a b => A a (τ b)) (fun a b _ _ => by rw [if_neg (Nat.not_lt_zero b)])]
      show _ ≤ 1 * Mx
      rw [Nat.one_mul]
      exact hA τ fun b hb => hτ b (Nat.zero_le _) hb
    | succ t ih =>
      intro ht τ hτ
      have e : mn k (fun a b => if b < t + 1 then jsum K (fun c => A a c * B c b) else A a (τ b)) = mn k (cwd (fun a b => if b < t then jsum K (fun c => A a c * B c b) else A a (τ b)) t (fun a => jsum K (fun c => B c t * A a c))) := by
        refine mn_cg fun a b _ _ => ?_
        unfold cwd
        dsimp only
        by_cases c : b = t
        · rw [if_pos c, if_pos (by omega), c]
          exact jsum_cg fun x _ => Int.mul_comm _ _
        · rw [if_neg c]
          by_cases c2 : b < t
          · rw [if_pos c2, if_pos (by omega)]
          · rw [if_neg c2, if_neg (by omega)]
      rw [e, mn_colsum (by omega)]
      refine Nat.le_trans ds_nsm ?_
      have e2 : nsm K (fun c => (B c t * mn k (cwd (fun a b => if b < t then jsum K (fun c => A a c * B c b) else A a (τ b)) t (fun a => A a c))).natAbs) ≤ nsm K (fun c => (B c t).natAbs * (npr t S * Mx)) := by
        refine nsm_le fun c hc => ?_
        rw [Int.natAbs_mul]
        refine Nat.mul_le_mul_left _ ?_
        rw [mn_cg (B := fun a b => if b < t then jsum K (fun c => A a c * B c b) else A a ((fun b => if b = t then c else τ b) b)) (fun a b _ _ => by
          unfold cwd
          dsimp only
          by_cases c1 : b = t
          · rw [if_pos c1, if_neg (by omega), if_pos c1]
          · rw [if_neg c1, if_neg c1])]
        refine ih (by omega) _ fun b b1 b2 => ?_
        by_cases c1 : b = t
        · rw [if_pos c1]; exact hc
        · rw [if_neg c1]; exact hτ b (by omega) b2
      refine Nat.le_trans e2 ?_
      rw [nsm_mul]
      show _ ≤ npr t S * S t * Mx
      have := Nat.mul_le_mul_right (npr t S * Mx) (hS t (by omega))
      refine Nat.le_trans this (Nat.le_of_eq ?_)
      rw [Nat.mul_comm (npr t S) (S t), Nat.mul_assoc]
  have := aux k (Nat.le_refl k) (fun _ => 0) (fun b b1 b2 => by omega)
  rwa [mn_cg (B := fun a b => jsum K (fun c => A a c * B c b)) (fun a b _ hb => by rw [if_pos hb])] at this
/-- columns with an end and a start among the rows -/
def inc2 (u v : Nat → Nat) : Nat → Nat → Int := fun a b => (if v b = a then 1 else 0) - (if u b = a then 1 else 0)
def rlb (x k y : Nat) : Nat := if y = x then k else if y < x then y else y - 1
theorem rlb_iff {x k y a : Nat} (ha : a < k) : (rlb x k y = a) ↔ (y = dk x a) := by
  unfold rlb dk
  by_cases c : y = x
  · rw [if_pos c]; split <;> omega
  · rw [if_neg c]; split <;> split <;> omega
theorem mn_onerow {n v : Nat} {A : Nat → Nat → Int} (hv : v < n + 1) (h : ∀ i, i < n + 1 → i ≠ v → A i 0 = 0) : mn (n + 1) A = sgn v * (A v 0 * mn n (fun a b => A (dk v a) (b + 1))) := by
  rw [mn_succ]
  exact ds_one hv (fun i hi iv => by rw [h i hi iv, Int.zero_mul, Int.mul_zero])
theorem sgn_abs {i : Nat} : (sgn i).natAbs = 1 := by unfold sgn; split <;> rfl
theorem mn_inc : ∀ (k : Nat) (u v : Nat → Nat), (mn k (inc2 u v)).natAbs ≤ 1 := by
  intro k
  induction k with
  | zero => intro u v; exact Nat.le_refl 1
  | succ k ih =>
    intro u v
    -- the rows but x, renamed
    have low : ∀ (x : Nat) (u v : Nat → Nat), (mn k (fun a b => inc2 u v (dk x a) (b + 1))).natAbs ≤ 1 := by
      intro x u v
      rw [mn_cg (B := inc2 (fun b => rlb x k (u (b + 1))) (fun b => rlb x k (v (b + 1)))) (fun a b ha _ => by
        unfold inc2
        dsimp only
        simp only [rlb_iff ha])]
      exact ih _ _
    have one : ∀ (x : Nat) (A : Nat → Nat → Int), x < k + 1 → (∀ i, i < k + 1 → i ≠ x → A i 0 = 0) → (A x 0).natAbs ≤ 1 → (mn k (fun a b => A (dk x a) (b + 1))).natAbs ≤ 1 → (mn (k + 1) A).natAbs ≤ 1 := by
      intro x A hx h0 h1 h2
      rw [mn_onerow hx h0, Int.natAbs_mul, Int.natAbs_mul, sgn_abs, Nat.one_mul]
      exact Nat.le_trans (Nat.mul_le_mul h1 h2) (Nat.le_refl 1)
    by_cases e : v 0 = u 0
    · rw [mn_succ, ds_0 (fun i _ => by unfold inc2; rw [e, Int.sub_self, Int.zero_mul, Int.mul_zero])]
      exact Nat.zero_le 1
    · by_cases hv : v 0 < k + 1
      · by_cases hu : u 0 < k + 1
        · -- the row of v to the row of u
          rw [← mn_addrow (q := fun i => if i = u 0 then -1 else 0) hv (by rw [if_neg e])]
          refine one (v 0) _ hv (fun i hi iv => ?_) ?_ ?_
          · unfold inc2
            have x1 : ¬ v 0 = i := fun y => iv y.symm
            have x2 : ¬ u 0 = v 0 := fun y => e y.symm
            by_cases c : i = u 0
            · have c' : u 0 = i := c.symm
              rw [if_neg x1, if_pos c', if_pos c, if_neg x2, if_pos rfl]; decide
            · have c' : ¬ u 0 = i := fun y => c y.symm
              rw [if_neg x1, if_neg c', if_neg c, if_neg x2, if_pos rfl]; decide
          · unfold inc2
            have x2 : ¬ u 0 = v 0 := fun y => e y.symm
            rw [if_pos rfl, if_neg x2, if_neg e]; decide
          · have := low (v 0) (fun b => if u b = v 0 then u 0 else u b) (fun b => if v b = v 0 then u 0 else v b)
            rw [mn_cg (B := fun a b => inc2 (fun b => if u b = v 0 then u 0 else u b) (fun b => if v b = v 0 then u 0 else v b) (dk (v 0) a) (b + 1)) (fun a b _ _ => ?_)]
            · exact this
            · have d := @dk_ne (v 0) a
              generalize dk (v 0) a = z at d ⊢
              unfold inc2
              dsimp only
              have s1 : ∀ w : Nat, (if (if w = v 0 then u 0 else w) = z then (1 : Int) else 0) = (if w = z then 1 else 0) + (if z = u 0 then (if w = v 0 then 1 else 0) else 0) := by
                intro w
                by_cases c1 : w = v 0
                · rw [if_pos c1, if_neg (show ¬ w = z by omega), if_pos c1]
                  by_cases c2 : z = u 0
                  · rw [if_pos c2, if_pos c2.symm]; decide
                  · rw [if_neg c2, if_neg (fun y => c2 y.symm)]; decide
                · rw [if_neg c1, if_neg c1]
                  split <;> split <;> rfl
              rw [s1, s1]
              by_cases c2 : z = u 0
              · rw [if_pos c2, if_pos c2, if_pos c2]; omega
              · rw [if_neg c2, if_neg c2, if_neg c2]; omega
        · refine one (v 0) _ hv (fun i hi iv => ?_) ?_ (low (v 0) u v)
          · unfold inc2
            rw [if_neg (fun y => iv y.symm), if_neg (by omega)]; rfl
          · unfold inc2
            rw [if_pos rfl, if_neg (by omega)]; decide
      · by_cases hu : u 0 < k + 1
        · refine one (u 0) _ hu (fun i hi iv => ?_) ?_ (low (u 0) u v)
          · unfold inc2
            rw [if_neg (show ¬ v 0 = i by omega), if_neg (fun y => iv y.symm)]; rfl
          · unfold inc2
            rw [if_neg e, if_pos rfl]; decide
        · rw [mn_succ, ds_0 (fun i hi => by unfold inc2; rw [if_neg (by omega), if_neg (by omega), Int.sub_self, Int.zero_mul, Int.mul_zero])]
          exact Nat.zero_le 1
theorem mn_colL1 {k : Nat} {A : Nat → Nat → Int} {S : Nat → Nat} (hS : ∀ b, b < k → nsm k (fun a => (A a b).natAbs) ≤ S b) : (mn k A).natAbs ≤ npr k S := by
  have := mn_mulB (k := k) (K := k) (A := fun a c => if c = a then 1 else 0) (B := A) (Mx := 1) hS (fun τ hτ => by
    rw [mn_cg (B := inc2 (fun _ => k) τ) (fun a b ha _ => by unfold inc2; rw [if_neg (show ¬ k = a by omega), Int.sub_zero])]
    exact mn_inc k _ _)
  rw [Nat.mul_one, mn_cg (B := A) (fun a b ha _ => by
    rw [ds_one ha (fun c _ ca => by rw [if_neg ca, Int.zero_mul]), if_pos rfl, Int.one_mul])] at this
  exact this
section BN
variable {C : CX}
theorem idx_ex {k : Nat} {σ t : Nat → Nat} (h : ij k σ) : ∃ v : Nat → Nat, ∀ a b, a < k → (v b = a ↔ t b = σ a) := by
  refine ⟨fun b => @dite Nat (∃ a, a < k ∧ t b = σ a) (Classical.propDecidable _) (fun h => Classical.choose h) (fun _ => k), fun a b ha => ?_⟩
  dsimp only
  by_cases c : ∃ a, a < k ∧ t b = σ a
  · rw [dif_pos c]
    have hc := Classical.choose_spec c
    constructor
    · intro y; rw [← y]; exact hc.2
    · intro y; exact h _ _ hc.1 ha (hc.2.symm.trans y)
  · rw [dif_neg c]
    constructor
    · intro y; omega
    · intro y; exact absurd ⟨a, ha, y⟩ c
/-- all minors of table 1 -/
theorem mn_one {k : Nat} {σ τ : Nat → Nat} : (mn k (fun a b => cOne C (σ a) (τ b))).natAbs ≤ 1 := by
  by_cases h : ij k σ
  · obtain ⟨v, hv⟩ := idx_ex (t := fun b => cEd C (τ b) 1) h
    obtain ⟨u, hu⟩ := idx_ex (t := fun b => cEd C (τ b) 0) h
    rw [mn_cg (B := inc2 u v) (fun a b ha _ => by
      unfold cOne inc2
      simp only [hv a b ha, hu a b ha])]
    exact mn_inc k u v
  · rw [mn_nij (A := cOne C) h]
    exact Nat.zero_le 1
theorem lSg_1 {k : Nat} {σ : Nat → Nat} {L : Int} (h : ij k σ) : nsm k (fun a => (lSg L (σ a)).natAbs) ≤ 1 := by
  refine nsm_1 (fun a _ => ?_) (fun a b ha hb h1 h2 => h a b ha hb ?_)
  · have := lSg_le L (σ a); omega
  · unfold lSg at h1 h2
    split at h1 <;> split at h2 <;> (try split at h1) <;> (try split at h2) <;> omega
theorem two_mass (hW : jWf C) {k f : Nat} {σ : Nat → Nat} (h : ij k σ) (hf : f < cF C) : nsm k (fun a => (cTwo C (σ a) f).natAbs) ≤ 4 := by
  have h1 : nsm k (fun a => (cTwo C (σ a) f).natAbs) ≤ nsm k (fun a => nsm (cFl C f) (fun l => (lSg (cLt C f l) (σ a)).natAbs)) := nsm_le fun a _ => ds_nsm
  rw [nsm_swap] at h1
  have h2 : nsm (cFl C f) (fun l => nsm k (fun a => (lSg (cLt C f l) (σ a)).natAbs)) ≤ cFl C f * 1 := nsm_c fun l _ => lSg_1 h
  have := (hW.2.2.2.2.1 f hf).2.2.2.1
  omega
/-- all minors of table 2 -/
theorem mn_two (hW : jWf C) {k : Nat} {σ τ : Nat → Nat} (hτ : ∀ b, b < k → τ b < cF C) : (mn k (fun a b => cTwo C (σ a) (τ b))).natAbs ≤ 4 ^ k := by
  by_cases h : ij k σ
  · have := mn_colL1 (k := k) (A := fun a b => cTwo C (σ a) (τ b)) (S := fun _ => 4) (fun b hb => two_mass hW h (hτ b hb))
    rw [npr_c] at this
    exact this
  · rw [mn_nij (A := cTwo C) h]
    exact Nat.zero_le _
end BN
