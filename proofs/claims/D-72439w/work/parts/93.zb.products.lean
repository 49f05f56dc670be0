/-! PLAIN LAW, 93.zb: minors of a product; a row that comes to nothing (no program in sight) -/
theorem dv_mul {k R K R' : Nat} {A B : Nat → Nat → Int} {x : Int} (h : dv k R K A x) : dv k R R' (fun i j => jsum K (fun c => A i c * B c j)) x := by
  intro σ τ hs ht
  have key : ∀ n t, t + n = k → ∀ ρ : Nat → Nat, (∀ b, b < t → ρ b < K) → x ∣ mn k (fun a b => if b < t then A (σ a) (ρ b) else jsum K (fun c => A (σ a) c * B c (τ b))) := by
    intro n
    induction n with
    | zero =>
      intro t e ρ hr
      rw [show mn k (fun a b => if b < t then A (σ a) (ρ b) else jsum K (fun c => A (σ a) c * B c (τ b))) = mn k (fun a b => A (σ a) (ρ b)) from mn_cg (fun a b _ hb => by rw [if_pos (by omega)])]
      exact h σ ρ hs (fun b hb => hr b (by omega))
    | succ n ih =>
      intro t e ρ hr
      have ht' : t < k := by omega
      rw [show mn k (fun a b => if b < t then A (σ a) (ρ b) else jsum K (fun c => A (σ a) c * B c (τ b))) = mn k (cwd (fun a b => if b < t then A (σ a) (ρ b) else jsum K (fun c => A (σ a) c * B c (τ b))) t (fun a => jsum K (fun c => B c (τ t) * A (σ a) c))) from mn_cg (fun a b _ _ => by
        unfold cwd
        by_cases c : b = t
        · subst c
          rw [if_neg (by omega), if_pos rfl]
          congr 1
          funext c
          exact Int.mul_comm _ _
        · rw [if_neg c])]
      rw [mn_colsum ht' (u := fun c a => A (σ a) c)]
      refine dvd_ds (fun c hc => Int.dvd_trans ?_ (Int.dvd_mul_left _ _))
      have := ih (t + 1) (by omega) (fun b => if b = t then c else ρ b) (fun b hb => by
        by_cases bt : b = t
        · rw [if_pos bt]; exact hc
        · rw [if_neg bt]; exact hr b (by omega))
      rwa [show mn k (fun a b => if b < t + 1 then A (σ a) (if b = t then c else ρ b) else jsum K (fun c => A (σ a) c * B c (τ b))) = mn k (cwd (fun a b => if b < t then A (σ a) (ρ b) else jsum K (fun c => A (σ a) c * B c (τ b))) t (fun a => A (σ a) c)) from mn_cg (fun a b _ _ => by
        unfold cwd
        by_cases bt : b = t
        · rw [if_pos (by omega), if_pos bt, if_pos bt]
        · by_cases bl : b < t
          · rw [if_pos (by omega), if_neg bt, if_neg bt]; dsimp only; rw [if_pos bl]
          · rw [if_neg (by omega), if_neg bt]; dsimp only; rw [if_neg bl])] at this
  have := key k 0 (by omega) (fun b => b) (fun b hb => by omega)
  rwa [show mn k (fun a b => if b < 0 then A (σ a) b else jsum K (fun c => A (σ a) c * B c (τ b))) = mn k (fun a b => jsum K (fun c => A (σ a) c * B c (τ b))) from mn_cg (fun a b _ _ => by rw [if_neg (by omega)])] at this
/-- no full rank: a row that comes to nothing; the least place that the proof needs: y i0 is a minor that is not 0 -/
theorem ker_of {R K r : Nat} {A : Nat → Nat → Int} {σ τ : Nat → Nat} {i0 : Nat} (h0 : ∀ σ τ : Nat → Nat, (∀ a, a < r + 1 → σ a < R) → (∀ b, b < r + 1 → τ b < K) → mn (r + 1) (fun a b => A (σ a) (τ b)) = 0) (hs : ∀ a, a < r → σ a < R) (ht : ∀ b, b < r → τ b < K) (hi : i0 < R) :
    ∀ j, j < K → jsum (r + 1) (fun a => (sgn a * mn r (fun x b => A ((fun z => if z = 0 then i0 else σ (z - 1)) (dk a x)) (τ b))) * A (if a = 0 then i0 else σ (a - 1)) j) = 0 := by
  intro j hj
  have := h0 (fun z => if z = 0 then i0 else σ (z - 1)) (fun b => if b = 0 then j else τ (b - 1)) (fun a ha => by
    by_cases c : a = 0
    · rw [if_pos c]; exact hi
    · rw [if_neg c]; exact hs _ (by omega)) (fun b hb => by
    by_cases c : b = 0
    · rw [if_pos c]; exact hj
    · rw [if_neg c]; exact ht _ (by omega))
  rw [mn_succ] at this
  rw [← this]
  congr 1
  funext a
  rw [if_pos rfl]
  have e : mn r (fun x b => A ((fun z => if z = 0 then i0 else σ (z - 1)) (dk a x)) (τ b)) = mn r (fun x b => A ((fun z => if z = 0 then i0 else σ (z - 1)) (dk a x)) (if b + 1 = 0 then j else τ (b + 1 - 1))) := mn_cg (fun x b _ _ => by
    rw [if_neg (show ¬ b + 1 = 0 by omega)]; rfl)
  rw [e]
  grind
theorem mn_rowsum {n m : Nat} {A : Nat → Nat → Int} {t : Nat} {w : Nat → Int} {u : Nat → Nat → Int} (ht : t < n) : mn n (rwd A t (fun j => jsum m (fun c => w c * u c j))) = jsum m (fun c => w c * mn n (rwd A t (u c))) := by
  induction m with
  | zero => exact mn_row0 ht (fun j _ => by unfold rwd; rw [if_pos rfl]; rfl)
  | succ m ih =>
    have e : (fun j => jsum (m + 1) (fun c => w c * u c j)) = (fun j => 1 * (jsum m (fun c => w c * u c j)) + w m * u m j) := by funext j; rw [ds_succ]; omega
    rw [e, mn_row ht, ih, ds_succ]; omega
/-- a sum of squares with weights is 0: all are 0 -/
theorem sq_0 {n : Nat} {w v : Nat → Int} (hw : ∀ c, c < n → 0 < w c) (h : jsum n (fun c => w c * (v c * v c)) = 0) : ∀ c, c < n → v c = 0 := by
  have nn : ∀ c, c < n → 0 ≤ w c * (v c * v c) := fun c hc => Int.mul_nonneg (Int.le_of_lt (hw c hc)) (by
    rcases Int.le_total 0 (v c) with h | h
    · exact Int.mul_nonneg h h
    · exact Int.mul_nonneg_of_nonpos_of_nonpos h h)
  have key : ∀ m, m ≤ n → 0 ≤ jsum m (fun c => w c * (v c * v c)) ∧ (jsum m (fun c => w c * (v c * v c)) = 0 → ∀ c, c < m → v c = 0) := by
    intro m
    induction m with
    | zero => intro _; exact ⟨Int.le_refl _, fun _ c hc => by omega⟩
    | succ m ih =>
      intro hm
      obtain ⟨i1, i2⟩ := ih (by omega)
      have n1 := nn m (by omega)
      rw [ds_succ]
      refine ⟨by omega, fun e c hc => ?_⟩
      by_cases cm : c = m
      · subst cm
        have : w c * (v c * v c) = 0 := by omega
        rcases Int.mul_eq_zero.mp this with h | h
        · have := hw c (by omega); omega
        · rcases Int.mul_eq_zero.mp h with h | h <;> exact h
      · exact i2 (by omega) c (by omega)
  exact (key n (Nat.le_refl n)).2 h
